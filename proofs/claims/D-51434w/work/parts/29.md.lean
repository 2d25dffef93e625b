/-! the reference, walked: printed by wip gen/model.py -/
set_option maxRecDepth 100000
noncomputable def X6_begins_h2 (n : Nat) (a1 : Int32) (a2 : Int32) (rec2 : Int32 × jM → Option (Unit × jM)) (q2 : Int32 × jM) : Option (Unit × jM) :=
  let x3_2 := q2.1; let B2 := q2.2; if 525 ≤ x3_2 then ((mS B2 0 0 a1).bind fun M28 => (mS M28 0 1 a2).bind fun M35 => (mS M35 0 6 3).bind fun M43 => some ((), M43)) else ((mS B2 0 x3_2 0).bind fun M15 => rec2 ((x3_2 + 1), M15))
noncomputable def X6_begins (n : Nat) (M : jM) (a1 : Int32) (a2 : Int32) : Option (Unit × jM) :=
  jloop (X6_begins_h2 n a1 a2) n (0, M)
set_option maxHeartbeats 4000000 in
set_option maxRecDepth 100000 in
theorem ct_X6_begins (l : Launch) {G : jG} {mo : Nat} {A : Nat → Nat} (hm : mOK G mo A) (σ : jH) (n : Nat) (M : jM) (a1 : Int32) (a2 : Int32) : jCt l G yX6_begins (ws_ yX6_begins cX6_begins 4 none) 0 0 jrV [.ref mo, .int a1, .int a2] (mH mo A σ M) (mup mo A σ (X6_begins n M a1 a2)) := by
  refine jCt.wm (lv := [(0, .ref mo), (1, .int a1), (2, .int a2)]) (plainFor_of_name (by decide)) (Nat.le_of_ble_eq_true rfl) rfl ?_
  intro t p e s m args below meth c ls X hr hnm hl
  have X : jCx p c cX6_begins 4 s m args RX6 G meth := X
  have L2 : ∀ (n2 : Nat) (x3_2 : Int32) (B2 : jM) (ls : Array Slot), lv_has ls 4 [(0, .ref mo), (1, .int a1), (2, .int a2), (3, .int x3_2)] → jGo l G 0 0 (mH mo A σ M) (fun r : Unit × jM => mH mo A σ r.2) (fun t => jrV t.1) t p e s m args below meth c (jloop (X6_begins_h2 n a1 a2) n2 (x3_2, B2)) (mH mo A σ B2) (F0 m 2 ls []) := by
    intro n2
    induction n2 with
    | zero => intro x3_2 B2 ls hl; exact J.nil_
    | succ n2 ih2 =>
      intro x3_2 B2 ls hl
      refine J.eq (jloop_s _ _ _) ?_
      dsimp only [X6_begins_h2]
      refine J.pu (fun _ _ _ _ k => lv_iload_n X.1.1 X.1.2.1 dX6_begins_2 rfl (lv_at hl 3 rfl) k) ?_
      refine J.pu (fun _ _ _ _ k => lv_sipush (v := 525) X.1.1 X.1.2.1 dX6_begins_3 (by decide) k) ?_
      refine J.br (fun _ _ _ _ ka kb => lv_icmp_ge (tgt := 22) X.1.1 X.1.2.1 dX6_begins_6 (by decide) ka kb) (fun c6 => ?_) (fun c6 => ?_)
      · refine J.pu (fun _ _ _ _ k => lv_aload_n X.1.1 X.1.2.1 dX6_begins_22 rfl (lv_at hl 0 rfl) k) ?_
        refine J.mgA (k := 0) X (by decide) q2730 rfl rfl dX6_begins_23 ?_
        refine J.pu (fun _ _ _ _ k => lv_iconst (v := 0) X.1.1 X.1.2.1 dX6_begins_26 (by decide) k) ?_
        refine J.pu (fun _ _ _ _ k => lv_iload_n X.1.1 X.1.2.1 dX6_begins_27 rfl (lv_at hl 1 rfl) k) ?_
        refine J.mst X hm (by decide) dX6_begins_28 (fun M28 h28 => ?_)
        refine J.pu (fun _ _ _ _ k => lv_aload_n X.1.1 X.1.2.1 dX6_begins_29 rfl (lv_at hl 0 rfl) k) ?_
        refine J.mgA (k := 0) X (by decide) q2730 rfl rfl dX6_begins_30 ?_
        refine J.pu (fun _ _ _ _ k => lv_iconst (v := 1) X.1.1 X.1.2.1 dX6_begins_33 (by decide) k) ?_
        refine J.pu (fun _ _ _ _ k => lv_iload_n X.1.1 X.1.2.1 dX6_begins_34 rfl (lv_at hl 2 rfl) k) ?_
        refine J.mst X hm (by decide) dX6_begins_35 (fun M35 h35 => ?_)
        refine J.pu (fun _ _ _ _ k => lv_aload_n X.1.1 X.1.2.1 dX6_begins_36 rfl (lv_at hl 0 rfl) k) ?_
        refine J.mgA (k := 0) X (by decide) q2730 rfl rfl dX6_begins_37 ?_
        refine J.pu (fun _ _ _ _ k => lv_bipush (v := 6) X.1.1 X.1.2.1 dX6_begins_40 (by decide) k) ?_
        refine J.pu (fun _ _ _ _ k => lv_iconst (v := 3) X.1.1 X.1.2.1 dX6_begins_42 (by decide) k) ?_
        refine J.mst X hm (by decide) dX6_begins_43 (fun M43 h43 => ?_)
        exact J.vret (vr := fun t : Unit × jM => jrV t.1) (fin := fun r : Unit × jM => mH mo A σ r.2) (t := t) X hr (by rfl) (by rfl) dX6_begins_44
      · refine J.pu (fun _ _ _ _ k => lv_aload_n X.1.1 X.1.2.1 dX6_begins_9 rfl (lv_at hl 0 rfl) k) ?_
        refine J.mgA (k := 0) X (by decide) q2730 rfl rfl dX6_begins_10 ?_
        refine J.pu (fun _ _ _ _ k => lv_iload_n X.1.1 X.1.2.1 dX6_begins_13 rfl (lv_at hl 3 rfl) k) ?_
        refine J.pu (fun _ _ _ _ k => lv_iconst (v := 0) X.1.1 X.1.2.1 dX6_begins_14 (by decide) k) ?_
        refine J.mst X hm (by decide) dX6_begins_15 (fun M15 h15 => ?_)
        refine J.iinc (k := 3) (lv' := [(3, .int (x3_2 + 1)), (0, .ref mo), (1, .int a1), (2, .int a2)]) (w := (x3_2 + 1)) X.1.1 X.1.2.1 dX6_begins_16 hl rfl rfl (by decide) (by first | rfl | simp [va_rf_cat, jcI, jcA, jcJ, jcD, jcF]) (fun ls hl => ?_)
        refine J.pu (fun _ _ _ _ k => lv_goto (tgt := 2) X.1.1 X.1.2.1 dX6_begins_19 (by decide) k) ?_
        exact ih2 (x3_2 + 1) M15 ls (lv_sub hl [1, 2, 3, 0] rfl)
  unfold X6_begins
  refine J.pu (fun _ _ _ _ k => lv_iconst (v := 0) X.1.1 X.1.2.1 dX6_begins_0 (by decide) k) ?_
  refine J.istore_n (i := 3) (lv' := [(3, .int 0), (0, .ref mo), (1, .int a1), (2, .int a2)]) X.1.1 X.1.2.1 dX6_begins_1 rfl hl (by decide) (by first | rfl | simp [va_rf_cat, jcI, jcA, jcJ, jcD, jcF]) (fun ls hl => ?_)
  exact L2 n 0 M ls (lv_sub hl [1, 2, 3, 0] rfl)
noncomputable def X6_putsChute (n : Nat) (M : jM) (a1 : Int32) (a2 : Int32) (a3 : Int32) : Option (Unit × jM) :=
  (mS M 0 ((23 + (17 * a1)) + a2) a3).bind fun M14 => some ((), M14)
set_option maxHeartbeats 4000000 in
set_option maxRecDepth 100000 in
theorem ct_X6_putsChute (l : Launch) {G : jG} {mo : Nat} {A : Nat → Nat} (hm : mOK G mo A) (σ : jH) (n : Nat) (M : jM) (a1 : Int32) (a2 : Int32) (a3 : Int32) : jCt l G yX6_putsChute (ws_ yX6_putsChute cX6_putsChute 4 none) 0 0 jrV [.ref mo, .int a1, .int a2, .int a3] (mH mo A σ M) (mup mo A σ (X6_putsChute n M a1 a2 a3)) := by
  refine jCt.wm (lv := [(0, .ref mo), (1, .int a1), (2, .int a2), (3, .int a3)]) (plainFor_of_name (by decide)) (Nat.le_of_ble_eq_true rfl) rfl ?_
  intro t p e s m args below meth c ls X hr hnm hl
  have X : jCx p c cX6_putsChute 4 s m args RX6 G meth := X
  unfold X6_putsChute
  refine J.pu (fun _ _ _ _ k => lv_aload_n X.1.1 X.1.2.1 dX6_putsChute_0 rfl (lv_at hl 0 rfl) k) ?_
  refine J.mgA (k := 0) X (by decide) q2730 rfl rfl dX6_putsChute_1 ?_
  refine J.pu (fun _ _ _ _ k => lv_bipush (v := 23) X.1.1 X.1.2.1 dX6_putsChute_4 (by decide) k) ?_
  refine J.pu (fun _ _ _ _ k => lv_bipush (v := 17) X.1.1 X.1.2.1 dX6_putsChute_6 (by decide) k) ?_
  refine J.pu (fun _ _ _ _ k => lv_iload_n X.1.1 X.1.2.1 dX6_putsChute_8 rfl (lv_at hl 1 rfl) k) ?_
  refine J.pu (fun _ _ _ _ k => lv_imul X.1.1 X.1.2.1 dX6_putsChute_9 k) ?_
  refine J.pu (fun _ _ _ _ k => lv_iadd X.1.1 X.1.2.1 dX6_putsChute_10 k) ?_
  refine J.pu (fun _ _ _ _ k => lv_iload_n X.1.1 X.1.2.1 dX6_putsChute_11 rfl (lv_at hl 2 rfl) k) ?_
  refine J.pu (fun _ _ _ _ k => lv_iadd X.1.1 X.1.2.1 dX6_putsChute_12 k) ?_
  refine J.pu (fun _ _ _ _ k => lv_iload_n X.1.1 X.1.2.1 dX6_putsChute_13 rfl (lv_at hl 3 rfl) k) ?_
  refine J.mst X hm (by decide) dX6_putsChute_14 (fun M14 h14 => ?_)
  exact J.vret (vr := fun t : Unit × jM => jrV t.1) (fin := fun r : Unit × jM => mH mo A σ r.2) (t := t) X hr (by rfl) (by rfl) dX6_putsChute_15
noncomputable def X6_addsChute (n : Nat) (M : jM) (a1 : Int32) (a2 : Int32) (a3 : Int32) (a4 : Int32) : Option (Unit × jM) :=
  (mA M 0 3).bind fun v5 => bd (X6_putsChute n M v5 0 a1) fun v13 M13 => bd (X6_putsChute n M13 v5 1 a2) fun v21 M21 => bd (X6_putsChute n M21 v5 2 a3) fun v29 M29 => bd (X6_putsChute n M29 v5 3 a4) fun v38 M38 => bd (X6_putsChute n M38 v5 5 1) fun v46 M46 => (mA M46 0 3).bind fun v55 => (mS M46 0 3 (v55 + 1)).bind fun M58 => some ((), M58)
set_option maxHeartbeats 4000000 in
set_option maxRecDepth 100000 in
theorem ct_X6_addsChute (l : Launch) {G : jG} {mo : Nat} {A : Nat → Nat} (hm : mOK G mo A) (σ : jH) (n : Nat) (M : jM) (a1 : Int32) (a2 : Int32) (a3 : Int32) (a4 : Int32) : jCt l G yX6_addsChute (ws_ yX6_addsChute cX6_addsChute 6 none) 1 23 jrV [.ref mo, .int a1, .int a2, .int a3, .int a4] (mH mo A σ M) (mup mo A σ (X6_addsChute n M a1 a2 a3 a4)) := by
  refine jCt.wm (lv := [(0, .ref mo), (1, .int a1), (2, .int a2), (3, .int a3), (4, .int a4)]) (plainFor_of_name (by decide)) (Nat.le_of_ble_eq_true rfl) rfl ?_
  intro t p e s m args below meth c ls X hr hnm hl
  have X : jCx p c cX6_addsChute 6 s m args RX6 G meth := X
  unfold X6_addsChute
  refine J.pu (fun _ _ _ _ k => lv_aload_n X.1.1 X.1.2.1 dX6_addsChute_0 rfl (lv_at hl 0 rfl) k) ?_
  refine J.mgA (k := 0) X (by decide) q2730 rfl rfl dX6_addsChute_1 ?_
  refine J.pu (fun _ _ _ _ k => lv_iconst (v := 3) X.1.1 X.1.2.1 dX6_addsChute_4 (by decide) k) ?_
  refine J.mld X hm (by decide) dX6_addsChute_5 (fun v5 h5 => ?_)
  refine J.istore (lv' := [(5, .int v5), (0, .ref mo), (1, .int a1), (2, .int a2), (3, .int a3), (4, .int a4)]) X.1.1 X.1.2.1 dX6_addsChute_6 hl (by decide) (by first | rfl | simp [va_rf_cat, jcI, jcA, jcJ, jcD, jcF]) (fun ls hl => ?_)
  refine J.pu (fun _ _ _ _ k => lv_aload_n X.1.1 X.1.2.1 dX6_addsChute_8 rfl (lv_at hl 1 rfl) k) ?_
  refine J.pu (fun _ _ _ _ k => lv_iload X.1.1 X.1.2.1 dX6_addsChute_9 (lv_at hl 0 rfl) k) ?_
  refine J.pu (fun _ _ _ _ k => lv_iconst (v := 0) X.1.1 X.1.2.1 dX6_addsChute_11 (by decide) k) ?_
  refine J.pu (fun _ _ _ _ k => lv_iload_n X.1.1 X.1.2.1 dX6_addsChute_12 rfl (lv_at hl 2 rfl) k) ?_
  refine J.bd' (fun v13 M13 h13 => ?_)
  refine J.cV (q := (RX6, TX6, 26)) (ci := 5) (As := [.int v5, .int 0, .int a1]) (rest := []) (s2 := []) X ⟨rfl, rfl⟩ (ct_X6_putsChute l hm σ n M v5 0 a1) (mup_of h13) (fun _ _ => cwV 3 X.1.2.2.2.2 (lw_V q2726 q2728 qs58 q174 q2729) rfl rfl rfl (by decide +kernel) ⟨(Nat.le_of_ble_eq_true rfl), (Nat.le_of_ble_eq_true rfl)⟩) mH_rc rfl rfl hl.1 rfl rfl (Nat.le_of_ble_eq_true rfl) dX6_addsChute_13 ?_
  refine J.pu (fun _ _ _ _ k => lv_aload_n X.1.1 X.1.2.1 dX6_addsChute_16 rfl (lv_at hl 1 rfl) k) ?_
  refine J.pu (fun _ _ _ _ k => lv_iload X.1.1 X.1.2.1 dX6_addsChute_17 (lv_at hl 0 rfl) k) ?_
  refine J.pu (fun _ _ _ _ k => lv_iconst (v := 1) X.1.1 X.1.2.1 dX6_addsChute_19 (by decide) k) ?_
  refine J.pu (fun _ _ _ _ k => lv_iload_n X.1.1 X.1.2.1 dX6_addsChute_20 rfl (lv_at hl 3 rfl) k) ?_
  refine J.bd' (fun v21 M21 h21 => ?_)
  refine J.cV (q := (RX6, TX6, 26)) (ci := 5) (As := [.int v5, .int 1, .int a2]) (rest := []) (s2 := []) X ⟨rfl, rfl⟩ (ct_X6_putsChute l hm σ n M13 v5 1 a2) (mup_of h21) (fun _ _ => cwV 3 X.1.2.2.2.2 (lw_V q2726 q2728 qs58 q174 q2729) rfl rfl rfl (by decide +kernel) ⟨(Nat.le_of_ble_eq_true rfl), (Nat.le_of_ble_eq_true rfl)⟩) mH_rc rfl rfl hl.1 rfl rfl (Nat.le_of_ble_eq_true rfl) dX6_addsChute_21 ?_
  refine J.pu (fun _ _ _ _ k => lv_aload_n X.1.1 X.1.2.1 dX6_addsChute_24 rfl (lv_at hl 1 rfl) k) ?_
  refine J.pu (fun _ _ _ _ k => lv_iload X.1.1 X.1.2.1 dX6_addsChute_25 (lv_at hl 0 rfl) k) ?_
  refine J.pu (fun _ _ _ _ k => lv_iconst (v := 2) X.1.1 X.1.2.1 dX6_addsChute_27 (by decide) k) ?_
  refine J.pu (fun _ _ _ _ k => lv_iload_n X.1.1 X.1.2.1 dX6_addsChute_28 rfl (lv_at hl 4 rfl) k) ?_
  refine J.bd' (fun v29 M29 h29 => ?_)
  refine J.cV (q := (RX6, TX6, 26)) (ci := 5) (As := [.int v5, .int 2, .int a3]) (rest := []) (s2 := []) X ⟨rfl, rfl⟩ (ct_X6_putsChute l hm σ n M21 v5 2 a3) (mup_of h29) (fun _ _ => cwV 3 X.1.2.2.2.2 (lw_V q2726 q2728 qs58 q174 q2729) rfl rfl rfl (by decide +kernel) ⟨(Nat.le_of_ble_eq_true rfl), (Nat.le_of_ble_eq_true rfl)⟩) mH_rc rfl rfl hl.1 rfl rfl (Nat.le_of_ble_eq_true rfl) dX6_addsChute_29 ?_
  refine J.pu (fun _ _ _ _ k => lv_aload_n X.1.1 X.1.2.1 dX6_addsChute_32 rfl (lv_at hl 1 rfl) k) ?_
  refine J.pu (fun _ _ _ _ k => lv_iload X.1.1 X.1.2.1 dX6_addsChute_33 (lv_at hl 0 rfl) k) ?_
  refine J.pu (fun _ _ _ _ k => lv_iconst (v := 3) X.1.1 X.1.2.1 dX6_addsChute_35 (by decide) k) ?_
  refine J.pu (fun _ _ _ _ k => lv_iload X.1.1 X.1.2.1 dX6_addsChute_36 (lv_at hl 5 rfl) k) ?_
  refine J.bd' (fun v38 M38 h38 => ?_)
  refine J.cV (q := (RX6, TX6, 26)) (ci := 5) (As := [.int v5, .int 3, .int a4]) (rest := []) (s2 := []) X ⟨rfl, rfl⟩ (ct_X6_putsChute l hm σ n M29 v5 3 a4) (mup_of h38) (fun _ _ => cwV 3 X.1.2.2.2.2 (lw_V q2726 q2728 qs58 q174 q2729) rfl rfl rfl (by decide +kernel) ⟨(Nat.le_of_ble_eq_true rfl), (Nat.le_of_ble_eq_true rfl)⟩) mH_rc rfl rfl hl.1 rfl rfl (Nat.le_of_ble_eq_true rfl) dX6_addsChute_38 ?_
  refine J.pu (fun _ _ _ _ k => lv_aload_n X.1.1 X.1.2.1 dX6_addsChute_41 rfl (lv_at hl 1 rfl) k) ?_
  refine J.pu (fun _ _ _ _ k => lv_iload X.1.1 X.1.2.1 dX6_addsChute_42 (lv_at hl 0 rfl) k) ?_
  refine J.pu (fun _ _ _ _ k => lv_iconst (v := 5) X.1.1 X.1.2.1 dX6_addsChute_44 (by decide) k) ?_
  refine J.pu (fun _ _ _ _ k => lv_iconst (v := 1) X.1.1 X.1.2.1 dX6_addsChute_45 (by decide) k) ?_
  refine J.bd' (fun v46 M46 h46 => ?_)
  refine J.cV (q := (RX6, TX6, 26)) (ci := 5) (As := [.int v5, .int 5, .int 1]) (rest := []) (s2 := []) X ⟨rfl, rfl⟩ (ct_X6_putsChute l hm σ n M38 v5 5 1) (mup_of h46) (fun _ _ => cwV 3 X.1.2.2.2.2 (lw_V q2726 q2728 qs58 q174 q2729) rfl rfl rfl (by decide +kernel) ⟨(Nat.le_of_ble_eq_true rfl), (Nat.le_of_ble_eq_true rfl)⟩) mH_rc rfl rfl hl.1 rfl rfl (Nat.le_of_ble_eq_true rfl) dX6_addsChute_46 ?_
  refine J.pu (fun _ _ _ _ k => lv_aload_n X.1.1 X.1.2.1 dX6_addsChute_49 rfl (lv_at hl 1 rfl) k) ?_
  refine J.mgA (k := 0) X (by decide) q2730 rfl rfl dX6_addsChute_50 ?_
  refine J.pu (fun _ _ _ _ k => lv_iconst (v := 3) X.1.1 X.1.2.1 dX6_addsChute_53 (by decide) k) ?_
  refine J.pu (fun _ _ _ _ k => lv_dup2_11 X.1.1 X.1.2.1 dX6_addsChute_54 rfl rfl k) ?_
  refine J.mld X hm (by decide) dX6_addsChute_55 (fun v55 h55 => ?_)
  refine J.pu (fun _ _ _ _ k => lv_iconst (v := 1) X.1.1 X.1.2.1 dX6_addsChute_56 (by decide) k) ?_
  refine J.pu (fun _ _ _ _ k => lv_iadd X.1.1 X.1.2.1 dX6_addsChute_57 k) ?_
  refine J.mst X hm (by decide) dX6_addsChute_58 (fun M58 h58 => ?_)
  exact J.vret (vr := fun t : Unit × jM => jrV t.1) (fin := fun r : Unit × jM => mH mo A σ r.2) (t := t) X hr (by rfl) (by rfl) dX6_addsChute_59
noncomputable def X6_thrown (n : Nat) (M : jM) : Option (Int32) :=
  some (M.2 7)
set_option maxHeartbeats 4000000 in
set_option maxRecDepth 100000 in
theorem ct_X6_thrown (l : Launch) {G : jG} {mo : Nat} {A : Nat → Nat} (hm : mOK G mo A) (σ : jH) (n : Nat) (M : jM) : jCt l G yX6_thrown (ws_ yX6_thrown cX6_thrown 1 (some .int)) 0 0 jrI [.ref mo] (mH mo A σ M) (jrd (mH mo A σ M) (X6_thrown n M)) := by
  refine jCt.rd (lv := [(0, .ref mo)]) (plainFor_of_name (by decide)) (Nat.le_of_ble_eq_true rfl) rfl ?_
  intro t p e s m args below meth c ls X hr hnm hl
  have X : jCx p c cX6_thrown 1 s m args RX6 G meth := X
  unfold X6_thrown
  refine J.pu (fun _ _ _ _ k => lv_aload_n X.1.1 X.1.2.1 dX6_thrown_0 rfl (lv_at hl 0 rfl) k) ?_
  refine J.mgS (k := 7) X (by decide) q2737 rfl rfl dX6_thrown_1 ?_
  exact J.iret (vr := jrI) (fin := fun _ : Int32 => (mH mo A σ M)) (t := t) X hr (by rfl) (by rfl) dX6_thrown_4
noncomputable def X6_appendWord_h3 (n : Nat) (a1 : Int32) (rec3 : Int32 × jM → Option (Unit × jM)) (q3 : Int32 × jM) : Option (Unit × jM) :=
  let x2_3 := q3.1; let B3 := q3.2; if x2_3 < 0 then (some ((), B3)) else ((mS B3 8 (B3.2 9) ((a1 >>> (x2_3 &&& 31)) &&& 255)).bind fun M22 => rec3 ((x2_3 + (-8)), (mP M22 9 ((M22.2 9) + 1))))
noncomputable def X6_appendWord (n : Nat) (M : jM) (a1 : Int32) : Option (Unit × jM) :=
  jloop (X6_appendWord_h3 n a1) n (24, M)
set_option maxHeartbeats 4000000 in
set_option maxRecDepth 100000 in
theorem ct_X6_appendWord (l : Launch) {G : jG} {mo : Nat} {A : Nat → Nat} (hm : mOK G mo A) (σ : jH) (n : Nat) (M : jM) (a1 : Int32) : jCt l G yX6_appendWord (ws_ yX6_appendWord cX6_appendWord 3 none) 0 0 jrV [.ref mo, .int a1] (mH mo A σ M) (mup mo A σ (X6_appendWord n M a1)) := by
  refine jCt.wm (lv := [(0, .ref mo), (1, .int a1)]) (plainFor_of_name (by decide)) (Nat.le_of_ble_eq_true rfl) rfl ?_
  intro t p e s m args below meth c ls X hr hnm hl
  have X : jCx p c cX6_appendWord 3 s m args RX6 G meth := X
  have L3 : ∀ (n3 : Nat) (x2_3 : Int32) (B3 : jM) (ls : Array Slot), lv_has ls 3 [(0, .ref mo), (1, .int a1), (2, .int x2_3)] → jGo l G 0 0 (mH mo A σ M) (fun r : Unit × jM => mH mo A σ r.2) (fun t => jrV t.1) t p e s m args below meth c (jloop (X6_appendWord_h3 n a1) n3 (x2_3, B3)) (mH mo A σ B3) (F0 m 3 ls []) := by
    intro n3
    induction n3 with
    | zero => intro x2_3 B3 ls hl; exact J.nil_
    | succ n3 ih3 =>
      intro x2_3 B3 ls hl
      refine J.eq (jloop_s _ _ _) ?_
      dsimp only [X6_appendWord_h3]
      refine J.pu (fun _ _ _ _ k => lv_iload_n X.1.1 X.1.2.1 dX6_appendWord_3 rfl (lv_at hl 2 rfl) k) ?_
      refine J.br (fun _ _ _ _ ka kb => lv_if_lt (tgt := 39) X.1.1 X.1.2.1 dX6_appendWord_4 (by decide) ka kb) (fun c4 => ?_) (fun c4 => ?_)
      · exact J.vret (vr := fun t : Unit × jM => jrV t.1) (fin := fun r : Unit × jM => mH mo A σ r.2) (t := t) X hr (by rfl) (by rfl) dX6_appendWord_39
      · refine J.pu (fun _ _ _ _ k => lv_aload_n X.1.1 X.1.2.1 dX6_appendWord_7 rfl (lv_at hl 0 rfl) k) ?_
        refine J.mgA (k := 8) X (by decide) q2738 rfl rfl dX6_appendWord_8 ?_
        refine J.pu (fun _ _ _ _ k => lv_aload_n X.1.1 X.1.2.1 dX6_appendWord_11 rfl (lv_at hl 0 rfl) k) ?_
        refine J.mgS (k := 9) X (by decide) q2739 rfl rfl dX6_appendWord_12 ?_
        refine J.pu (fun _ _ _ _ k => lv_iload_n X.1.1 X.1.2.1 dX6_appendWord_15 rfl (lv_at hl 1 rfl) k) ?_
        refine J.pu (fun _ _ _ _ k => lv_iload_n X.1.1 X.1.2.1 dX6_appendWord_16 rfl (lv_at hl 2 rfl) k) ?_
        refine J.pu (fun _ _ _ _ k => lv_ishr X.1.1 X.1.2.1 dX6_appendWord_17 k) ?_
        refine J.pu (fun _ _ _ _ k => lv_sipush (v := 255) X.1.1 X.1.2.1 dX6_appendWord_18 (by decide) k) ?_
        refine J.pu (fun _ _ _ _ k => lv_iand X.1.1 X.1.2.1 dX6_appendWord_21 k) ?_
        refine J.mst X hm (by decide) dX6_appendWord_22 (fun M22 h22 => ?_)
        refine J.pu (fun _ _ _ _ k => lv_aload_n X.1.1 X.1.2.1 dX6_appendWord_23 rfl (lv_at hl 0 rfl) k) ?_
        refine J.pu (fun _ _ _ _ k => lv_dup X.1.1 X.1.2.1 dX6_appendWord_24 rfl k) ?_
        refine J.mgS (k := 9) X (by decide) q2739 rfl rfl dX6_appendWord_25 ?_
        refine J.pu (fun _ _ _ _ k => lv_iconst (v := 1) X.1.1 X.1.2.1 dX6_appendWord_28 (by decide) k) ?_
        refine J.pu (fun _ _ _ _ k => lv_iadd X.1.1 X.1.2.1 dX6_appendWord_29 k) ?_
        refine J.mpS (k := 9) X hm (by decide) q2739 rfl rfl rfl dX6_appendWord_30 ?_
        refine J.iinc (k := 2) (lv' := [(2, .int (x2_3 + (-8))), (0, .ref mo), (1, .int a1)]) (w := (x2_3 + (-8))) X.1.1 X.1.2.1 dX6_appendWord_33 hl rfl (by rw [show Int32.ofInt (-8) = ((-8) : Int32) from by decide]) (by decide) (by first | rfl | simp [va_rf_cat, jcI, jcA, jcJ, jcD, jcF]) (fun ls hl => ?_)
        refine J.pu (fun _ _ _ _ k => lv_goto (tgt := 3) X.1.1 X.1.2.1 dX6_appendWord_36 (by decide) k) ?_
        exact ih3 (x2_3 + (-8)) (mP M22 9 ((M22.2 9) + 1)) ls (lv_sub hl [1, 2, 0] rfl)
  unfold X6_appendWord
  refine J.pu (fun _ _ _ _ k => lv_bipush (v := 24) X.1.1 X.1.2.1 dX6_appendWord_0 (by decide) k) ?_
  refine J.istore_n (i := 2) (lv' := [(2, .int 24), (0, .ref mo), (1, .int a1)]) X.1.1 X.1.2.1 dX6_appendWord_2 rfl hl (by decide) (by first | rfl | simp [va_rf_cat, jcI, jcA, jcJ, jcD, jcF]) (fun ls hl => ?_)
  exact L3 n 24 M ls (lv_sub hl [1, 2, 0] rfl)
noncomputable def X6_appendInput (n : Nat) (M : jM) (a1 : Int32) (a2 : Int32) (a3 : Int32) (a4 : Int32) (a5 : Int32) : Option (Int32 × jM) :=
  if (((mP M 7 0).2 9) + 20) ≤ 600 then (bd (X6_appendWord n (mP M 7 0) a1) fun v22 M22 => bd (X6_appendWord n M22 a2) fun v27 M27 => bd (X6_appendWord n M27 a3) fun v32 M32 => bd (X6_appendWord n M32 a4) fun v38 M38 => bd (X6_appendWord n M38 a5) fun v44 M44 => some ((M44.2 9), M44)) else (some ((-1), (mP M 7 0)))
set_option maxHeartbeats 4000000 in
set_option maxRecDepth 100000 in
theorem ct_X6_appendInput (l : Launch) {G : jG} {mo : Nat} {A : Nat → Nat} (hm : mOK G mo A) (σ : jH) (n : Nat) (M : jM) (a1 : Int32) (a2 : Int32) (a3 : Int32) (a4 : Int32) (a5 : Int32) : jCt l G yX6_appendInput (ws_ yX6_appendInput cX6_appendInput 6 (some .int)) 1 22 jrI [.ref mo, .int a1, .int a2, .int a3, .int a4, .int a5] (mH mo A σ M) (mup mo A σ (X6_appendInput n M a1 a2 a3 a4 a5)) := by
  refine jCt.wm (lv := [(0, .ref mo), (1, .int a1), (2, .int a2), (3, .int a3), (4, .int a4), (5, .int a5)]) (plainFor_of_name (by decide)) (Nat.le_of_ble_eq_true rfl) rfl ?_
  intro t p e s m args below meth c ls X hr hnm hl
  have X : jCx p c cX6_appendInput 6 s m args RX6 G meth := X
  unfold X6_appendInput
  refine J.pu (fun _ _ _ _ k => lv_aload_n X.1.1 X.1.2.1 dX6_appendInput_0 rfl (lv_at hl 0 rfl) k) ?_
  refine J.pu (fun _ _ _ _ k => lv_iconst (v := 0) X.1.1 X.1.2.1 dX6_appendInput_1 (by decide) k) ?_
  refine J.mpS (k := 7) X hm (by decide) q2737 rfl rfl rfl dX6_appendInput_2 ?_
  refine J.pu (fun _ _ _ _ k => lv_aload_n X.1.1 X.1.2.1 dX6_appendInput_5 rfl (lv_at hl 0 rfl) k) ?_
  refine J.mgS (k := 9) X (by decide) q2739 rfl rfl dX6_appendInput_6 ?_
  refine J.pu (fun _ _ _ _ k => lv_bipush (v := 20) X.1.1 X.1.2.1 dX6_appendInput_9 (by decide) k) ?_
  refine J.pu (fun _ _ _ _ k => lv_iadd X.1.1 X.1.2.1 dX6_appendInput_11 k) ?_
  refine J.pu (fun _ _ _ _ k => lv_sipush (v := 600) X.1.1 X.1.2.1 dX6_appendInput_12 (by decide) k) ?_
  refine J.br (fun _ _ _ _ ka kb => lv_icmp_le (tgt := 20) X.1.1 X.1.2.1 dX6_appendInput_15 (by decide) ka kb) (fun c15 => ?_) (fun c15 => ?_)
  · refine J.pu (fun _ _ _ _ k => lv_aload_n X.1.1 X.1.2.1 dX6_appendInput_20 rfl (lv_at hl 0 rfl) k) ?_
    refine J.pu (fun _ _ _ _ k => lv_iload_n X.1.1 X.1.2.1 dX6_appendInput_21 rfl (lv_at hl 1 rfl) k) ?_
    refine J.bd' (fun v22 M22 h22 => ?_)
    refine J.cV (q := (RX6, TX6, 26)) (ci := 5) (As := [.int a1]) (rest := []) (s2 := []) X ⟨rfl, rfl⟩ (ct_X6_appendWord l hm σ n (mP M 7 0) a1) (mup_of h22) (fun _ _ => cwV 1 X.1.2.2.2.2 (lw_V q2817 q2819 qs59 q174 q2820) rfl rfl rfl (by decide +kernel) ⟨(Nat.le_of_ble_eq_true rfl), (Nat.le_of_ble_eq_true rfl)⟩) mH_rc rfl rfl hl.1 rfl rfl (Nat.le_of_ble_eq_true rfl) dX6_appendInput_22 ?_
    refine J.pu (fun _ _ _ _ k => lv_aload_n X.1.1 X.1.2.1 dX6_appendInput_25 rfl (lv_at hl 0 rfl) k) ?_
    refine J.pu (fun _ _ _ _ k => lv_iload_n X.1.1 X.1.2.1 dX6_appendInput_26 rfl (lv_at hl 2 rfl) k) ?_
    refine J.bd' (fun v27 M27 h27 => ?_)
    refine J.cV (q := (RX6, TX6, 26)) (ci := 5) (As := [.int a2]) (rest := []) (s2 := []) X ⟨rfl, rfl⟩ (ct_X6_appendWord l hm σ n M22 a2) (mup_of h27) (fun _ _ => cwV 1 X.1.2.2.2.2 (lw_V q2817 q2819 qs59 q174 q2820) rfl rfl rfl (by decide +kernel) ⟨(Nat.le_of_ble_eq_true rfl), (Nat.le_of_ble_eq_true rfl)⟩) mH_rc rfl rfl hl.1 rfl rfl (Nat.le_of_ble_eq_true rfl) dX6_appendInput_27 ?_
    refine J.pu (fun _ _ _ _ k => lv_aload_n X.1.1 X.1.2.1 dX6_appendInput_30 rfl (lv_at hl 0 rfl) k) ?_
    refine J.pu (fun _ _ _ _ k => lv_iload_n X.1.1 X.1.2.1 dX6_appendInput_31 rfl (lv_at hl 3 rfl) k) ?_
    refine J.bd' (fun v32 M32 h32 => ?_)
    refine J.cV (q := (RX6, TX6, 26)) (ci := 5) (As := [.int a3]) (rest := []) (s2 := []) X ⟨rfl, rfl⟩ (ct_X6_appendWord l hm σ n M27 a3) (mup_of h32) (fun _ _ => cwV 1 X.1.2.2.2.2 (lw_V q2817 q2819 qs59 q174 q2820) rfl rfl rfl (by decide +kernel) ⟨(Nat.le_of_ble_eq_true rfl), (Nat.le_of_ble_eq_true rfl)⟩) mH_rc rfl rfl hl.1 rfl rfl (Nat.le_of_ble_eq_true rfl) dX6_appendInput_32 ?_
    refine J.pu (fun _ _ _ _ k => lv_aload_n X.1.1 X.1.2.1 dX6_appendInput_35 rfl (lv_at hl 0 rfl) k) ?_
    refine J.pu (fun _ _ _ _ k => lv_iload X.1.1 X.1.2.1 dX6_appendInput_36 (lv_at hl 4 rfl) k) ?_
    refine J.bd' (fun v38 M38 h38 => ?_)
    refine J.cV (q := (RX6, TX6, 26)) (ci := 5) (As := [.int a4]) (rest := []) (s2 := []) X ⟨rfl, rfl⟩ (ct_X6_appendWord l hm σ n M32 a4) (mup_of h38) (fun _ _ => cwV 1 X.1.2.2.2.2 (lw_V q2817 q2819 qs59 q174 q2820) rfl rfl rfl (by decide +kernel) ⟨(Nat.le_of_ble_eq_true rfl), (Nat.le_of_ble_eq_true rfl)⟩) mH_rc rfl rfl hl.1 rfl rfl (Nat.le_of_ble_eq_true rfl) dX6_appendInput_38 ?_
    refine J.pu (fun _ _ _ _ k => lv_aload_n X.1.1 X.1.2.1 dX6_appendInput_41 rfl (lv_at hl 0 rfl) k) ?_
    refine J.pu (fun _ _ _ _ k => lv_iload X.1.1 X.1.2.1 dX6_appendInput_42 (lv_at hl 5 rfl) k) ?_
    refine J.bd' (fun v44 M44 h44 => ?_)
    refine J.cV (q := (RX6, TX6, 26)) (ci := 5) (As := [.int a5]) (rest := []) (s2 := []) X ⟨rfl, rfl⟩ (ct_X6_appendWord l hm σ n M38 a5) (mup_of h44) (fun _ _ => cwV 1 X.1.2.2.2.2 (lw_V q2817 q2819 qs59 q174 q2820) rfl rfl rfl (by decide +kernel) ⟨(Nat.le_of_ble_eq_true rfl), (Nat.le_of_ble_eq_true rfl)⟩) mH_rc rfl rfl hl.1 rfl rfl (Nat.le_of_ble_eq_true rfl) dX6_appendInput_44 ?_
    refine J.pu (fun _ _ _ _ k => lv_aload_n X.1.1 X.1.2.1 dX6_appendInput_47 rfl (lv_at hl 0 rfl) k) ?_
    refine J.mgS (k := 9) X (by decide) q2739 rfl rfl dX6_appendInput_48 ?_
    exact J.iret (vr := fun t : Int32 × jM => jrI t.1) (fin := fun r : Int32 × jM => mH mo A σ r.2) (t := t) X hr (by rfl) (by rfl) dX6_appendInput_51
  · refine J.pu (fun _ _ _ _ k => lv_iconst (v := (-1)) X.1.1 X.1.2.1 dX6_appendInput_18 (by decide) k) ?_
    exact J.iret (vr := fun t : Int32 × jM => jrI t.1) (fin := fun r : Int32 × jM => mH mo A σ r.2) (t := t) X hr (by rfl) (by rfl) dX6_appendInput_19
noncomputable def X6_inRange (n : Nat) (M : jM) (a0 : Int32) (a1 : Int32) (a2 : Int32) : Option (Int32) :=
  if a0 < a1 then (some 0) else (if a2 < a0 then (some 0) else (some 1))
set_option maxHeartbeats 4000000 in
set_option maxRecDepth 100000 in
theorem ct_X6_inRange (l : Launch) {G : jG} {mo : Nat} {A : Nat → Nat} (hm : mOK G mo A) (σ : jH) (n : Nat) (M : jM) (a0 : Int32) (a1 : Int32) (a2 : Int32) : jCt l G yX6_inRange (ws_ yX6_inRange cX6_inRange 3 (some .boolean)) 0 0 jrI [.int a0, .int a1, .int a2] (mH mo A σ M) (jrd (mH mo A σ M) (X6_inRange n M a0 a1 a2)) := by
  refine jCt.rd (lv := [(0, .int a0), (1, .int a1), (2, .int a2)]) (plainFor_of_name (by decide)) (Nat.le_of_ble_eq_true rfl) rfl ?_
  intro t p e s m args below meth c ls X hr hnm hl
  have X : jCx p c cX6_inRange 3 s m args RX6 G meth := X
  unfold X6_inRange
  refine J.pu (fun _ _ _ _ k => lv_iload_n X.1.1 X.1.2.1 dX6_inRange_0 rfl (lv_at hl 0 rfl) k) ?_
  refine J.pu (fun _ _ _ _ k => lv_iload_n X.1.1 X.1.2.1 dX6_inRange_1 rfl (lv_at hl 1 rfl) k) ?_
  refine J.br (fun _ _ _ _ ka kb => lv_icmp_lt (tgt := 14) X.1.1 X.1.2.1 dX6_inRange_2 (by decide) ka kb) (fun c2 => ?_) (fun c2 => ?_)
  · refine J.pu (fun _ _ _ _ k => lv_iconst (v := 0) X.1.1 X.1.2.1 dX6_inRange_14 (by decide) k) ?_
    exact J.zret (vr := jrI) (fin := fun _ : Int32 => (mH mo A σ M)) (t := t) X hr (by decide) (by rfl) (by rfl) dX6_inRange_15
  · refine J.pu (fun _ _ _ _ k => lv_iload_n X.1.1 X.1.2.1 dX6_inRange_5 rfl (lv_at hl 0 rfl) k) ?_
    refine J.pu (fun _ _ _ _ k => lv_iload_n X.1.1 X.1.2.1 dX6_inRange_6 rfl (lv_at hl 2 rfl) k) ?_
    refine J.br (fun _ _ _ _ ka kb => lv_icmp_gt (tgt := 14) X.1.1 X.1.2.1 dX6_inRange_7 (by decide) ka kb) (fun c7 => ?_) (fun c7 => ?_)
    · refine J.pu (fun _ _ _ _ k => lv_iconst (v := 0) X.1.1 X.1.2.1 dX6_inRange_14 (by decide) k) ?_
      exact J.zret (vr := jrI) (fin := fun _ : Int32 => (mH mo A σ M)) (t := t) X hr (by decide) (by rfl) (by rfl) dX6_inRange_15
    · refine J.pu (fun _ _ _ _ k => lv_iconst (v := 1) X.1.1 X.1.2.1 dX6_inRange_10 (by decide) k) ?_
      refine J.pu (fun _ _ _ _ k => lv_goto (tgt := 15) X.1.1 X.1.2.1 dX6_inRange_11 (by decide) k) ?_
      exact J.zret (vr := jrI) (fin := fun _ : Int32 => (mH mo A σ M)) (t := t) X hr (by decide) (by rfl) (by rfl) dX6_inRange_15
noncomputable def X6_truncateInput (n : Nat) (M : jM) (a1 : Int32) : Option (Int32 × jM) :=
  (X6_inRange n (mP M 7 0) a1 0 ((mP M 7 0).2 9)).bind fun v11 => if v11 = 0 then (some (0, (mP M 7 0))) else (some (1, (mP (mP M 7 0) 9 a1)))
set_option maxHeartbeats 4000000 in
set_option maxRecDepth 100000 in
theorem ct_X6_truncateInput (l : Launch) {G : jG} {mo : Nat} {A : Nat → Nat} (hm : mOK G mo A) (σ : jH) (n : Nat) (M : jM) (a1 : Int32) : jCt l G yX6_truncateInput (ws_ yX6_truncateInput cX6_truncateInput 2 (some .boolean)) 1 22 jrI [.ref mo, .int a1] (mH mo A σ M) (mup mo A σ (X6_truncateInput n M a1)) := by
  refine jCt.wm (lv := [(0, .ref mo), (1, .int a1)]) (plainFor_of_name (by decide)) (Nat.le_of_ble_eq_true rfl) rfl ?_
  intro t p e s m args below meth c ls X hr hnm hl
  have X : jCx p c cX6_truncateInput 2 s m args RX6 G meth := X
  unfold X6_truncateInput
  refine J.pu (fun _ _ _ _ k => lv_aload_n X.1.1 X.1.2.1 dX6_truncateInput_0 rfl (lv_at hl 0 rfl) k) ?_
  refine J.pu (fun _ _ _ _ k => lv_iconst (v := 0) X.1.1 X.1.2.1 dX6_truncateInput_1 (by decide) k) ?_
  refine J.mpS (k := 7) X hm (by decide) q2737 rfl rfl rfl dX6_truncateInput_2 ?_
  refine J.pu (fun _ _ _ _ k => lv_iload_n X.1.1 X.1.2.1 dX6_truncateInput_5 rfl (lv_at hl 1 rfl) k) ?_
  refine J.pu (fun _ _ _ _ k => lv_iconst (v := 0) X.1.1 X.1.2.1 dX6_truncateInput_6 (by decide) k) ?_
  refine J.pu (fun _ _ _ _ k => lv_aload_n X.1.1 X.1.2.1 dX6_truncateInput_7 rfl (lv_at hl 0 rfl) k) ?_
  refine J.mgS (k := 9) X (by decide) q2739 rfl rfl dX6_truncateInput_8 ?_
  refine J.bind (fun v11 h11 => ?_)
  refine J.cS (As := [.int a1, .int 0, .int ((mP M 7 0).2 9)]) (rest := []) (s2 := [.int v11]) X ⟨rfl, rfl⟩ (ct_X6_inRange l hm σ n (mP M 7 0) a1 0 ((mP M 7 0).2 9)) (jrd_of h11) (fun _ _ => va_cwS 3 X.1.2.2.2.2 (lw_S q2825 q2826 q174 q2827) rfl rfl rfl (by decide +kernel) ⟨(Nat.le_of_ble_eq_true rfl), (Nat.le_of_ble_eq_true rfl)⟩) rfl hl.1 rfl rfl (Nat.le_of_ble_eq_true rfl) dX6_truncateInput_11 ?_
  refine J.br (fun _ _ _ _ ka kb => lv_if_ne (tgt := 19) X.1.1 X.1.2.1 dX6_truncateInput_14 (by decide) kb ka) (fun c14 => ?_) (fun c14 => ?_)
  · refine J.pu (fun _ _ _ _ k => lv_iconst (v := 0) X.1.1 X.1.2.1 dX6_truncateInput_17 (by decide) k) ?_
    exact J.zret (vr := fun t : Int32 × jM => jrI t.1) (fin := fun r : Int32 × jM => mH mo A σ r.2) (t := t) X hr (by decide) (by rfl) (by rfl) dX6_truncateInput_18
  · refine J.pu (fun _ _ _ _ k => lv_aload_n X.1.1 X.1.2.1 dX6_truncateInput_19 rfl (lv_at hl 0 rfl) k) ?_
    refine J.pu (fun _ _ _ _ k => lv_iload_n X.1.1 X.1.2.1 dX6_truncateInput_20 rfl (lv_at hl 1 rfl) k) ?_
    refine J.mpS (k := 9) X hm (by decide) q2739 rfl rfl rfl dX6_truncateInput_21 ?_
    refine J.pu (fun _ _ _ _ k => lv_iconst (v := 1) X.1.1 X.1.2.1 dX6_truncateInput_24 (by decide) k) ?_
    exact J.zret (vr := fun t : Int32 × jM => jrI t.1) (fin := fun r : Int32 × jM => mH mo A σ r.2) (t := t) X hr (by decide) (by rfl) (by rfl) dX6_truncateInput_25
noncomputable def X6_copies_h3 (n : Nat) (a0 : Nat) (a1 : Int32) (a2 : Nat) (a3 : Int32) (rec3 : Int32 × jM → Option (Unit × jM)) (q3 : Int32 × jM) : Option (Unit × jM) :=
  let x4_3 := q3.1; let B3 := q3.2; if 525 ≤ x4_3 then (some ((), B3)) else ((mA B3 a0 (a1 + x4_3)).bind fun v21 => (mS B3 a2 (a3 + x4_3) v21).bind fun M22 => rec3 ((x4_3 + 1), M22))
noncomputable def X6_copies (n : Nat) (M : jM) (a0 : Nat) (a1 : Int32) (a2 : Nat) (a3 : Int32) : Option (Unit × jM) :=
  jloop (X6_copies_h3 n a0 a1 a2 a3) n (0, M)
set_option maxHeartbeats 4000000 in
set_option maxRecDepth 100000 in
theorem ct_X6_copies (l : Launch) {G : jG} {mo : Nat} {A : Nat → Nat} (hm : mOK G mo A) (σ : jH) (n : Nat) (M : jM) (a0 : Nat) (a1 : Int32) (a2 : Nat) (a3 : Int32) (hka0 : a0 ∈ mks) (hka2 : a2 ∈ mks) : jCt l G yX6_copies (ws_ yX6_copies cX6_copies 5 none) 0 0 jrV [.ref (A a0), .int a1, .ref (A a2), .int a3] (mH mo A σ M) (mup mo A σ (X6_copies n M a0 a1 a2 a3)) := by
  refine jCt.wm (lv := [(0, .ref (A a0)), (1, .int a1), (2, .ref (A a2)), (3, .int a3)]) (plainFor_of_name (by decide)) (Nat.le_of_ble_eq_true rfl) rfl ?_
  intro t p e s m args below meth c ls X hr hnm hl
  have X : jCx p c cX6_copies 5 s m args RX6 G meth := X
  have L3 : ∀ (n3 : Nat) (x4_3 : Int32) (B3 : jM) (ls : Array Slot), lv_has ls 5 [(0, .ref (A a0)), (1, .int a1), (2, .ref (A a2)), (3, .int a3), (4, .int x4_3)] → jGo l G 0 0 (mH mo A σ M) (fun r : Unit × jM => mH mo A σ r.2) (fun t => jrV t.1) t p e s m args below meth c (jloop (X6_copies_h3 n a0 a1 a2 a3) n3 (x4_3, B3)) (mH mo A σ B3) (F0 m 3 ls []) := by
    intro n3
    induction n3 with
    | zero => intro x4_3 B3 ls hl; exact J.nil_
    | succ n3 ih3 =>
      intro x4_3 B3 ls hl
      refine J.eq (jloop_s _ _ _) ?_
      dsimp only [X6_copies_h3]
      refine J.pu (fun _ _ _ _ k => lv_iload X.1.1 X.1.2.1 dX6_copies_3 (lv_at hl 4 rfl) k) ?_
      refine J.pu (fun _ _ _ _ k => lv_sipush (v := 525) X.1.1 X.1.2.1 dX6_copies_5 (by decide) k) ?_
      refine J.br (fun _ _ _ _ ka kb => lv_icmp_ge (tgt := 29) X.1.1 X.1.2.1 dX6_copies_8 (by decide) ka kb) (fun c8 => ?_) (fun c8 => ?_)
      · exact J.vret (vr := fun t : Unit × jM => jrV t.1) (fin := fun r : Unit × jM => mH mo A σ r.2) (t := t) X hr (by rfl) (by rfl) dX6_copies_29
      · refine J.pu (fun _ _ _ _ k => lv_aload_n X.1.1 X.1.2.1 dX6_copies_11 rfl (lv_at hl 2 rfl) k) ?_
        refine J.pu (fun _ _ _ _ k => lv_iload_n X.1.1 X.1.2.1 dX6_copies_12 rfl (lv_at hl 3 rfl) k) ?_
        refine J.pu (fun _ _ _ _ k => lv_iload X.1.1 X.1.2.1 dX6_copies_13 (lv_at hl 4 rfl) k) ?_
        refine J.pu (fun _ _ _ _ k => lv_iadd X.1.1 X.1.2.1 dX6_copies_15 k) ?_
        refine J.pu (fun _ _ _ _ k => lv_aload_n X.1.1 X.1.2.1 dX6_copies_16 rfl (lv_at hl 0 rfl) k) ?_
        refine J.pu (fun _ _ _ _ k => lv_iload_n X.1.1 X.1.2.1 dX6_copies_17 rfl (lv_at hl 1 rfl) k) ?_
        refine J.pu (fun _ _ _ _ k => lv_iload X.1.1 X.1.2.1 dX6_copies_18 (lv_at hl 4 rfl) k) ?_
        refine J.pu (fun _ _ _ _ k => lv_iadd X.1.1 X.1.2.1 dX6_copies_20 k) ?_
        refine J.mld X hm hka0 dX6_copies_21 (fun v21 h21 => ?_)
        refine J.mst X hm hka2 dX6_copies_22 (fun M22 h22 => ?_)
        refine J.iinc (k := 4) (lv' := [(4, .int (x4_3 + 1)), (0, .ref (A a0)), (1, .int a1), (2, .ref (A a2)), (3, .int a3)]) (w := (x4_3 + 1)) X.1.1 X.1.2.1 dX6_copies_23 hl rfl rfl (by decide) (by first | rfl | simp [va_rf_cat, jcI, jcA, jcJ, jcD, jcF]) (fun ls hl => ?_)
        refine J.pu (fun _ _ _ _ k => lv_goto (tgt := 3) X.1.1 X.1.2.1 dX6_copies_26 (by decide) k) ?_
        exact ih3 (x4_3 + 1) M22 ls (lv_sub hl [1, 2, 3, 4, 0] rfl)
  unfold X6_copies
  refine J.pu (fun _ _ _ _ k => lv_iconst (v := 0) X.1.1 X.1.2.1 dX6_copies_0 (by decide) k) ?_
  refine J.istore (lv' := [(4, .int 0), (0, .ref (A a0)), (1, .int a1), (2, .ref (A a2)), (3, .int a3)]) X.1.1 X.1.2.1 dX6_copies_1 hl (by decide) (by first | rfl | simp [va_rf_cat, jcI, jcA, jcJ, jcD, jcF]) (fun ls hl => ?_)
  exact L3 n 0 M ls (lv_sub hl [1, 2, 3, 4, 0] rfl)
noncomputable def X6_endsText (n : Nat) (M : jM) : Option (Unit × jM) :=
  some ((), (mP (mP (mP M 9 0) 10 ((mP M 9 0).2 12)) 11 ((mP (mP M 9 0) 10 ((mP M 9 0).2 12)).2 13)))
set_option maxHeartbeats 4000000 in
set_option maxRecDepth 100000 in
theorem ct_X6_endsText (l : Launch) {G : jG} {mo : Nat} {A : Nat → Nat} (hm : mOK G mo A) (σ : jH) (n : Nat) (M : jM) : jCt l G yX6_endsText (ws_ yX6_endsText cX6_endsText 1 none) 0 0 jrV [.ref mo] (mH mo A σ M) (mup mo A σ (X6_endsText n M)) := by
  refine jCt.wm (lv := [(0, .ref mo)]) (plainFor_of_name (by decide)) (Nat.le_of_ble_eq_true rfl) rfl ?_
  intro t p e s m args below meth c ls X hr hnm hl
  have X : jCx p c cX6_endsText 1 s m args RX6 G meth := X
  unfold X6_endsText
  refine J.pu (fun _ _ _ _ k => lv_aload_n X.1.1 X.1.2.1 dX6_endsText_0 rfl (lv_at hl 0 rfl) k) ?_
  refine J.pu (fun _ _ _ _ k => lv_iconst (v := 0) X.1.1 X.1.2.1 dX6_endsText_1 (by decide) k) ?_
  refine J.mpS (k := 9) X hm (by decide) q2739 rfl rfl rfl dX6_endsText_2 ?_
  refine J.pu (fun _ _ _ _ k => lv_aload_n X.1.1 X.1.2.1 dX6_endsText_5 rfl (lv_at hl 0 rfl) k) ?_
  refine J.pu (fun _ _ _ _ k => lv_aload_n X.1.1 X.1.2.1 dX6_endsText_6 rfl (lv_at hl 0 rfl) k) ?_
  refine J.mgS (k := 12) X (by decide) q2742 rfl rfl dX6_endsText_7 ?_
  refine J.mpS (k := 10) X hm (by decide) q2740 rfl rfl rfl dX6_endsText_10 ?_
  refine J.pu (fun _ _ _ _ k => lv_aload_n X.1.1 X.1.2.1 dX6_endsText_13 rfl (lv_at hl 0 rfl) k) ?_
  refine J.pu (fun _ _ _ _ k => lv_aload_n X.1.1 X.1.2.1 dX6_endsText_14 rfl (lv_at hl 0 rfl) k) ?_
  refine J.mgS (k := 13) X (by decide) q2743 rfl rfl dX6_endsText_15 ?_
  refine J.mpS (k := 11) X hm (by decide) q2741 rfl rfl rfl dX6_endsText_18 ?_
  exact J.vret (vr := fun t : Unit × jM => jrV t.1) (fin := fun r : Unit × jM => mH mo A σ r.2) (t := t) X hr (by rfl) (by rfl) dX6_endsText_21
noncomputable def X6_failsAt (n : Nat) (M : jM) (a1 : Int32) : Option (Int32 × jM) :=
  if (M.2 12) = 0 then (some (0, (mP (mP M 12 a1) 13 ((mP M 12 a1).2 15)))) else (some (0, M))
set_option maxHeartbeats 4000000 in
set_option maxRecDepth 100000 in
theorem ct_X6_failsAt (l : Launch) {G : jG} {mo : Nat} {A : Nat → Nat} (hm : mOK G mo A) (σ : jH) (n : Nat) (M : jM) (a1 : Int32) : jCt l G yX6_failsAt (ws_ yX6_failsAt cX6_failsAt 2 (some .boolean)) 0 0 jrI [.ref mo, .int a1] (mH mo A σ M) (mup mo A σ (X6_failsAt n M a1)) := by
  refine jCt.wm (lv := [(0, .ref mo), (1, .int a1)]) (plainFor_of_name (by decide)) (Nat.le_of_ble_eq_true rfl) rfl ?_
  intro t p e s m args below meth c ls X hr hnm hl
  have X : jCx p c cX6_failsAt 2 s m args RX6 G meth := X
  unfold X6_failsAt
  refine J.pu (fun _ _ _ _ k => lv_aload_n X.1.1 X.1.2.1 dX6_failsAt_0 rfl (lv_at hl 0 rfl) k) ?_
  refine J.mgS (k := 12) X (by decide) q2742 rfl rfl dX6_failsAt_1 ?_
  refine J.br (fun _ _ _ _ ka kb => lv_if_ne (tgt := 20) X.1.1 X.1.2.1 dX6_failsAt_4 (by decide) kb ka) (fun c4 => ?_) (fun c4 => ?_)
  · refine J.pu (fun _ _ _ _ k => lv_aload_n X.1.1 X.1.2.1 dX6_failsAt_7 rfl (lv_at hl 0 rfl) k) ?_
    refine J.pu (fun _ _ _ _ k => lv_iload_n X.1.1 X.1.2.1 dX6_failsAt_8 rfl (lv_at hl 1 rfl) k) ?_
    refine J.mpS (k := 12) X hm (by decide) q2742 rfl rfl rfl dX6_failsAt_9 ?_
    refine J.pu (fun _ _ _ _ k => lv_aload_n X.1.1 X.1.2.1 dX6_failsAt_12 rfl (lv_at hl 0 rfl) k) ?_
    refine J.pu (fun _ _ _ _ k => lv_aload_n X.1.1 X.1.2.1 dX6_failsAt_13 rfl (lv_at hl 0 rfl) k) ?_
    refine J.mgS (k := 15) X (by decide) q2745 rfl rfl dX6_failsAt_14 ?_
    refine J.mpS (k := 13) X hm (by decide) q2743 rfl rfl rfl dX6_failsAt_17 ?_
    refine J.pu (fun _ _ _ _ k => lv_iconst (v := 0) X.1.1 X.1.2.1 dX6_failsAt_20 (by decide) k) ?_
    exact J.zret (vr := fun t : Int32 × jM => jrI t.1) (fin := fun r : Int32 × jM => mH mo A σ r.2) (t := t) X hr (by decide) (by rfl) (by rfl) dX6_failsAt_21
  · refine J.pu (fun _ _ _ _ k => lv_iconst (v := 0) X.1.1 X.1.2.1 dX6_failsAt_20 (by decide) k) ?_
    exact J.zret (vr := fun t : Int32 × jM => jrI t.1) (fin := fun r : Int32 × jM => mH mo A σ r.2) (t := t) X hr (by decide) (by rfl) (by rfl) dX6_failsAt_21
noncomputable def X6_byteAt (n : Nat) (M : jM) (a1 : Int32) : Option (Int32) :=
  if (M.2 9) ≤ a1 then (some (-1)) else ((mA M 8 a1).bind fun v13 => some v13)
set_option maxHeartbeats 4000000 in
set_option maxRecDepth 100000 in
theorem ct_X6_byteAt (l : Launch) {G : jG} {mo : Nat} {A : Nat → Nat} (hm : mOK G mo A) (σ : jH) (n : Nat) (M : jM) (a1 : Int32) : jCt l G yX6_byteAt (ws_ yX6_byteAt cX6_byteAt 2 (some .int)) 0 0 jrI [.ref mo, .int a1] (mH mo A σ M) (jrd (mH mo A σ M) (X6_byteAt n M a1)) := by
  refine jCt.rd (lv := [(0, .ref mo), (1, .int a1)]) (plainFor_of_name (by decide)) (Nat.le_of_ble_eq_true rfl) rfl ?_
  intro t p e s m args below meth c ls X hr hnm hl
  have X : jCx p c cX6_byteAt 2 s m args RX6 G meth := X
  unfold X6_byteAt
  refine J.pu (fun _ _ _ _ k => lv_iload_n X.1.1 X.1.2.1 dX6_byteAt_0 rfl (lv_at hl 1 rfl) k) ?_
  refine J.pu (fun _ _ _ _ k => lv_aload_n X.1.1 X.1.2.1 dX6_byteAt_1 rfl (lv_at hl 0 rfl) k) ?_
  refine J.mgS (k := 9) X (by decide) q2739 rfl rfl dX6_byteAt_2 ?_
  refine J.br (fun _ _ _ _ ka kb => lv_icmp_ge (tgt := 17) X.1.1 X.1.2.1 dX6_byteAt_5 (by decide) ka kb) (fun c5 => ?_) (fun c5 => ?_)
  · refine J.pu (fun _ _ _ _ k => lv_iconst (v := (-1)) X.1.1 X.1.2.1 dX6_byteAt_17 (by decide) k) ?_
    exact J.iret (vr := jrI) (fin := fun _ : Int32 => (mH mo A σ M)) (t := t) X hr (by rfl) (by rfl) dX6_byteAt_18
  · refine J.pu (fun _ _ _ _ k => lv_aload_n X.1.1 X.1.2.1 dX6_byteAt_8 rfl (lv_at hl 0 rfl) k) ?_
    refine J.mgA (k := 8) X (by decide) q2738 rfl rfl dX6_byteAt_9 ?_
    refine J.pu (fun _ _ _ _ k => lv_iload_n X.1.1 X.1.2.1 dX6_byteAt_12 rfl (lv_at hl 1 rfl) k) ?_
    refine J.mld X hm (by decide) dX6_byteAt_13 (fun v13 h13 => ?_)
    refine J.pu (fun _ _ _ _ k => lv_goto (tgt := 18) X.1.1 X.1.2.1 dX6_byteAt_14 (by decide) k) ?_
    exact J.iret (vr := jrI) (fin := fun _ : Int32 => (mH mo A σ M)) (t := t) X hr (by rfl) (by rfl) dX6_byteAt_18
noncomputable def X6_isLetter (n : Nat) (M : jM) (a1 : Int32) : Option (Int32) :=
  (X6_byteAt n M a1).bind fun v2 => (X6_inRange n M v2 97 122).bind fun v9 => jbo .boolean v9 (some v9)
set_option maxHeartbeats 4000000 in
set_option maxRecDepth 100000 in
theorem ct_X6_isLetter (l : Launch) {G : jG} {mo : Nat} {A : Nat → Nat} (hm : mOK G mo A) (σ : jH) (n : Nat) (M : jM) (a1 : Int32) : jCt l G yX6_isLetter (ws_ yX6_isLetter cX6_isLetter 2 (some .boolean)) 1 22 jrI [.ref mo, .int a1] (mH mo A σ M) (jrd (mH mo A σ M) (X6_isLetter n M a1)) := by
  refine jCt.rd (lv := [(0, .ref mo), (1, .int a1)]) (plainFor_of_name (by decide)) (Nat.le_of_ble_eq_true rfl) rfl ?_
  intro t p e s m args below meth c ls X hr hnm hl
  have X : jCx p c cX6_isLetter 2 s m args RX6 G meth := X
  unfold X6_isLetter
  refine J.pu (fun _ _ _ _ k => lv_aload_n X.1.1 X.1.2.1 dX6_isLetter_0 rfl (lv_at hl 0 rfl) k) ?_
  refine J.pu (fun _ _ _ _ k => lv_iload_n X.1.1 X.1.2.1 dX6_isLetter_1 rfl (lv_at hl 1 rfl) k) ?_
  refine J.bind (fun v2 h2 => ?_)
  refine J.cV (q := (RX6, TX6, 26)) (ci := 5) (As := [.int a1]) (rest := []) (s2 := [.int v2]) X ⟨rfl, rfl⟩ (ct_X6_byteAt l hm σ n M a1) (jrd_of h2) (fun _ _ => cwV 1 X.1.2.2.2.2 (lw_V q2843 q2845 qs62 q174 q2846) rfl rfl rfl (by decide +kernel) ⟨(Nat.le_of_ble_eq_true rfl), (Nat.le_of_ble_eq_true rfl)⟩) mH_rc rfl rfl hl.1 rfl rfl (Nat.le_of_ble_eq_true rfl) dX6_isLetter_2 ?_
  refine J.pu (fun _ _ _ _ k => lv_bipush (v := 97) X.1.1 X.1.2.1 dX6_isLetter_5 (by decide) k) ?_
  refine J.pu (fun _ _ _ _ k => lv_bipush (v := 122) X.1.1 X.1.2.1 dX6_isLetter_7 (by decide) k) ?_
  refine J.bind (fun v9 h9 => ?_)
  refine J.cS (As := [.int v2, .int 97, .int 122]) (rest := []) (s2 := [.int v9]) X ⟨rfl, rfl⟩ (ct_X6_inRange l hm σ n M v2 97 122) (jrd_of h9) (fun _ _ => va_cwS 3 X.1.2.2.2.2 (lw_S q2825 q2826 q174 q2827) rfl rfl rfl (by decide +kernel) ⟨(Nat.le_of_ble_eq_true rfl), (Nat.le_of_ble_eq_true rfl)⟩) rfl hl.1 rfl rfl (Nat.le_of_ble_eq_true rfl) dX6_isLetter_9 ?_
  exact J.zretb (vr := jrI) (fin := fun _ : Int32 => (mH mo A σ M)) (t := t) X hr (by rfl) (by rfl) dX6_isLetter_12
noncomputable def X6_advanceToken_j26 (n : Nat) (rec0 : jM → Option (Unit × jM)) (B26 : jM) : Option (Unit × jM) :=
  rec0 (mP B26 14 ((B26.2 14) + 1))
noncomputable def X6_advanceToken_j257 (n : Nat) (s1_257 : Int32) (B257 : jM) : Option (Unit × jM) :=
  some ((), (mP (mP B257 17 s1_257) 14 (((mP B257 17 s1_257).2 14) + 1)))
noncomputable def X6_advanceToken_j204 (n : Nat) (rec146 : jM → Option (Unit × jM)) (s1_204 : Int32) (B204 : jM) : Option (Unit × jM) :=
  rec146 (mP (mP B204 16 s1_204) 14 (((mP B204 16 s1_204).2 14) + 1))
noncomputable def X6_advanceToken_h146 (n : Nat) (rec146 : jM → Option (Unit × jM)) (q146 : jM) : Option (Unit × jM) :=
  let B146 := q146; (X6_byteAt n B146 (B146.2 14)).bind fun v151 => (X6_inRange n B146 v151 48 57).bind fun v158 => if v158 = 0 then (if ((B146.2 14) - (B146.2 15)) ≤ 3 then (some ((), (mP B146 17 2))) else (some ((), (mP B146 17 4)))) else (if 3 ≤ ((B146.2 14) - (B146.2 15)) then (X6_advanceToken_j204 n rec146 (B146.2 16) B146) else ((X6_byteAt n B146 (B146.2 14)).bind fun v190 => X6_advanceToken_j204 n rec146 (((10 * (B146.2 16)) + v190) - 48) B146))
noncomputable def X6_advanceToken_h85 (n : Nat) (rec85 : jM → Option (Unit × jM)) (q85 : jM) : Option (Unit × jM) :=
  let B85 := q85; (X6_isLetter n B85 (B85.2 14)).bind fun v90 => if v90 = 0 then (if ((B85.2 14) - (B85.2 15)) ≤ 8 then (some ((), (mP B85 17 1))) else (some ((), (mP B85 17 4)))) else (rec85 (mP B85 14 ((B85.2 14) + 1)))
noncomputable def X6_advanceToken_h0 (n : Nat) (rec0 : jM → Option (Unit × jM)) (q0 : jM) : Option (Unit × jM) :=
  let B0 := q0; (X6_byteAt n B0 (B0.2 14)).bind fun v5 => if v5 = 32 then (X6_advanceToken_j26 n rec0 B0) else ((X6_byteAt n B0 (B0.2 14)).bind fun v18 => if v18 = 10 then (X6_advanceToken_j26 n rec0 B0) else ((X6_byteAt n (mP B0 15 (B0.2 14)) ((mP B0 15 (B0.2 14)).2 14)).bind fun v52 => if v52 = (-1) then (some ((), (mP (mP (mP B0 15 (B0.2 14)) 16 0) 17 0))) else ((X6_isLetter n (mP (mP B0 15 (B0.2 14)) 16 0) ((mP (mP B0 15 (B0.2 14)) 16 0).2 14)).bind fun v79 => if v79 = 0 then ((X6_inRange n (mP (mP B0 15 (B0.2 14)) 16 0) v52 48 57).bind fun v140 => if v140 = 0 then (if v52 = 59 then (X6_advanceToken_j257 n 3 (mP (mP B0 15 (B0.2 14)) 16 0)) else (X6_advanceToken_j257 n 4 (mP (mP B0 15 (B0.2 14)) 16 0))) else (jloop (X6_advanceToken_h146 n) n (mP (mP B0 15 (B0.2 14)) 16 0))) else (jloop (X6_advanceToken_h85 n) n (mP (mP B0 15 (B0.2 14)) 16 0)))))
noncomputable def X6_advanceToken (n : Nat) (M : jM) : Option (Unit × jM) :=
  jloop (X6_advanceToken_h0 n) n M
set_option maxHeartbeats 4000000 in
set_option maxRecDepth 100000 in
theorem ct_X6_advanceToken (l : Launch) {G : jG} {mo : Nat} {A : Nat → Nat} (hm : mOK G mo A) (σ : jH) (n : Nat) (M : jM) : jCt l G yX6_advanceToken (ws_ yX6_advanceToken cX6_advanceToken 2 none) 2 43 jrV [.ref mo] (mH mo A σ M) (mup mo A σ (X6_advanceToken n M)) := by
  refine jCt.wm (lv := [(0, .ref mo)]) (plainFor_of_name (by decide)) (Nat.le_of_ble_eq_true rfl) rfl ?_
  intro t p e s m args below meth c ls X hr hnm hl
  have X : jCx p c cX6_advanceToken 2 s m args RX6 G meth := X
  have j257 : ∀ (s1_257 : Int32) (B257 : jM) (ls : Array Slot), lv_has ls 2 [(0, .ref mo)] → jGo l G 2 43 (mH mo A σ M) (fun r : Unit × jM => mH mo A σ r.2) (fun t => jrV t.1) t p e s m args below meth c (X6_advanceToken_j257 n s1_257 B257) (mH mo A σ B257) (F0 m 257 ls [.int s1_257, .ref mo]) := by
    intro s1_257 B257 ls hl
    unfold X6_advanceToken_j257
    refine J.mpS (k := 17) X hm (by decide) q2747 rfl rfl rfl dX6_advanceToken_257 ?_
    refine J.pu (fun _ _ _ _ k => lv_aload_n X.1.1 X.1.2.1 dX6_advanceToken_260 rfl (lv_at hl 0 rfl) k) ?_
    refine J.pu (fun _ _ _ _ k => lv_dup X.1.1 X.1.2.1 dX6_advanceToken_261 rfl k) ?_
    refine J.mgS (k := 14) X (by decide) q2744 rfl rfl dX6_advanceToken_262 ?_
    refine J.pu (fun _ _ _ _ k => lv_iconst (v := 1) X.1.1 X.1.2.1 dX6_advanceToken_265 (by decide) k) ?_
    refine J.pu (fun _ _ _ _ k => lv_iadd X.1.1 X.1.2.1 dX6_advanceToken_266 k) ?_
    refine J.mpS (k := 14) X hm (by decide) q2744 rfl rfl rfl dX6_advanceToken_267 ?_
    exact J.vret (vr := fun t : Unit × jM => jrV t.1) (fin := fun r : Unit × jM => mH mo A σ r.2) (t := t) X hr (by rfl) (by rfl) dX6_advanceToken_270
  have L146 : ∀ (n146 : Nat) (B146 : jM) (ls : Array Slot), lv_has ls 2 [(0, .ref mo)] → jGo l G 2 43 (mH mo A σ M) (fun r : Unit × jM => mH mo A σ r.2) (fun t => jrV t.1) t p e s m args below meth c (jloop (X6_advanceToken_h146 n) n146 B146) (mH mo A σ B146) (F0 m 146 ls []) := by
    intro n146
    induction n146 with
    | zero => intro B146 ls hl; exact J.nil_
    | succ n146 ih146 =>
      have j204 : ∀ (s1_204 : Int32) (B204 : jM) (ls : Array Slot), lv_has ls 2 [(0, .ref mo)] → jGo l G 2 43 (mH mo A σ M) (fun r : Unit × jM => mH mo A σ r.2) (fun t => jrV t.1) t p e s m args below meth c (X6_advanceToken_j204 n (jloop (X6_advanceToken_h146 n) n146) s1_204 B204) (mH mo A σ B204) (F0 m 204 ls [.int s1_204, .ref mo]) := by
        intro s1_204 B204 ls hl
        unfold X6_advanceToken_j204
        refine J.mpS (k := 16) X hm (by decide) q2746 rfl rfl rfl dX6_advanceToken_204 ?_
        refine J.pu (fun _ _ _ _ k => lv_aload_n X.1.1 X.1.2.1 dX6_advanceToken_207 rfl (lv_at hl 0 rfl) k) ?_
        refine J.pu (fun _ _ _ _ k => lv_dup X.1.1 X.1.2.1 dX6_advanceToken_208 rfl k) ?_
        refine J.mgS (k := 14) X (by decide) q2744 rfl rfl dX6_advanceToken_209 ?_
        refine J.pu (fun _ _ _ _ k => lv_iconst (v := 1) X.1.1 X.1.2.1 dX6_advanceToken_212 (by decide) k) ?_
        refine J.pu (fun _ _ _ _ k => lv_iadd X.1.1 X.1.2.1 dX6_advanceToken_213 k) ?_
        refine J.mpS (k := 14) X hm (by decide) q2744 rfl rfl rfl dX6_advanceToken_214 ?_
        refine J.pu (fun _ _ _ _ k => lv_goto (tgt := 146) X.1.1 X.1.2.1 dX6_advanceToken_217 (by decide) k) ?_
        exact ih146 (mP (mP B204 16 s1_204) 14 (((mP B204 16 s1_204).2 14) + 1)) ls (lv_sub hl [0] rfl)
      intro B146 ls hl
      refine J.eq (jloop_s _ _ _) ?_
      dsimp only [X6_advanceToken_h146]
      refine J.pu (fun _ _ _ _ k => lv_aload_n X.1.1 X.1.2.1 dX6_advanceToken_146 rfl (lv_at hl 0 rfl) k) ?_
      refine J.pu (fun _ _ _ _ k => lv_aload_n X.1.1 X.1.2.1 dX6_advanceToken_147 rfl (lv_at hl 0 rfl) k) ?_
      refine J.mgS (k := 14) X (by decide) q2744 rfl rfl dX6_advanceToken_148 ?_
      refine J.bind (fun v151 h151 => ?_)
      refine J.cV (q := (RX6, TX6, 26)) (ci := 5) (As := [.int (B146.2 14)]) (rest := []) (s2 := [.int v151]) X ⟨rfl, rfl⟩ (ct_X6_byteAt l hm σ n B146 (B146.2 14)) (jrd_of h151) (fun _ _ => cwV 1 X.1.2.2.2.2 (lw_V q2843 q2845 qs62 q174 q2846) rfl rfl rfl (by decide +kernel) ⟨(Nat.le_of_ble_eq_true rfl), (Nat.le_of_ble_eq_true rfl)⟩) mH_rc rfl rfl hl.1 rfl rfl (Nat.le_of_ble_eq_true rfl) dX6_advanceToken_151 ?_
      refine J.pu (fun _ _ _ _ k => lv_bipush (v := 48) X.1.1 X.1.2.1 dX6_advanceToken_154 (by decide) k) ?_
      refine J.pu (fun _ _ _ _ k => lv_bipush (v := 57) X.1.1 X.1.2.1 dX6_advanceToken_156 (by decide) k) ?_
      refine J.bind (fun v158 h158 => ?_)
      refine J.cS (As := [.int v151, .int 48, .int 57]) (rest := []) (s2 := [.int v158]) X ⟨rfl, rfl⟩ (ct_X6_inRange l hm σ n B146 v151 48 57) (jrd_of h158) (fun _ _ => va_cwS 3 X.1.2.2.2.2 (lw_S q2825 q2826 q174 q2827) rfl rfl rfl (by decide +kernel) ⟨(Nat.le_of_ble_eq_true rfl), (Nat.le_of_ble_eq_true rfl)⟩) rfl hl.1 rfl rfl (Nat.le_of_ble_eq_true rfl) dX6_advanceToken_158 ?_
      refine J.br (fun _ _ _ _ ka kb => lv_if_eq (tgt := 220) X.1.1 X.1.2.1 dX6_advanceToken_161 (by decide) ka kb) (fun c161 => ?_) (fun c161 => ?_)
      · refine J.pu (fun _ _ _ _ k => lv_aload_n X.1.1 X.1.2.1 dX6_advanceToken_220 rfl (lv_at hl 0 rfl) k) ?_
        refine J.pu (fun _ _ _ _ k => lv_aload_n X.1.1 X.1.2.1 dX6_advanceToken_221 rfl (lv_at hl 0 rfl) k) ?_
        refine J.mgS (k := 14) X (by decide) q2744 rfl rfl dX6_advanceToken_222 ?_
        refine J.pu (fun _ _ _ _ k => lv_aload_n X.1.1 X.1.2.1 dX6_advanceToken_225 rfl (lv_at hl 0 rfl) k) ?_
        refine J.mgS (k := 15) X (by decide) q2745 rfl rfl dX6_advanceToken_226 ?_
        refine J.pu (fun _ _ _ _ k => lv_isub X.1.1 X.1.2.1 dX6_advanceToken_229 k) ?_
        refine J.pu (fun _ _ _ _ k => lv_iconst (v := 3) X.1.1 X.1.2.1 dX6_advanceToken_230 (by decide) k) ?_
        refine J.br (fun _ _ _ _ ka kb => lv_icmp_le (tgt := 238) X.1.1 X.1.2.1 dX6_advanceToken_231 (by decide) ka kb) (fun c231 => ?_) (fun c231 => ?_)
        · refine J.pu (fun _ _ _ _ k => lv_iconst (v := 2) X.1.1 X.1.2.1 dX6_advanceToken_238 (by decide) k) ?_
          refine J.mpS (k := 17) X hm (by decide) q2747 rfl rfl rfl dX6_advanceToken_239 ?_
          refine J.pu (fun _ _ _ _ k => lv_goto (tgt := 270) X.1.1 X.1.2.1 dX6_advanceToken_242 (by decide) k) ?_
          exact J.vret (vr := fun t : Unit × jM => jrV t.1) (fin := fun r : Unit × jM => mH mo A σ r.2) (t := t) X hr (by rfl) (by rfl) dX6_advanceToken_270
        · refine J.pu (fun _ _ _ _ k => lv_iconst (v := 4) X.1.1 X.1.2.1 dX6_advanceToken_234 (by decide) k) ?_
          refine J.pu (fun _ _ _ _ k => lv_goto (tgt := 239) X.1.1 X.1.2.1 dX6_advanceToken_235 (by decide) k) ?_
          refine J.mpS (k := 17) X hm (by decide) q2747 rfl rfl rfl dX6_advanceToken_239 ?_
          refine J.pu (fun _ _ _ _ k => lv_goto (tgt := 270) X.1.1 X.1.2.1 dX6_advanceToken_242 (by decide) k) ?_
          exact J.vret (vr := fun t : Unit × jM => jrV t.1) (fin := fun r : Unit × jM => mH mo A σ r.2) (t := t) X hr (by rfl) (by rfl) dX6_advanceToken_270
      · refine J.pu (fun _ _ _ _ k => lv_aload_n X.1.1 X.1.2.1 dX6_advanceToken_164 rfl (lv_at hl 0 rfl) k) ?_
        refine J.pu (fun _ _ _ _ k => lv_aload_n X.1.1 X.1.2.1 dX6_advanceToken_165 rfl (lv_at hl 0 rfl) k) ?_
        refine J.mgS (k := 14) X (by decide) q2744 rfl rfl dX6_advanceToken_166 ?_
        refine J.pu (fun _ _ _ _ k => lv_aload_n X.1.1 X.1.2.1 dX6_advanceToken_169 rfl (lv_at hl 0 rfl) k) ?_
        refine J.mgS (k := 15) X (by decide) q2745 rfl rfl dX6_advanceToken_170 ?_
        refine J.pu (fun _ _ _ _ k => lv_isub X.1.1 X.1.2.1 dX6_advanceToken_173 k) ?_
        refine J.pu (fun _ _ _ _ k => lv_iconst (v := 3) X.1.1 X.1.2.1 dX6_advanceToken_174 (by decide) k) ?_
        refine J.br (fun _ _ _ _ ka kb => lv_icmp_ge (tgt := 200) X.1.1 X.1.2.1 dX6_advanceToken_175 (by decide) ka kb) (fun c175 => ?_) (fun c175 => ?_)
        · refine J.pu (fun _ _ _ _ k => lv_aload_n X.1.1 X.1.2.1 dX6_advanceToken_200 rfl (lv_at hl 0 rfl) k) ?_
          refine J.mgS (k := 16) X (by decide) q2746 rfl rfl dX6_advanceToken_201 ?_
          exact j204 (B146.2 16) B146 ls (lv_sub hl [0] rfl)
        · refine J.pu (fun _ _ _ _ k => lv_bipush (v := 10) X.1.1 X.1.2.1 dX6_advanceToken_178 (by decide) k) ?_
          refine J.pu (fun _ _ _ _ k => lv_aload_n X.1.1 X.1.2.1 dX6_advanceToken_180 rfl (lv_at hl 0 rfl) k) ?_
          refine J.mgS (k := 16) X (by decide) q2746 rfl rfl dX6_advanceToken_181 ?_
          refine J.pu (fun _ _ _ _ k => lv_imul X.1.1 X.1.2.1 dX6_advanceToken_184 k) ?_
          refine J.pu (fun _ _ _ _ k => lv_aload_n X.1.1 X.1.2.1 dX6_advanceToken_185 rfl (lv_at hl 0 rfl) k) ?_
          refine J.pu (fun _ _ _ _ k => lv_aload_n X.1.1 X.1.2.1 dX6_advanceToken_186 rfl (lv_at hl 0 rfl) k) ?_
          refine J.mgS (k := 14) X (by decide) q2744 rfl rfl dX6_advanceToken_187 ?_
          refine J.bind (fun v190 h190 => ?_)
          refine J.cV (q := (RX6, TX6, 26)) (ci := 5) (As := [.int (B146.2 14)]) (rest := [.int (10 * (B146.2 16)), .ref mo]) (s2 := [.int v190, .int (10 * (B146.2 16)), .ref mo]) X ⟨rfl, rfl⟩ (ct_X6_byteAt l hm σ n B146 (B146.2 14)) (jrd_of h190) (fun _ _ => cwV 1 X.1.2.2.2.2 (lw_V q2843 q2845 qs62 q174 q2846) rfl rfl rfl (by decide +kernel) ⟨(Nat.le_of_ble_eq_true rfl), (Nat.le_of_ble_eq_true rfl)⟩) mH_rc rfl rfl hl.1 rfl rfl (Nat.le_of_ble_eq_true rfl) dX6_advanceToken_190 ?_
          refine J.pu (fun _ _ _ _ k => lv_iadd X.1.1 X.1.2.1 dX6_advanceToken_193 k) ?_
          refine J.pu (fun _ _ _ _ k => lv_bipush (v := 48) X.1.1 X.1.2.1 dX6_advanceToken_194 (by decide) k) ?_
          refine J.pu (fun _ _ _ _ k => lv_isub X.1.1 X.1.2.1 dX6_advanceToken_196 k) ?_
          refine J.pu (fun _ _ _ _ k => lv_goto (tgt := 204) X.1.1 X.1.2.1 dX6_advanceToken_197 (by decide) k) ?_
          exact j204 (((10 * (B146.2 16)) + v190) - 48) B146 ls (lv_sub hl [0] rfl)
  have L85 : ∀ (n85 : Nat) (B85 : jM) (ls : Array Slot), lv_has ls 2 [(0, .ref mo)] → jGo l G 2 43 (mH mo A σ M) (fun r : Unit × jM => mH mo A σ r.2) (fun t => jrV t.1) t p e s m args below meth c (jloop (X6_advanceToken_h85 n) n85 B85) (mH mo A σ B85) (F0 m 85 ls []) := by
    intro n85
    induction n85 with
    | zero => intro B85 ls hl; exact J.nil_
    | succ n85 ih85 =>
      intro B85 ls hl
      refine J.eq (jloop_s _ _ _) ?_
      dsimp only [X6_advanceToken_h85]
      refine J.pu (fun _ _ _ _ k => lv_aload_n X.1.1 X.1.2.1 dX6_advanceToken_85 rfl (lv_at hl 0 rfl) k) ?_
      refine J.pu (fun _ _ _ _ k => lv_aload_n X.1.1 X.1.2.1 dX6_advanceToken_86 rfl (lv_at hl 0 rfl) k) ?_
      refine J.mgS (k := 14) X (by decide) q2744 rfl rfl dX6_advanceToken_87 ?_
      refine J.bind (fun v90 h90 => ?_)
      refine J.cV (q := (RX6, TX6, 26)) (ci := 5) (As := [.int (B85.2 14)]) (rest := []) (s2 := [.int v90]) X ⟨rfl, rfl⟩ (ct_X6_isLetter l hm σ n B85 (B85.2 14)) (jrd_of h90) (fun _ _ => cwV 1 X.1.2.2.2.2 (lw_V q2847 q2849 qs63 q174 q2850) rfl rfl rfl (by decide +kernel) ⟨(Nat.le_of_ble_eq_true rfl), (Nat.le_of_ble_eq_true rfl)⟩) mH_rc rfl rfl hl.1 rfl rfl (Nat.le_of_ble_eq_true rfl) dX6_advanceToken_90 ?_
      refine J.br (fun _ _ _ _ ka kb => lv_if_eq (tgt := 109) X.1.1 X.1.2.1 dX6_advanceToken_93 (by decide) ka kb) (fun c93 => ?_) (fun c93 => ?_)
      · refine J.pu (fun _ _ _ _ k => lv_aload_n X.1.1 X.1.2.1 dX6_advanceToken_109 rfl (lv_at hl 0 rfl) k) ?_
        refine J.pu (fun _ _ _ _ k => lv_aload_n X.1.1 X.1.2.1 dX6_advanceToken_110 rfl (lv_at hl 0 rfl) k) ?_
        refine J.mgS (k := 14) X (by decide) q2744 rfl rfl dX6_advanceToken_111 ?_
        refine J.pu (fun _ _ _ _ k => lv_aload_n X.1.1 X.1.2.1 dX6_advanceToken_114 rfl (lv_at hl 0 rfl) k) ?_
        refine J.mgS (k := 15) X (by decide) q2745 rfl rfl dX6_advanceToken_115 ?_
        refine J.pu (fun _ _ _ _ k => lv_isub X.1.1 X.1.2.1 dX6_advanceToken_118 k) ?_
        refine J.pu (fun _ _ _ _ k => lv_bipush (v := 8) X.1.1 X.1.2.1 dX6_advanceToken_119 (by decide) k) ?_
        refine J.br (fun _ _ _ _ ka kb => lv_icmp_le (tgt := 128) X.1.1 X.1.2.1 dX6_advanceToken_121 (by decide) ka kb) (fun c121 => ?_) (fun c121 => ?_)
        · refine J.pu (fun _ _ _ _ k => lv_iconst (v := 1) X.1.1 X.1.2.1 dX6_advanceToken_128 (by decide) k) ?_
          refine J.mpS (k := 17) X hm (by decide) q2747 rfl rfl rfl dX6_advanceToken_129 ?_
          refine J.pu (fun _ _ _ _ k => lv_goto (tgt := 270) X.1.1 X.1.2.1 dX6_advanceToken_132 (by decide) k) ?_
          exact J.vret (vr := fun t : Unit × jM => jrV t.1) (fin := fun r : Unit × jM => mH mo A σ r.2) (t := t) X hr (by rfl) (by rfl) dX6_advanceToken_270
        · refine J.pu (fun _ _ _ _ k => lv_iconst (v := 4) X.1.1 X.1.2.1 dX6_advanceToken_124 (by decide) k) ?_
          refine J.pu (fun _ _ _ _ k => lv_goto (tgt := 129) X.1.1 X.1.2.1 dX6_advanceToken_125 (by decide) k) ?_
          refine J.mpS (k := 17) X hm (by decide) q2747 rfl rfl rfl dX6_advanceToken_129 ?_
          refine J.pu (fun _ _ _ _ k => lv_goto (tgt := 270) X.1.1 X.1.2.1 dX6_advanceToken_132 (by decide) k) ?_
          exact J.vret (vr := fun t : Unit × jM => jrV t.1) (fin := fun r : Unit × jM => mH mo A σ r.2) (t := t) X hr (by rfl) (by rfl) dX6_advanceToken_270
      · refine J.pu (fun _ _ _ _ k => lv_aload_n X.1.1 X.1.2.1 dX6_advanceToken_96 rfl (lv_at hl 0 rfl) k) ?_
        refine J.pu (fun _ _ _ _ k => lv_dup X.1.1 X.1.2.1 dX6_advanceToken_97 rfl k) ?_
        refine J.mgS (k := 14) X (by decide) q2744 rfl rfl dX6_advanceToken_98 ?_
        refine J.pu (fun _ _ _ _ k => lv_iconst (v := 1) X.1.1 X.1.2.1 dX6_advanceToken_101 (by decide) k) ?_
        refine J.pu (fun _ _ _ _ k => lv_iadd X.1.1 X.1.2.1 dX6_advanceToken_102 k) ?_
        refine J.mpS (k := 14) X hm (by decide) q2744 rfl rfl rfl dX6_advanceToken_103 ?_
        refine J.pu (fun _ _ _ _ k => lv_goto (tgt := 85) X.1.1 X.1.2.1 dX6_advanceToken_106 (by decide) k) ?_
        exact ih85 (mP B85 14 ((B85.2 14) + 1)) ls (lv_sub hl [0] rfl)
  have L0 : ∀ (n0 : Nat) (B0 : jM) (ls : Array Slot), lv_has ls 2 [(0, .ref mo)] → jGo l G 2 43 (mH mo A σ M) (fun r : Unit × jM => mH mo A σ r.2) (fun t => jrV t.1) t p e s m args below meth c (jloop (X6_advanceToken_h0 n) n0 B0) (mH mo A σ B0) (F0 m 0 ls []) := by
    intro n0
    induction n0 with
    | zero => intro B0 ls hl; exact J.nil_
    | succ n0 ih0 =>
      have j26 : ∀ (B26 : jM) (ls : Array Slot), lv_has ls 2 [(0, .ref mo)] → jGo l G 2 43 (mH mo A σ M) (fun r : Unit × jM => mH mo A σ r.2) (fun t => jrV t.1) t p e s m args below meth c (X6_advanceToken_j26 n (jloop (X6_advanceToken_h0 n) n0) B26) (mH mo A σ B26) (F0 m 26 ls []) := by
        intro B26 ls hl
        unfold X6_advanceToken_j26
        refine J.pu (fun _ _ _ _ k => lv_aload_n X.1.1 X.1.2.1 dX6_advanceToken_26 rfl (lv_at hl 0 rfl) k) ?_
        refine J.pu (fun _ _ _ _ k => lv_dup X.1.1 X.1.2.1 dX6_advanceToken_27 rfl k) ?_
        refine J.mgS (k := 14) X (by decide) q2744 rfl rfl dX6_advanceToken_28 ?_
        refine J.pu (fun _ _ _ _ k => lv_iconst (v := 1) X.1.1 X.1.2.1 dX6_advanceToken_31 (by decide) k) ?_
        refine J.pu (fun _ _ _ _ k => lv_iadd X.1.1 X.1.2.1 dX6_advanceToken_32 k) ?_
        refine J.mpS (k := 14) X hm (by decide) q2744 rfl rfl rfl dX6_advanceToken_33 ?_
        refine J.pu (fun _ _ _ _ k => lv_goto (tgt := 0) X.1.1 X.1.2.1 dX6_advanceToken_36 (by decide) k) ?_
        exact ih0 (mP B26 14 ((B26.2 14) + 1)) ls (lv_sub hl [0] rfl)
      intro B0 ls hl
      refine J.eq (jloop_s _ _ _) ?_
      dsimp only [X6_advanceToken_h0]
      refine J.pu (fun _ _ _ _ k => lv_aload_n X.1.1 X.1.2.1 dX6_advanceToken_0 rfl (lv_at hl 0 rfl) k) ?_
      refine J.pu (fun _ _ _ _ k => lv_aload_n X.1.1 X.1.2.1 dX6_advanceToken_1 rfl (lv_at hl 0 rfl) k) ?_
      refine J.mgS (k := 14) X (by decide) q2744 rfl rfl dX6_advanceToken_2 ?_
      refine J.bind (fun v5 h5 => ?_)
      refine J.cV (q := (RX6, TX6, 26)) (ci := 5) (As := [.int (B0.2 14)]) (rest := []) (s2 := [.int v5]) X ⟨rfl, rfl⟩ (ct_X6_byteAt l hm σ n B0 (B0.2 14)) (jrd_of h5) (fun _ _ => cwV 1 X.1.2.2.2.2 (lw_V q2843 q2845 qs62 q174 q2846) rfl rfl rfl (by decide +kernel) ⟨(Nat.le_of_ble_eq_true rfl), (Nat.le_of_ble_eq_true rfl)⟩) mH_rc rfl rfl hl.1 rfl rfl (Nat.le_of_ble_eq_true rfl) dX6_advanceToken_5 ?_
      refine J.pu (fun _ _ _ _ k => lv_bipush (v := 32) X.1.1 X.1.2.1 dX6_advanceToken_8 (by decide) k) ?_
      refine J.br (fun _ _ _ _ ka kb => lv_icmp_eq (tgt := 26) X.1.1 X.1.2.1 dX6_advanceToken_10 (by decide) ka kb) (fun c10 => ?_) (fun c10 => ?_)
      · exact j26 B0 ls (lv_sub hl [0] rfl)
      · refine J.pu (fun _ _ _ _ k => lv_aload_n X.1.1 X.1.2.1 dX6_advanceToken_13 rfl (lv_at hl 0 rfl) k) ?_
        refine J.pu (fun _ _ _ _ k => lv_aload_n X.1.1 X.1.2.1 dX6_advanceToken_14 rfl (lv_at hl 0 rfl) k) ?_
        refine J.mgS (k := 14) X (by decide) q2744 rfl rfl dX6_advanceToken_15 ?_
        refine J.bind (fun v18 h18 => ?_)
        refine J.cV (q := (RX6, TX6, 26)) (ci := 5) (As := [.int (B0.2 14)]) (rest := []) (s2 := [.int v18]) X ⟨rfl, rfl⟩ (ct_X6_byteAt l hm σ n B0 (B0.2 14)) (jrd_of h18) (fun _ _ => cwV 1 X.1.2.2.2.2 (lw_V q2843 q2845 qs62 q174 q2846) rfl rfl rfl (by decide +kernel) ⟨(Nat.le_of_ble_eq_true rfl), (Nat.le_of_ble_eq_true rfl)⟩) mH_rc rfl rfl hl.1 rfl rfl (Nat.le_of_ble_eq_true rfl) dX6_advanceToken_18 ?_
        refine J.pu (fun _ _ _ _ k => lv_bipush (v := 10) X.1.1 X.1.2.1 dX6_advanceToken_21 (by decide) k) ?_
        refine J.br (fun _ _ _ _ ka kb => lv_icmp_ne (tgt := 39) X.1.1 X.1.2.1 dX6_advanceToken_23 (by decide) kb ka) (fun c23 => ?_) (fun c23 => ?_)
        · exact j26 B0 ls (lv_sub hl [0] rfl)
        · refine J.pu (fun _ _ _ _ k => lv_aload_n X.1.1 X.1.2.1 dX6_advanceToken_39 rfl (lv_at hl 0 rfl) k) ?_
          refine J.pu (fun _ _ _ _ k => lv_aload_n X.1.1 X.1.2.1 dX6_advanceToken_40 rfl (lv_at hl 0 rfl) k) ?_
          refine J.mgS (k := 14) X (by decide) q2744 rfl rfl dX6_advanceToken_41 ?_
          refine J.mpS (k := 15) X hm (by decide) q2745 rfl rfl rfl dX6_advanceToken_44 ?_
          refine J.pu (fun _ _ _ _ k => lv_aload_n X.1.1 X.1.2.1 dX6_advanceToken_47 rfl (lv_at hl 0 rfl) k) ?_
          refine J.pu (fun _ _ _ _ k => lv_aload_n X.1.1 X.1.2.1 dX6_advanceToken_48 rfl (lv_at hl 0 rfl) k) ?_
          refine J.mgS (k := 14) X (by decide) q2744 rfl rfl dX6_advanceToken_49 ?_
          refine J.bind (fun v52 h52 => ?_)
          refine J.cV (q := (RX6, TX6, 26)) (ci := 5) (As := [.int ((mP B0 15 (B0.2 14)).2 14)]) (rest := []) (s2 := [.int v52]) X ⟨rfl, rfl⟩ (ct_X6_byteAt l hm σ n (mP B0 15 (B0.2 14)) ((mP B0 15 (B0.2 14)).2 14)) (jrd_of h52) (fun _ _ => cwV 1 X.1.2.2.2.2 (lw_V q2843 q2845 qs62 q174 q2846) rfl rfl rfl (by decide +kernel) ⟨(Nat.le_of_ble_eq_true rfl), (Nat.le_of_ble_eq_true rfl)⟩) mH_rc rfl rfl hl.1 rfl rfl (Nat.le_of_ble_eq_true rfl) dX6_advanceToken_52 ?_
          refine J.istore_n (i := 1) (lv' := [(1, .int v52), (0, .ref mo)]) X.1.1 X.1.2.1 dX6_advanceToken_55 rfl hl (by decide) (by first | rfl | simp [va_rf_cat, jcI, jcA, jcJ, jcD, jcF]) (fun ls hl => ?_)
          refine J.pu (fun _ _ _ _ k => lv_aload_n X.1.1 X.1.2.1 dX6_advanceToken_56 rfl (lv_at hl 1 rfl) k) ?_
          refine J.pu (fun _ _ _ _ k => lv_iconst (v := 0) X.1.1 X.1.2.1 dX6_advanceToken_57 (by decide) k) ?_
          refine J.mpS (k := 16) X hm (by decide) q2746 rfl rfl rfl dX6_advanceToken_58 ?_
          refine J.pu (fun _ _ _ _ k => lv_iload_n X.1.1 X.1.2.1 dX6_advanceToken_61 rfl (lv_at hl 0 rfl) k) ?_
          refine J.pu (fun _ _ _ _ k => lv_iconst (v := (-1)) X.1.1 X.1.2.1 dX6_advanceToken_62 (by decide) k) ?_
          refine J.br (fun _ _ _ _ ka kb => lv_icmp_ne (tgt := 74) X.1.1 X.1.2.1 dX6_advanceToken_63 (by decide) kb ka) (fun c63 => ?_) (fun c63 => ?_)
          · refine J.pu (fun _ _ _ _ k => lv_aload_n X.1.1 X.1.2.1 dX6_advanceToken_66 rfl (lv_at hl 1 rfl) k) ?_
            refine J.pu (fun _ _ _ _ k => lv_iconst (v := 0) X.1.1 X.1.2.1 dX6_advanceToken_67 (by decide) k) ?_
            refine J.mpS (k := 17) X hm (by decide) q2747 rfl rfl rfl dX6_advanceToken_68 ?_
            refine J.pu (fun _ _ _ _ k => lv_goto (tgt := 270) X.1.1 X.1.2.1 dX6_advanceToken_71 (by decide) k) ?_
            exact J.vret (vr := fun t : Unit × jM => jrV t.1) (fin := fun r : Unit × jM => mH mo A σ r.2) (t := t) X hr (by rfl) (by rfl) dX6_advanceToken_270
          · refine J.pu (fun _ _ _ _ k => lv_aload_n X.1.1 X.1.2.1 dX6_advanceToken_74 rfl (lv_at hl 1 rfl) k) ?_
            refine J.pu (fun _ _ _ _ k => lv_aload_n X.1.1 X.1.2.1 dX6_advanceToken_75 rfl (lv_at hl 1 rfl) k) ?_
            refine J.mgS (k := 14) X (by decide) q2744 rfl rfl dX6_advanceToken_76 ?_
            refine J.bind (fun v79 h79 => ?_)
            refine J.cV (q := (RX6, TX6, 26)) (ci := 5) (As := [.int ((mP (mP B0 15 (B0.2 14)) 16 0).2 14)]) (rest := []) (s2 := [.int v79]) X ⟨rfl, rfl⟩ (ct_X6_isLetter l hm σ n (mP (mP B0 15 (B0.2 14)) 16 0) ((mP (mP B0 15 (B0.2 14)) 16 0).2 14)) (jrd_of h79) (fun _ _ => cwV 1 X.1.2.2.2.2 (lw_V q2847 q2849 qs63 q174 q2850) rfl rfl rfl (by decide +kernel) ⟨(Nat.le_of_ble_eq_true rfl), (Nat.le_of_ble_eq_true rfl)⟩) mH_rc rfl rfl hl.1 rfl rfl (Nat.le_of_ble_eq_true rfl) dX6_advanceToken_79 ?_
            refine J.br (fun _ _ _ _ ka kb => lv_if_eq (tgt := 135) X.1.1 X.1.2.1 dX6_advanceToken_82 (by decide) ka kb) (fun c82 => ?_) (fun c82 => ?_)
            · refine J.pu (fun _ _ _ _ k => lv_iload_n X.1.1 X.1.2.1 dX6_advanceToken_135 rfl (lv_at hl 0 rfl) k) ?_
              refine J.pu (fun _ _ _ _ k => lv_bipush (v := 48) X.1.1 X.1.2.1 dX6_advanceToken_136 (by decide) k) ?_
              refine J.pu (fun _ _ _ _ k => lv_bipush (v := 57) X.1.1 X.1.2.1 dX6_advanceToken_138 (by decide) k) ?_
              refine J.bind (fun v140 h140 => ?_)
              refine J.cS (As := [.int v52, .int 48, .int 57]) (rest := []) (s2 := [.int v140]) X ⟨rfl, rfl⟩ (ct_X6_inRange l hm σ n (mP (mP B0 15 (B0.2 14)) 16 0) v52 48 57) (jrd_of h140) (fun _ _ => va_cwS 3 X.1.2.2.2.2 (lw_S q2825 q2826 q174 q2827) rfl rfl rfl (by decide +kernel) ⟨(Nat.le_of_ble_eq_true rfl), (Nat.le_of_ble_eq_true rfl)⟩) rfl hl.1 rfl rfl (Nat.le_of_ble_eq_true rfl) dX6_advanceToken_140 ?_
              refine J.br (fun _ _ _ _ ka kb => lv_if_eq (tgt := 245) X.1.1 X.1.2.1 dX6_advanceToken_143 (by decide) ka kb) (fun c143 => ?_) (fun c143 => ?_)
              · refine J.pu (fun _ _ _ _ k => lv_aload_n X.1.1 X.1.2.1 dX6_advanceToken_245 rfl (lv_at hl 1 rfl) k) ?_
                refine J.pu (fun _ _ _ _ k => lv_iload_n X.1.1 X.1.2.1 dX6_advanceToken_246 rfl (lv_at hl 0 rfl) k) ?_
                refine J.pu (fun _ _ _ _ k => lv_bipush (v := 59) X.1.1 X.1.2.1 dX6_advanceToken_247 (by decide) k) ?_
                refine J.br (fun _ _ _ _ ka kb => lv_icmp_ne (tgt := 256) X.1.1 X.1.2.1 dX6_advanceToken_249 (by decide) kb ka) (fun c249 => ?_) (fun c249 => ?_)
                · refine J.pu (fun _ _ _ _ k => lv_iconst (v := 3) X.1.1 X.1.2.1 dX6_advanceToken_252 (by decide) k) ?_
                  refine J.pu (fun _ _ _ _ k => lv_goto (tgt := 257) X.1.1 X.1.2.1 dX6_advanceToken_253 (by decide) k) ?_
                  exact j257 3 (mP (mP B0 15 (B0.2 14)) 16 0) ls (lv_sub hl [1] rfl)
                · refine J.pu (fun _ _ _ _ k => lv_iconst (v := 4) X.1.1 X.1.2.1 dX6_advanceToken_256 (by decide) k) ?_
                  exact j257 4 (mP (mP B0 15 (B0.2 14)) 16 0) ls (lv_sub hl [1] rfl)
              · exact L146 n (mP (mP B0 15 (B0.2 14)) 16 0) ls (lv_sub hl [1] rfl)
            · exact L85 n (mP (mP B0 15 (B0.2 14)) 16 0) ls (lv_sub hl [1] rfl)
  unfold X6_advanceToken
  exact L0 n M ls (lv_sub hl [0] rfl)
noncomputable def X6_isWord_h28 (n : Nat) (M : jM) (a1 : Nat) (rec28 : Int32 → Option (Int32)) (q28 : Int32) : Option (Int32) :=
  let x2_28 := q28; if (kLen a1) ≤ x2_28 then (some 1) else ((mA M 8 ((M.2 15) + x2_28)).bind fun v46 => (kChr a1 x2_28).bind fun v49 => if v46 = v49 then (rec28 (x2_28 + 1)) else (some 0))
noncomputable def X6_isWord (n : Nat) (M : jM) (a1 : Nat) : Option (Int32) :=
  if (M.2 17) = 1 then (if ((M.2 14) - (M.2 15)) = (kLen a1) then (jloop (X6_isWord_h28 n M a1) n 0) else (some 0)) else (some 0)
set_option maxHeartbeats 4000000 in
set_option maxRecDepth 100000 in
theorem ct_X6_isWord (l : Launch) {G : jG} {mo : Nat} {A : Nat → Nat} (hm : mOK G mo A) (σ : jH) (hs : jKS G σ) (n : Nat) (M : jM) (a1 : Nat) (hka1 : a1 < 46) : jCt l G yX6_isWord (ws_ yX6_isWord cX6_isWord 3 (some .boolean)) 7 221 jrI [.ref mo, va_rf (G.2.2.2 a1)] (mH mo A σ M) (jrd (mH mo A σ M) (X6_isWord n M a1)) := by
  refine jCt.rd (lv := [(0, .ref mo), (1, va_rf (G.2.2.2 a1))]) (plainFor_of_name (by decide)) (by simp [lg_sl, va_rf_cat, jcI, jcA, jcJ, jcD, jcF]) (by simp [lv_args, va_rf_cat, jcI, jcA, jcJ, jcD, jcF]) ?_
  intro t p e s m args below meth c ls X hr hnm hl
  have X : jCx p c cX6_isWord 3 s m args RX6 G meth := X
  have L28 : ∀ (n28 : Nat) (x2_28 : Int32) (ls : Array Slot), lv_has ls 3 [(0, .ref mo), (1, va_rf (G.2.2.2 a1)), (2, .int x2_28)] → jGo l G 7 221 (mH mo A σ M) (fun _ : Int32 => (mH mo A σ M)) jrI t p e s m args below meth c (jloop (X6_isWord_h28 n M a1) n28 x2_28) (mH mo A σ M) (F0 m 28 ls []) := by
    intro n28
    induction n28 with
    | zero => intro x2_28 ls hl; exact J.nil_
    | succ n28 ih28 =>
      intro x2_28 ls hl
      refine J.eq (jloop_s _ _ _) ?_
      dsimp only [X6_isWord_h28]
      refine J.pu (fun _ _ _ _ k => lv_iload_n X.1.1 X.1.2.1 dX6_isWord_28 rfl (lv_at hl 2 rfl) k) ?_
      refine J.pu (fun _ _ _ _ k => W.rload_n X.1.1 X.1.2.1 dX6_isWord_29 rfl (lv_at hl 1 rfl) k) ?_
      refine J.stLen (i := a1) X ⟨rfl, rfl⟩ hm hs hka1 (fun _ _ => cwV 0 X.1.2.2.2.2 (lw_V q2864 q384 q385 q149 q386) rfl rfl rfl (by decide +kernel) ⟨(Nat.le_of_ble_eq_true rfl), (Nat.le_of_ble_eq_true rfl)⟩) hl.1 (Nat.le_of_ble_eq_true rfl) dX6_isWord_30 ?_
      refine J.br (fun _ _ _ _ ka kb => lv_icmp_ge (tgt := 63) X.1.1 X.1.2.1 dX6_isWord_33 (by decide) ka kb) (fun c33 => ?_) (fun c33 => ?_)
      · refine J.pu (fun _ _ _ _ k => lv_iconst (v := 1) X.1.1 X.1.2.1 dX6_isWord_63 (by decide) k) ?_
        exact J.zret (vr := jrI) (fin := fun _ : Int32 => (mH mo A σ M)) (t := t) X hr (by decide) (by rfl) (by rfl) dX6_isWord_64
      · refine J.pu (fun _ _ _ _ k => lv_aload_n X.1.1 X.1.2.1 dX6_isWord_36 rfl (lv_at hl 0 rfl) k) ?_
        refine J.mgA (k := 8) X (by decide) q2738 rfl rfl dX6_isWord_37 ?_
        refine J.pu (fun _ _ _ _ k => lv_aload_n X.1.1 X.1.2.1 dX6_isWord_40 rfl (lv_at hl 0 rfl) k) ?_
        refine J.mgS (k := 15) X (by decide) q2745 rfl rfl dX6_isWord_41 ?_
        refine J.pu (fun _ _ _ _ k => lv_iload_n X.1.1 X.1.2.1 dX6_isWord_44 rfl (lv_at hl 2 rfl) k) ?_
        refine J.pu (fun _ _ _ _ k => lv_iadd X.1.1 X.1.2.1 dX6_isWord_45 k) ?_
        refine J.mld X hm (by decide) dX6_isWord_46 (fun v46 h46 => ?_)
        refine J.pu (fun _ _ _ _ k => W.rload_n X.1.1 X.1.2.1 dX6_isWord_47 rfl (lv_at hl 1 rfl) k) ?_
        refine J.pu (fun _ _ _ _ k => lv_iload_n X.1.1 X.1.2.1 dX6_isWord_48 rfl (lv_at hl 2 rfl) k) ?_
        refine J.stChr (i := a1) X ⟨rfl, rfl⟩ hm hs hka1 (fun _ _ => cwV 1 X.1.2.2.2.2 (lw_V q2865 q1469 q1470 q149 q1471) rfl rfl rfl (by decide +kernel) ⟨(Nat.le_of_ble_eq_true rfl), (Nat.le_of_ble_eq_true rfl)⟩) hl.1 (Nat.le_of_ble_eq_true rfl) dX6_isWord_49 (fun v49 h49 => ?_)
        refine J.br (fun _ _ _ _ ka kb => lv_icmp_eq (tgt := 57) X.1.1 X.1.2.1 dX6_isWord_52 (by decide) ka kb) (fun c52 => ?_) (fun c52 => ?_)
        · refine J.iinc (k := 2) (lv' := [(2, .int (x2_28 + 1)), (0, .ref mo), (1, va_rf (G.2.2.2 a1))]) (w := (x2_28 + 1)) X.1.1 X.1.2.1 dX6_isWord_57 hl rfl rfl (by decide) (by first | rfl | simp [va_rf_cat, jcI, jcA, jcJ, jcD, jcF]) (fun ls hl => ?_)
          refine J.pu (fun _ _ _ _ k => lv_goto (tgt := 28) X.1.1 X.1.2.1 dX6_isWord_60 (by decide) k) ?_
          exact ih28 (x2_28 + 1) ls (lv_sub hl [1, 2, 0] rfl)
        · refine J.pu (fun _ _ _ _ k => lv_iconst (v := 0) X.1.1 X.1.2.1 dX6_isWord_55 (by decide) k) ?_
          exact J.zret (vr := jrI) (fin := fun _ : Int32 => (mH mo A σ M)) (t := t) X hr (by decide) (by rfl) (by rfl) dX6_isWord_56
  unfold X6_isWord
  refine J.pu (fun _ _ _ _ k => lv_aload_n X.1.1 X.1.2.1 dX6_isWord_0 rfl (lv_at hl 0 rfl) k) ?_
  refine J.mgS (k := 17) X (by decide) q2747 rfl rfl dX6_isWord_1 ?_
  refine J.pu (fun _ _ _ _ k => lv_iconst (v := 1) X.1.1 X.1.2.1 dX6_isWord_4 (by decide) k) ?_
  refine J.br (fun _ _ _ _ ka kb => lv_icmp_ne (tgt := 24) X.1.1 X.1.2.1 dX6_isWord_5 (by decide) kb ka) (fun c5 => ?_) (fun c5 => ?_)
  · refine J.pu (fun _ _ _ _ k => lv_aload_n X.1.1 X.1.2.1 dX6_isWord_8 rfl (lv_at hl 0 rfl) k) ?_
    refine J.mgS (k := 14) X (by decide) q2744 rfl rfl dX6_isWord_9 ?_
    refine J.pu (fun _ _ _ _ k => lv_aload_n X.1.1 X.1.2.1 dX6_isWord_12 rfl (lv_at hl 0 rfl) k) ?_
    refine J.mgS (k := 15) X (by decide) q2745 rfl rfl dX6_isWord_13 ?_
    refine J.pu (fun _ _ _ _ k => lv_isub X.1.1 X.1.2.1 dX6_isWord_16 k) ?_
    refine J.pu (fun _ _ _ _ k => W.rload_n X.1.1 X.1.2.1 dX6_isWord_17 rfl (lv_at hl 1 rfl) k) ?_
    refine J.stLen (i := a1) X ⟨rfl, rfl⟩ hm hs hka1 (fun _ _ => cwV 0 X.1.2.2.2.2 (lw_V q2864 q384 q385 q149 q386) rfl rfl rfl (by decide +kernel) ⟨(Nat.le_of_ble_eq_true rfl), (Nat.le_of_ble_eq_true rfl)⟩) hl.1 (Nat.le_of_ble_eq_true rfl) dX6_isWord_18 ?_
    refine J.br (fun _ _ _ _ ka kb => lv_icmp_eq (tgt := 26) X.1.1 X.1.2.1 dX6_isWord_21 (by decide) ka kb) (fun c21 => ?_) (fun c21 => ?_)
    · refine J.pu (fun _ _ _ _ k => lv_iconst (v := 0) X.1.1 X.1.2.1 dX6_isWord_26 (by decide) k) ?_
      refine J.istore_n (i := 2) (lv' := [(2, .int 0), (0, .ref mo), (1, va_rf (G.2.2.2 a1))]) X.1.1 X.1.2.1 dX6_isWord_27 rfl hl (by decide) (by first | rfl | simp [va_rf_cat, jcI, jcA, jcJ, jcD, jcF]) (fun ls hl => ?_)
      exact L28 n 0 ls (lv_sub hl [1, 2, 0] rfl)
    · refine J.pu (fun _ _ _ _ k => lv_iconst (v := 0) X.1.1 X.1.2.1 dX6_isWord_24 (by decide) k) ?_
      exact J.zret (vr := jrI) (fin := fun _ : Int32 => (mH mo A σ M)) (t := t) X hr (by decide) (by rfl) (by rfl) dX6_isWord_25
  · refine J.pu (fun _ _ _ _ k => lv_iconst (v := 0) X.1.1 X.1.2.1 dX6_isWord_24 (by decide) k) ?_
    exact J.zret (vr := jrI) (fin := fun _ : Int32 => (mH mo A σ M)) (t := t) X hr (by decide) (by rfl) (by rfl) dX6_isWord_25
noncomputable def X6_seesNumber (n : Nat) (M : jM) (a1 : Int32) (a2 : Int32) : Option (Int32 × jM) :=
  if (M.2 17) = 2 then ((X6_inRange n M (M.2 16) a1 a2).bind fun v20 => if v20 = 0 then (bd (X6_failsAt n M 2) fun v28 M28 => jbo .boolean v28 (some (v28, M28))) else (some (1, (mP M 18 (M.2 16))))) else (bd (X6_failsAt n M 1) fun v10 M10 => jbo .boolean v10 (some (v10, M10)))
set_option maxHeartbeats 4000000 in
set_option maxRecDepth 100000 in
theorem ct_X6_seesNumber (l : Launch) {G : jG} {mo : Nat} {A : Nat → Nat} (hm : mOK G mo A) (σ : jH) (n : Nat) (M : jM) (a1 : Int32) (a2 : Int32) : jCt l G yX6_seesNumber (ws_ yX6_seesNumber cX6_seesNumber 3 (some .boolean)) 1 22 jrI [.ref mo, .int a1, .int a2] (mH mo A σ M) (mup mo A σ (X6_seesNumber n M a1 a2)) := by
  refine jCt.wm (lv := [(0, .ref mo), (1, .int a1), (2, .int a2)]) (plainFor_of_name (by decide)) (Nat.le_of_ble_eq_true rfl) rfl ?_
  intro t p e s m args below meth c ls X hr hnm hl
  have X : jCx p c cX6_seesNumber 3 s m args RX6 G meth := X
  unfold X6_seesNumber
  refine J.pu (fun _ _ _ _ k => lv_aload_n X.1.1 X.1.2.1 dX6_seesNumber_0 rfl (lv_at hl 0 rfl) k) ?_
  refine J.mgS (k := 17) X (by decide) q2747 rfl rfl dX6_seesNumber_1 ?_
  refine J.pu (fun _ _ _ _ k => lv_iconst (v := 2) X.1.1 X.1.2.1 dX6_seesNumber_4 (by decide) k) ?_
  refine J.br (fun _ _ _ _ ka kb => lv_icmp_eq (tgt := 14) X.1.1 X.1.2.1 dX6_seesNumber_5 (by decide) ka kb) (fun c5 => ?_) (fun c5 => ?_)
  · refine J.pu (fun _ _ _ _ k => lv_aload_n X.1.1 X.1.2.1 dX6_seesNumber_14 rfl (lv_at hl 0 rfl) k) ?_
    refine J.mgS (k := 16) X (by decide) q2746 rfl rfl dX6_seesNumber_15 ?_
    refine J.pu (fun _ _ _ _ k => lv_iload_n X.1.1 X.1.2.1 dX6_seesNumber_18 rfl (lv_at hl 1 rfl) k) ?_
    refine J.pu (fun _ _ _ _ k => lv_iload_n X.1.1 X.1.2.1 dX6_seesNumber_19 rfl (lv_at hl 2 rfl) k) ?_
    refine J.bind (fun v20 h20 => ?_)
    refine J.cS (As := [.int (M.2 16), .int a1, .int a2]) (rest := []) (s2 := [.int v20]) X ⟨rfl, rfl⟩ (ct_X6_inRange l hm σ n M (M.2 16) a1 a2) (jrd_of h20) (fun _ _ => va_cwS 3 X.1.2.2.2.2 (lw_S q2825 q2826 q174 q2827) rfl rfl rfl (by decide +kernel) ⟨(Nat.le_of_ble_eq_true rfl), (Nat.le_of_ble_eq_true rfl)⟩) rfl hl.1 rfl rfl (Nat.le_of_ble_eq_true rfl) dX6_seesNumber_20 ?_
    refine J.br (fun _ _ _ _ ka kb => lv_if_ne (tgt := 32) X.1.1 X.1.2.1 dX6_seesNumber_23 (by decide) kb ka) (fun c23 => ?_) (fun c23 => ?_)
    · refine J.pu (fun _ _ _ _ k => lv_aload_n X.1.1 X.1.2.1 dX6_seesNumber_26 rfl (lv_at hl 0 rfl) k) ?_
      refine J.pu (fun _ _ _ _ k => lv_iconst (v := 2) X.1.1 X.1.2.1 dX6_seesNumber_27 (by decide) k) ?_
      refine J.bd' (fun v28 M28 h28 => ?_)
      refine J.cV (q := (RX6, TX6, 26)) (ci := 5) (As := [.int 2]) (rest := []) (s2 := [.int v28]) X ⟨rfl, rfl⟩ (ct_X6_failsAt l hm σ n M 2) (mup_of h28) (fun _ _ => cwV 1 X.1.2.2.2.2 (lw_V q2866 q2868 qs67 q174 q2869) rfl rfl rfl (by decide +kernel) ⟨(Nat.le_of_ble_eq_true rfl), (Nat.le_of_ble_eq_true rfl)⟩) mH_rc rfl rfl hl.1 rfl rfl (Nat.le_of_ble_eq_true rfl) dX6_seesNumber_28 ?_
      exact J.zretb (vr := fun t : Int32 × jM => jrI t.1) (fin := fun r : Int32 × jM => mH mo A σ r.2) (t := t) X hr (by rfl) (by rfl) dX6_seesNumber_31
    · refine J.pu (fun _ _ _ _ k => lv_aload_n X.1.1 X.1.2.1 dX6_seesNumber_32 rfl (lv_at hl 0 rfl) k) ?_
      refine J.pu (fun _ _ _ _ k => lv_aload_n X.1.1 X.1.2.1 dX6_seesNumber_33 rfl (lv_at hl 0 rfl) k) ?_
      refine J.mgS (k := 16) X (by decide) q2746 rfl rfl dX6_seesNumber_34 ?_
      refine J.mpS (k := 18) X hm (by decide) q2748 rfl rfl rfl dX6_seesNumber_37 ?_
      refine J.pu (fun _ _ _ _ k => lv_iconst (v := 1) X.1.1 X.1.2.1 dX6_seesNumber_40 (by decide) k) ?_
      exact J.zret (vr := fun t : Int32 × jM => jrI t.1) (fin := fun r : Int32 × jM => mH mo A σ r.2) (t := t) X hr (by decide) (by rfl) (by rfl) dX6_seesNumber_41
  · refine J.pu (fun _ _ _ _ k => lv_aload_n X.1.1 X.1.2.1 dX6_seesNumber_8 rfl (lv_at hl 0 rfl) k) ?_
    refine J.pu (fun _ _ _ _ k => lv_iconst (v := 1) X.1.1 X.1.2.1 dX6_seesNumber_9 (by decide) k) ?_
    refine J.bd' (fun v10 M10 h10 => ?_)
    refine J.cV (q := (RX6, TX6, 26)) (ci := 5) (As := [.int 1]) (rest := []) (s2 := [.int v10]) X ⟨rfl, rfl⟩ (ct_X6_failsAt l hm σ n M 1) (mup_of h10) (fun _ _ => cwV 1 X.1.2.2.2.2 (lw_V q2866 q2868 qs67 q174 q2869) rfl rfl rfl (by decide +kernel) ⟨(Nat.le_of_ble_eq_true rfl), (Nat.le_of_ble_eq_true rfl)⟩) mH_rc rfl rfl hl.1 rfl rfl (Nat.le_of_ble_eq_true rfl) dX6_seesNumber_10 ?_
    exact J.zretb (vr := fun t : Int32 × jM => jrI t.1) (fin := fun r : Int32 × jM => mH mo A σ r.2) (t := t) X hr (by rfl) (by rfl) dX6_seesNumber_13
noncomputable def X6_takesNumber (n : Nat) (M : jM) (a1 : Int32) (a2 : Int32) : Option (Int32 × jM) :=
  bd (X6_seesNumber n M a1 a2) fun v3 M3 => if v3 = 0 then (some (0, M3)) else (bd (X6_advanceToken n M3) fun v12 M12 => some (1, M12))
set_option maxHeartbeats 4000000 in
set_option maxRecDepth 100000 in
theorem ct_X6_takesNumber (l : Launch) {G : jG} {mo : Nat} {A : Nat → Nat} (hm : mOK G mo A) (σ : jH) (n : Nat) (M : jM) (a1 : Int32) (a2 : Int32) : jCt l G yX6_takesNumber (ws_ yX6_takesNumber cX6_takesNumber 3 (some .boolean)) 3 64 jrI [.ref mo, .int a1, .int a2] (mH mo A σ M) (mup mo A σ (X6_takesNumber n M a1 a2)) := by
  refine jCt.wm (lv := [(0, .ref mo), (1, .int a1), (2, .int a2)]) (plainFor_of_name (by decide)) (Nat.le_of_ble_eq_true rfl) rfl ?_
  intro t p e s m args below meth c ls X hr hnm hl
  have X : jCx p c cX6_takesNumber 3 s m args RX6 G meth := X
  unfold X6_takesNumber
  refine J.pu (fun _ _ _ _ k => lv_aload_n X.1.1 X.1.2.1 dX6_takesNumber_0 rfl (lv_at hl 0 rfl) k) ?_
  refine J.pu (fun _ _ _ _ k => lv_iload_n X.1.1 X.1.2.1 dX6_takesNumber_1 rfl (lv_at hl 1 rfl) k) ?_
  refine J.pu (fun _ _ _ _ k => lv_iload_n X.1.1 X.1.2.1 dX6_takesNumber_2 rfl (lv_at hl 2 rfl) k) ?_
  refine J.bd' (fun v3 M3 h3 => ?_)
  refine J.cV (q := (RX6, TX6, 26)) (ci := 5) (As := [.int a1, .int a2]) (rest := []) (s2 := [.int v3]) X ⟨rfl, rfl⟩ (ct_X6_seesNumber l hm σ n M a1 a2) (mup_of h3) (fun _ _ => cwV 2 X.1.2.2.2.2 (lw_V q2878 q2880 qs70 q174 q2881) rfl rfl rfl (by decide +kernel) ⟨(Nat.le_of_ble_eq_true rfl), (Nat.le_of_ble_eq_true rfl)⟩) mH_rc rfl rfl hl.1 rfl rfl (Nat.le_of_ble_eq_true rfl) dX6_takesNumber_3 ?_
  refine J.br (fun _ _ _ _ ka kb => lv_if_ne (tgt := 11) X.1.1 X.1.2.1 dX6_takesNumber_6 (by decide) kb ka) (fun c6 => ?_) (fun c6 => ?_)
  · refine J.pu (fun _ _ _ _ k => lv_iconst (v := 0) X.1.1 X.1.2.1 dX6_takesNumber_9 (by decide) k) ?_
    exact J.zret (vr := fun t : Int32 × jM => jrI t.1) (fin := fun r : Int32 × jM => mH mo A σ r.2) (t := t) X hr (by decide) (by rfl) (by rfl) dX6_takesNumber_10
  · refine J.pu (fun _ _ _ _ k => lv_aload_n X.1.1 X.1.2.1 dX6_takesNumber_11 rfl (lv_at hl 0 rfl) k) ?_
    refine J.bd' (fun v12 M12 h12 => ?_)
    refine J.cV (q := (RX6, TX6, 26)) (ci := 5) (As := []) (rest := []) (s2 := []) X ⟨rfl, rfl⟩ (ct_X6_advanceToken l hm σ n M3) (mup_of h12) (fun _ _ => cwV 0 X.1.2.2.2.2 (lw_V q2839 q2841 qs61 q174 q2842) rfl rfl rfl (by decide +kernel) ⟨(Nat.le_of_ble_eq_true rfl), (Nat.le_of_ble_eq_true rfl)⟩) mH_rc rfl rfl hl.1 rfl rfl (Nat.le_of_ble_eq_true rfl) dX6_takesNumber_12 ?_
    refine J.pu (fun _ _ _ _ k => lv_iconst (v := 1) X.1.1 X.1.2.1 dX6_takesNumber_15 (by decide) k) ?_
    exact J.zret (vr := fun t : Int32 × jM => jrI t.1) (fin := fun r : Int32 × jM => mH mo A σ r.2) (t := t) X hr (by decide) (by rfl) (by rfl) dX6_takesNumber_16
noncomputable def X6_takes (n : Nat) (M : jM) (a1 : Int32) (a2 : Int32) (a3 : Int32) : Option (Int32 × jM) :=
  bd (X6_takesNumber n M a2 a3) fun v3 M3 => if v3 = 0 then (some (0, M3)) else ((mS M3 19 a1 (M3.2 18)).bind fun M20 => some (1, M20))
set_option maxHeartbeats 4000000 in
set_option maxRecDepth 100000 in
theorem ct_X6_takes (l : Launch) {G : jG} {mo : Nat} {A : Nat → Nat} (hm : mOK G mo A) (σ : jH) (n : Nat) (M : jM) (a1 : Int32) (a2 : Int32) (a3 : Int32) : jCt l G yX6_takes (ws_ yX6_takes cX6_takes 4 (some .boolean)) 4 86 jrI [.ref mo, .int a1, .int a2, .int a3] (mH mo A σ M) (mup mo A σ (X6_takes n M a1 a2 a3)) := by
  refine jCt.wm (lv := [(0, .ref mo), (1, .int a1), (2, .int a2), (3, .int a3)]) (plainFor_of_name (by decide)) (Nat.le_of_ble_eq_true rfl) rfl ?_
  intro t p e s m args below meth c ls X hr hnm hl
  have X : jCx p c cX6_takes 4 s m args RX6 G meth := X
  unfold X6_takes
  refine J.pu (fun _ _ _ _ k => lv_aload_n X.1.1 X.1.2.1 dX6_takes_0 rfl (lv_at hl 0 rfl) k) ?_
  refine J.pu (fun _ _ _ _ k => lv_iload_n X.1.1 X.1.2.1 dX6_takes_1 rfl (lv_at hl 2 rfl) k) ?_
  refine J.pu (fun _ _ _ _ k => lv_iload_n X.1.1 X.1.2.1 dX6_takes_2 rfl (lv_at hl 3 rfl) k) ?_
  refine J.bd' (fun v3 M3 h3 => ?_)
  refine J.cV (q := (RX6, TX6, 26)) (ci := 5) (As := [.int a2, .int a3]) (rest := []) (s2 := [.int v3]) X ⟨rfl, rfl⟩ (ct_X6_takesNumber l hm σ n M a2 a3) (mup_of h3) (fun _ _ => cwV 2 X.1.2.2.2.2 (lw_V q2874 q2876 qs69 q174 q2877) rfl rfl rfl (by decide +kernel) ⟨(Nat.le_of_ble_eq_true rfl), (Nat.le_of_ble_eq_true rfl)⟩) mH_rc rfl rfl hl.1 rfl rfl (Nat.le_of_ble_eq_true rfl) dX6_takes_3 ?_
  refine J.br (fun _ _ _ _ ka kb => lv_if_ne (tgt := 11) X.1.1 X.1.2.1 dX6_takes_6 (by decide) kb ka) (fun c6 => ?_) (fun c6 => ?_)
  · refine J.pu (fun _ _ _ _ k => lv_iconst (v := 0) X.1.1 X.1.2.1 dX6_takes_9 (by decide) k) ?_
    exact J.zret (vr := fun t : Int32 × jM => jrI t.1) (fin := fun r : Int32 × jM => mH mo A σ r.2) (t := t) X hr (by decide) (by rfl) (by rfl) dX6_takes_10
  · refine J.pu (fun _ _ _ _ k => lv_aload_n X.1.1 X.1.2.1 dX6_takes_11 rfl (lv_at hl 0 rfl) k) ?_
    refine J.mgA (k := 19) X (by decide) q2749 rfl rfl dX6_takes_12 ?_
    refine J.pu (fun _ _ _ _ k => lv_iload_n X.1.1 X.1.2.1 dX6_takes_15 rfl (lv_at hl 1 rfl) k) ?_
    refine J.pu (fun _ _ _ _ k => lv_aload_n X.1.1 X.1.2.1 dX6_takes_16 rfl (lv_at hl 0 rfl) k) ?_
    refine J.mgS (k := 18) X (by decide) q2748 rfl rfl dX6_takes_17 ?_
    refine J.mst X hm (by decide) dX6_takes_20 (fun M20 h20 => ?_)
    refine J.pu (fun _ _ _ _ k => lv_iconst (v := 1) X.1.1 X.1.2.1 dX6_takes_21 (by decide) k) ?_
    exact J.zret (vr := fun t : Int32 × jM => jrI t.1) (fin := fun r : Int32 × jM => mH mo A σ r.2) (t := t) X hr (by decide) (by rfl) (by rfl) dX6_takes_22
noncomputable def X6_takesSemicolon (n : Nat) (M : jM) : Option (Int32 × jM) :=
  if (M.2 17) = 3 then (bd (X6_advanceToken n M) fun v15 M15 => some (1, M15)) else (bd (X6_failsAt n M 1) fun v10 M10 => jbo .boolean v10 (some (v10, M10)))
set_option maxHeartbeats 4000000 in
set_option maxRecDepth 100000 in
theorem ct_X6_takesSemicolon (l : Launch) {G : jG} {mo : Nat} {A : Nat → Nat} (hm : mOK G mo A) (σ : jH) (n : Nat) (M : jM) : jCt l G yX6_takesSemicolon (ws_ yX6_takesSemicolon cX6_takesSemicolon 1 (some .boolean)) 3 64 jrI [.ref mo] (mH mo A σ M) (mup mo A σ (X6_takesSemicolon n M)) := by
  refine jCt.wm (lv := [(0, .ref mo)]) (plainFor_of_name (by decide)) (Nat.le_of_ble_eq_true rfl) rfl ?_
  intro t p e s m args below meth c ls X hr hnm hl
  have X : jCx p c cX6_takesSemicolon 1 s m args RX6 G meth := X
  unfold X6_takesSemicolon
  refine J.pu (fun _ _ _ _ k => lv_aload_n X.1.1 X.1.2.1 dX6_takesSemicolon_0 rfl (lv_at hl 0 rfl) k) ?_
  refine J.mgS (k := 17) X (by decide) q2747 rfl rfl dX6_takesSemicolon_1 ?_
  refine J.pu (fun _ _ _ _ k => lv_iconst (v := 3) X.1.1 X.1.2.1 dX6_takesSemicolon_4 (by decide) k) ?_
  refine J.br (fun _ _ _ _ ka kb => lv_icmp_eq (tgt := 14) X.1.1 X.1.2.1 dX6_takesSemicolon_5 (by decide) ka kb) (fun c5 => ?_) (fun c5 => ?_)
  · refine J.pu (fun _ _ _ _ k => lv_aload_n X.1.1 X.1.2.1 dX6_takesSemicolon_14 rfl (lv_at hl 0 rfl) k) ?_
    refine J.bd' (fun v15 M15 h15 => ?_)
    refine J.cV (q := (RX6, TX6, 26)) (ci := 5) (As := []) (rest := []) (s2 := []) X ⟨rfl, rfl⟩ (ct_X6_advanceToken l hm σ n M) (mup_of h15) (fun _ _ => cwV 0 X.1.2.2.2.2 (lw_V q2839 q2841 qs61 q174 q2842) rfl rfl rfl (by decide +kernel) ⟨(Nat.le_of_ble_eq_true rfl), (Nat.le_of_ble_eq_true rfl)⟩) mH_rc rfl rfl hl.1 rfl rfl (Nat.le_of_ble_eq_true rfl) dX6_takesSemicolon_15 ?_
    refine J.pu (fun _ _ _ _ k => lv_iconst (v := 1) X.1.1 X.1.2.1 dX6_takesSemicolon_18 (by decide) k) ?_
    exact J.zret (vr := fun t : Int32 × jM => jrI t.1) (fin := fun r : Int32 × jM => mH mo A σ r.2) (t := t) X hr (by decide) (by rfl) (by rfl) dX6_takesSemicolon_19
  · refine J.pu (fun _ _ _ _ k => lv_aload_n X.1.1 X.1.2.1 dX6_takesSemicolon_8 rfl (lv_at hl 0 rfl) k) ?_
    refine J.pu (fun _ _ _ _ k => lv_iconst (v := 1) X.1.1 X.1.2.1 dX6_takesSemicolon_9 (by decide) k) ?_
    refine J.bd' (fun v10 M10 h10 => ?_)
    refine J.cV (q := (RX6, TX6, 26)) (ci := 5) (As := [.int 1]) (rest := []) (s2 := [.int v10]) X ⟨rfl, rfl⟩ (ct_X6_failsAt l hm σ n M 1) (mup_of h10) (fun _ _ => cwV 1 X.1.2.2.2.2 (lw_V q2866 q2868 qs67 q174 q2869) rfl rfl rfl (by decide +kernel) ⟨(Nat.le_of_ble_eq_true rfl), (Nat.le_of_ble_eq_true rfl)⟩) mH_rc rfl rfl hl.1 rfl rfl (Nat.le_of_ble_eq_true rfl) dX6_takesSemicolon_10 ?_
    exact J.zretb (vr := fun t : Int32 × jM => jrI t.1) (fin := fun r : Int32 × jM => mH mo A σ r.2) (t := t) X hr (by rfl) (by rfl) dX6_takesSemicolon_13
noncomputable def X6_readLoop (n : Nat) (M : jM) : Option (Int32 × jM) :=
  (X6_isWord n M 35).bind fun v3 => if v3 = 0 then (bd (X6_failsAt n M 1) fun v11 M11 => jbo .boolean v11 (some (v11, M11))) else (bd (X6_advanceToken n M) fun v16 M16 => bd (X6_takes n M16 0 6 40) fun v25 M25 => if v25 = 0 then (some (0, M25)) else ((mA M25 19 0).bind fun v39 => bd (X6_takes n M25 1 0 (v39 - 1)) fun v42 M42 => if v42 = 0 then (some (0, M42)) else ((mA M42 19 0).bind fun v56 => (mA M42 19 1).bind fun v62 => bd (X6_begins n M42 v56 v62) fun v63 M63 => bd (X6_takesSemicolon n M63) fun v67 M67 => jbo .boolean v67 (some (v67, M67)))))
set_option maxHeartbeats 4000000 in
set_option maxRecDepth 100000 in
theorem ct_X6_readLoop (l : Launch) {G : jG} {mo : Nat} {A : Nat → Nat} (hm : mOK G mo A) (σ : jH) (hs : jKS G σ) (n : Nat) (M : jM) : jCt l G yX6_readLoop (ws_ yX6_readLoop cX6_readLoop 1 (some .boolean)) 8 243 jrI [.ref mo] (mH mo A σ M) (mup mo A σ (X6_readLoop n M)) := by
  refine jCt.wm (lv := [(0, .ref mo)]) (plainFor_of_name (by decide)) (Nat.le_of_ble_eq_true rfl) rfl ?_
  intro t p e s m args below meth c ls X hr hnm hl
  have X : jCx p c cX6_readLoop 1 s m args RX6 G meth := X
  unfold X6_readLoop
  refine J.pu (fun _ _ _ _ k => lv_aload_n X.1.1 X.1.2.1 dX6_readLoop_0 rfl (lv_at hl 0 rfl) k) ?_
  refine J.pu (fun _ _ _ _ k => W.ldcS (i := 35) X rfl dX6_readLoop_1 k) ?_
  refine J.bind (fun v3 h3 => ?_)
  refine J.cV (q := (RX6, TX6, 26)) (ci := 5) (As := [va_rf (G.2.2.2 35)]) (rest := []) (s2 := [.int v3]) X ⟨rfl, rfl⟩ (ct_X6_isWord l hm σ hs n M 35 (by decide)) (jrd_of h3) (fun _ _ => cwV 1 X.1.2.2.2.2 (lw_V q2860 q2862 qs66 q174 q2863) rfl rfl rfl (by decide +kernel) ⟨(Nat.le_of_ble_eq_true rfl), (Nat.le_of_ble_eq_true rfl)⟩) mH_rc rfl rfl hl.1 rfl rfl (Nat.le_of_ble_eq_true rfl) dX6_readLoop_3 ?_
  refine J.br (fun _ _ _ _ ka kb => lv_if_ne (tgt := 15) X.1.1 X.1.2.1 dX6_readLoop_6 (by decide) kb ka) (fun c6 => ?_) (fun c6 => ?_)
  · refine J.pu (fun _ _ _ _ k => lv_aload_n X.1.1 X.1.2.1 dX6_readLoop_9 rfl (lv_at hl 0 rfl) k) ?_
    refine J.pu (fun _ _ _ _ k => lv_iconst (v := 1) X.1.1 X.1.2.1 dX6_readLoop_10 (by decide) k) ?_
    refine J.bd' (fun v11 M11 h11 => ?_)
    refine J.cV (q := (RX6, TX6, 26)) (ci := 5) (As := [.int 1]) (rest := []) (s2 := [.int v11]) X ⟨rfl, rfl⟩ (ct_X6_failsAt l hm σ n M 1) (mup_of h11) (fun _ _ => cwV 1 X.1.2.2.2.2 (lw_V q2866 q2868 qs67 q174 q2869) rfl rfl rfl (by decide +kernel) ⟨(Nat.le_of_ble_eq_true rfl), (Nat.le_of_ble_eq_true rfl)⟩) mH_rc rfl rfl hl.1 rfl rfl (Nat.le_of_ble_eq_true rfl) dX6_readLoop_11 ?_
    exact J.zretb (vr := fun t : Int32 × jM => jrI t.1) (fin := fun r : Int32 × jM => mH mo A σ r.2) (t := t) X hr (by rfl) (by rfl) dX6_readLoop_14
  · refine J.pu (fun _ _ _ _ k => lv_aload_n X.1.1 X.1.2.1 dX6_readLoop_15 rfl (lv_at hl 0 rfl) k) ?_
    refine J.bd' (fun v16 M16 h16 => ?_)
    refine J.cV (q := (RX6, TX6, 26)) (ci := 5) (As := []) (rest := []) (s2 := []) X ⟨rfl, rfl⟩ (ct_X6_advanceToken l hm σ n M) (mup_of h16) (fun _ _ => cwV 0 X.1.2.2.2.2 (lw_V q2839 q2841 qs61 q174 q2842) rfl rfl rfl (by decide +kernel) ⟨(Nat.le_of_ble_eq_true rfl), (Nat.le_of_ble_eq_true rfl)⟩) mH_rc rfl rfl hl.1 rfl rfl (Nat.le_of_ble_eq_true rfl) dX6_readLoop_16 ?_
    refine J.pu (fun _ _ _ _ k => lv_aload_n X.1.1 X.1.2.1 dX6_readLoop_19 rfl (lv_at hl 0 rfl) k) ?_
    refine J.pu (fun _ _ _ _ k => lv_iconst (v := 0) X.1.1 X.1.2.1 dX6_readLoop_20 (by decide) k) ?_
    refine J.pu (fun _ _ _ _ k => lv_bipush (v := 6) X.1.1 X.1.2.1 dX6_readLoop_21 (by decide) k) ?_
    refine J.pu (fun _ _ _ _ k => lv_bipush (v := 40) X.1.1 X.1.2.1 dX6_readLoop_23 (by decide) k) ?_
    refine J.bd' (fun v25 M25 h25 => ?_)
    refine J.cV (q := (RX6, TX6, 26)) (ci := 5) (As := [.int 0, .int 6, .int 40]) (rest := []) (s2 := [.int v25]) X ⟨rfl, rfl⟩ (ct_X6_takes l hm σ n M16 0 6 40) (mup_of h25) (fun _ _ => cwV 3 X.1.2.2.2.2 (lw_V q2870 q2872 qs68 q174 q2873) rfl rfl rfl (by decide +kernel) ⟨(Nat.le_of_ble_eq_true rfl), (Nat.le_of_ble_eq_true rfl)⟩) mH_rc rfl rfl hl.1 rfl rfl (Nat.le_of_ble_eq_true rfl) dX6_readLoop_25 ?_
    refine J.br (fun _ _ _ _ ka kb => lv_if_eq (tgt := 48) X.1.1 X.1.2.1 dX6_readLoop_28 (by decide) ka kb) (fun c28 => ?_) (fun c28 => ?_)
    · refine J.pu (fun _ _ _ _ k => lv_iconst (v := 0) X.1.1 X.1.2.1 dX6_readLoop_48 (by decide) k) ?_
      exact J.zret (vr := fun t : Int32 × jM => jrI t.1) (fin := fun r : Int32 × jM => mH mo A σ r.2) (t := t) X hr (by decide) (by rfl) (by rfl) dX6_readLoop_49
    · refine J.pu (fun _ _ _ _ k => lv_aload_n X.1.1 X.1.2.1 dX6_readLoop_31 rfl (lv_at hl 0 rfl) k) ?_
      refine J.pu (fun _ _ _ _ k => lv_iconst (v := 1) X.1.1 X.1.2.1 dX6_readLoop_32 (by decide) k) ?_
      refine J.pu (fun _ _ _ _ k => lv_iconst (v := 0) X.1.1 X.1.2.1 dX6_readLoop_33 (by decide) k) ?_
      refine J.pu (fun _ _ _ _ k => lv_aload_n X.1.1 X.1.2.1 dX6_readLoop_34 rfl (lv_at hl 0 rfl) k) ?_
      refine J.mgA (k := 19) X (by decide) q2749 rfl rfl dX6_readLoop_35 ?_
      refine J.pu (fun _ _ _ _ k => lv_iconst (v := 0) X.1.1 X.1.2.1 dX6_readLoop_38 (by decide) k) ?_
      refine J.mld X hm (by decide) dX6_readLoop_39 (fun v39 h39 => ?_)
      refine J.pu (fun _ _ _ _ k => lv_iconst (v := 1) X.1.1 X.1.2.1 dX6_readLoop_40 (by decide) k) ?_
      refine J.pu (fun _ _ _ _ k => lv_isub X.1.1 X.1.2.1 dX6_readLoop_41 k) ?_
      refine J.bd' (fun v42 M42 h42 => ?_)
      refine J.cV (q := (RX6, TX6, 26)) (ci := 5) (As := [.int 1, .int 0, .int (v39 - 1)]) (rest := []) (s2 := [.int v42]) X ⟨rfl, rfl⟩ (ct_X6_takes l hm σ n M25 1 0 (v39 - 1)) (mup_of h42) (fun _ _ => cwV 3 X.1.2.2.2.2 (lw_V q2870 q2872 qs68 q174 q2873) rfl rfl rfl (by decide +kernel) ⟨(Nat.le_of_ble_eq_true rfl), (Nat.le_of_ble_eq_true rfl)⟩) mH_rc rfl rfl hl.1 rfl rfl (Nat.le_of_ble_eq_true rfl) dX6_readLoop_42 ?_
      refine J.br (fun _ _ _ _ ka kb => lv_if_ne (tgt := 50) X.1.1 X.1.2.1 dX6_readLoop_45 (by decide) kb ka) (fun c45 => ?_) (fun c45 => ?_)
      · refine J.pu (fun _ _ _ _ k => lv_iconst (v := 0) X.1.1 X.1.2.1 dX6_readLoop_48 (by decide) k) ?_
        exact J.zret (vr := fun t : Int32 × jM => jrI t.1) (fin := fun r : Int32 × jM => mH mo A σ r.2) (t := t) X hr (by decide) (by rfl) (by rfl) dX6_readLoop_49
      · refine J.pu (fun _ _ _ _ k => lv_aload_n X.1.1 X.1.2.1 dX6_readLoop_50 rfl (lv_at hl 0 rfl) k) ?_
        refine J.pu (fun _ _ _ _ k => lv_aload_n X.1.1 X.1.2.1 dX6_readLoop_51 rfl (lv_at hl 0 rfl) k) ?_
        refine J.mgA (k := 19) X (by decide) q2749 rfl rfl dX6_readLoop_52 ?_
        refine J.pu (fun _ _ _ _ k => lv_iconst (v := 0) X.1.1 X.1.2.1 dX6_readLoop_55 (by decide) k) ?_
        refine J.mld X hm (by decide) dX6_readLoop_56 (fun v56 h56 => ?_)
        refine J.pu (fun _ _ _ _ k => lv_aload_n X.1.1 X.1.2.1 dX6_readLoop_57 rfl (lv_at hl 0 rfl) k) ?_
        refine J.mgA (k := 19) X (by decide) q2749 rfl rfl dX6_readLoop_58 ?_
        refine J.pu (fun _ _ _ _ k => lv_iconst (v := 1) X.1.1 X.1.2.1 dX6_readLoop_61 (by decide) k) ?_
        refine J.mld X hm (by decide) dX6_readLoop_62 (fun v62 h62 => ?_)
        refine J.bd' (fun v63 M63 h63 => ?_)
        refine J.cV (q := (RX6, TX6, 26)) (ci := 5) (As := [.int v56, .int v62]) (rest := []) (s2 := []) X ⟨rfl, rfl⟩ (ct_X6_begins l hm σ n M42 v56 v62) (mup_of h63) (fun _ _ => cwV 2 X.1.2.2.2.2 (lw_V q2718 q2720 qs56 q174 q2721) rfl rfl rfl (by decide +kernel) ⟨(Nat.le_of_ble_eq_true rfl), (Nat.le_of_ble_eq_true rfl)⟩) mH_rc rfl rfl hl.1 rfl rfl (Nat.le_of_ble_eq_true rfl) dX6_readLoop_63 ?_
        refine J.pu (fun _ _ _ _ k => lv_aload_n X.1.1 X.1.2.1 dX6_readLoop_66 rfl (lv_at hl 0 rfl) k) ?_
        refine J.bd' (fun v67 M67 h67 => ?_)
        refine J.cV (q := (RX6, TX6, 26)) (ci := 5) (As := []) (rest := []) (s2 := [.int v67]) X ⟨rfl, rfl⟩ (ct_X6_takesSemicolon l hm σ n M63) (mup_of h67) (fun _ _ => cwV 0 X.1.2.2.2.2 (lw_V q2882 q2884 qs71 q174 q2885) rfl rfl rfl (by decide +kernel) ⟨(Nat.le_of_ble_eq_true rfl), (Nat.le_of_ble_eq_true rfl)⟩) mH_rc rfl rfl hl.1 rfl rfl (Nat.le_of_ble_eq_true rfl) dX6_readLoop_67 ?_
        exact J.zretb (vr := fun t : Int32 × jM => jrI t.1) (fin := fun r : Int32 × jM => mH mo A σ r.2) (t := t) X hr (by rfl) (by rfl) dX6_readLoop_70
noncomputable def X6_ofChute (n : Nat) (M : jM) (a1 : Int32) (a2 : Int32) : Option (Int32) :=
  (mA M 0 ((23 + (17 * a1)) + a2)).bind fun v13 => some v13
set_option maxHeartbeats 4000000 in
set_option maxRecDepth 100000 in
theorem ct_X6_ofChute (l : Launch) {G : jG} {mo : Nat} {A : Nat → Nat} (hm : mOK G mo A) (σ : jH) (n : Nat) (M : jM) (a1 : Int32) (a2 : Int32) : jCt l G yX6_ofChute (ws_ yX6_ofChute cX6_ofChute 3 (some .int)) 0 0 jrI [.ref mo, .int a1, .int a2] (mH mo A σ M) (jrd (mH mo A σ M) (X6_ofChute n M a1 a2)) := by
  refine jCt.rd (lv := [(0, .ref mo), (1, .int a1), (2, .int a2)]) (plainFor_of_name (by decide)) (Nat.le_of_ble_eq_true rfl) rfl ?_
  intro t p e s m args below meth c ls X hr hnm hl
  have X : jCx p c cX6_ofChute 3 s m args RX6 G meth := X
  unfold X6_ofChute
  refine J.pu (fun _ _ _ _ k => lv_aload_n X.1.1 X.1.2.1 dX6_ofChute_0 rfl (lv_at hl 0 rfl) k) ?_
  refine J.mgA (k := 0) X (by decide) q2730 rfl rfl dX6_ofChute_1 ?_
  refine J.pu (fun _ _ _ _ k => lv_bipush (v := 23) X.1.1 X.1.2.1 dX6_ofChute_4 (by decide) k) ?_
  refine J.pu (fun _ _ _ _ k => lv_bipush (v := 17) X.1.1 X.1.2.1 dX6_ofChute_6 (by decide) k) ?_
  refine J.pu (fun _ _ _ _ k => lv_iload_n X.1.1 X.1.2.1 dX6_ofChute_8 rfl (lv_at hl 1 rfl) k) ?_
  refine J.pu (fun _ _ _ _ k => lv_imul X.1.1 X.1.2.1 dX6_ofChute_9 k) ?_
  refine J.pu (fun _ _ _ _ k => lv_iadd X.1.1 X.1.2.1 dX6_ofChute_10 k) ?_
  refine J.pu (fun _ _ _ _ k => lv_iload_n X.1.1 X.1.2.1 dX6_ofChute_11 rfl (lv_at hl 2 rfl) k) ?_
  refine J.pu (fun _ _ _ _ k => lv_iadd X.1.1 X.1.2.1 dX6_ofChute_12 k) ?_
  refine J.mld X hm (by decide) dX6_ofChute_13 (fun v13 h13 => ?_)
  exact J.iret (vr := jrI) (fin := fun _ : Int32 => (mH mo A σ M)) (t := t) X hr (by rfl) (by rfl) dX6_ofChute_14
noncomputable def X6_chuteAt_h2 (n : Nat) (M : jM) (a1 : Int32) (rec2 : Int32 → Option (Int32)) (q2 : Int32) : Option (Int32) :=
  let x2_2 := q2; (mA M 0 3).bind fun v8 => if v8 ≤ x2_2 then (some (-1)) else ((X6_ofChute n M x2_2 0).bind fun v15 => if v15 = a1 then (some x2_2) else (rec2 (x2_2 + 1)))
noncomputable def X6_chuteAt (n : Nat) (M : jM) (a1 : Int32) : Option (Int32) :=
  jloop (X6_chuteAt_h2 n M a1) n 0
set_option maxHeartbeats 4000000 in
set_option maxRecDepth 100000 in
theorem ct_X6_chuteAt (l : Launch) {G : jG} {mo : Nat} {A : Nat → Nat} (hm : mOK G mo A) (σ : jH) (n : Nat) (M : jM) (a1 : Int32) : jCt l G yX6_chuteAt (ws_ yX6_chuteAt cX6_chuteAt 3 (some .int)) 1 22 jrI [.ref mo, .int a1] (mH mo A σ M) (jrd (mH mo A σ M) (X6_chuteAt n M a1)) := by
  refine jCt.rd (lv := [(0, .ref mo), (1, .int a1)]) (plainFor_of_name (by decide)) (Nat.le_of_ble_eq_true rfl) rfl ?_
  intro t p e s m args below meth c ls X hr hnm hl
  have X : jCx p c cX6_chuteAt 3 s m args RX6 G meth := X
  have L2 : ∀ (n2 : Nat) (x2_2 : Int32) (ls : Array Slot), lv_has ls 3 [(0, .ref mo), (1, .int a1), (2, .int x2_2)] → jGo l G 1 22 (mH mo A σ M) (fun _ : Int32 => (mH mo A σ M)) jrI t p e s m args below meth c (jloop (X6_chuteAt_h2 n M a1) n2 x2_2) (mH mo A σ M) (F0 m 2 ls []) := by
    intro n2
    induction n2 with
    | zero => intro x2_2 ls hl; exact J.nil_
    | succ n2 ih2 =>
      intro x2_2 ls hl
      refine J.eq (jloop_s _ _ _) ?_
      dsimp only [X6_chuteAt_h2]
      refine J.pu (fun _ _ _ _ k => lv_iload_n X.1.1 X.1.2.1 dX6_chuteAt_2 rfl (lv_at hl 2 rfl) k) ?_
      refine J.pu (fun _ _ _ _ k => lv_aload_n X.1.1 X.1.2.1 dX6_chuteAt_3 rfl (lv_at hl 0 rfl) k) ?_
      refine J.mgA (k := 0) X (by decide) q2730 rfl rfl dX6_chuteAt_4 ?_
      refine J.pu (fun _ _ _ _ k => lv_iconst (v := 3) X.1.1 X.1.2.1 dX6_chuteAt_7 (by decide) k) ?_
      refine J.mld X hm (by decide) dX6_chuteAt_8 (fun v8 h8 => ?_)
      refine J.br (fun _ _ _ _ ka kb => lv_icmp_ge (tgt := 30) X.1.1 X.1.2.1 dX6_chuteAt_9 (by decide) ka kb) (fun c9 => ?_) (fun c9 => ?_)
      · refine J.pu (fun _ _ _ _ k => lv_iconst (v := (-1)) X.1.1 X.1.2.1 dX6_chuteAt_30 (by decide) k) ?_
        exact J.iret (vr := jrI) (fin := fun _ : Int32 => (mH mo A σ M)) (t := t) X hr (by rfl) (by rfl) dX6_chuteAt_31
      · refine J.pu (fun _ _ _ _ k => lv_aload_n X.1.1 X.1.2.1 dX6_chuteAt_12 rfl (lv_at hl 0 rfl) k) ?_
        refine J.pu (fun _ _ _ _ k => lv_iload_n X.1.1 X.1.2.1 dX6_chuteAt_13 rfl (lv_at hl 2 rfl) k) ?_
        refine J.pu (fun _ _ _ _ k => lv_iconst (v := 0) X.1.1 X.1.2.1 dX6_chuteAt_14 (by decide) k) ?_
        refine J.bind (fun v15 h15 => ?_)
        refine J.cV (q := (RX6, TX6, 26)) (ci := 5) (As := [.int x2_2, .int 0]) (rest := []) (s2 := [.int v15]) X ⟨rfl, rfl⟩ (ct_X6_ofChute l hm σ n M x2_2 0) (jrd_of h15) (fun _ _ => cwV 2 X.1.2.2.2.2 (lw_V q2908 q2910 qs77 q174 q2911) rfl rfl rfl (by decide +kernel) ⟨(Nat.le_of_ble_eq_true rfl), (Nat.le_of_ble_eq_true rfl)⟩) mH_rc rfl rfl hl.1 rfl rfl (Nat.le_of_ble_eq_true rfl) dX6_chuteAt_15 ?_
        refine J.pu (fun _ _ _ _ k => lv_iload_n X.1.1 X.1.2.1 dX6_chuteAt_18 rfl (lv_at hl 1 rfl) k) ?_
        refine J.br (fun _ _ _ _ ka kb => lv_icmp_ne (tgt := 24) X.1.1 X.1.2.1 dX6_chuteAt_19 (by decide) kb ka) (fun c19 => ?_) (fun c19 => ?_)
        · refine J.pu (fun _ _ _ _ k => lv_iload_n X.1.1 X.1.2.1 dX6_chuteAt_22 rfl (lv_at hl 2 rfl) k) ?_
          exact J.iret (vr := jrI) (fin := fun _ : Int32 => (mH mo A σ M)) (t := t) X hr (by rfl) (by rfl) dX6_chuteAt_23
        · refine J.iinc (k := 2) (lv' := [(2, .int (x2_2 + 1)), (0, .ref mo), (1, .int a1)]) (w := (x2_2 + 1)) X.1.1 X.1.2.1 dX6_chuteAt_24 hl rfl rfl (by decide) (by first | rfl | simp [va_rf_cat, jcI, jcA, jcJ, jcD, jcF]) (fun ls hl => ?_)
          refine J.pu (fun _ _ _ _ k => lv_goto (tgt := 2) X.1.1 X.1.2.1 dX6_chuteAt_27 (by decide) k) ?_
          exact ih2 (x2_2 + 1) ls (lv_sub hl [1, 2, 0] rfl)
  unfold X6_chuteAt
  refine J.pu (fun _ _ _ _ k => lv_iconst (v := 0) X.1.1 X.1.2.1 dX6_chuteAt_0 (by decide) k) ?_
  refine J.istore_n (i := 2) (lv' := [(2, .int 0), (0, .ref mo), (1, .int a1)]) X.1.1 X.1.2.1 dX6_chuteAt_1 rfl hl (by decide) (by first | rfl | simp [va_rf_cat, jcI, jcA, jcJ, jcD, jcF]) (fun ls hl => ?_)
  exact L2 n 0 ls (lv_sub hl [1, 2, 0] rfl)
noncomputable def X6_readChute (n : Nat) (M : jM) : Option (Int32 × jM) :=
  (mA M 0 3).bind fun v5 => if v5 = 6 then (bd (X6_failsAt n M 4) fun v13 M13 => jbo .boolean v13 (some (v13, M13))) else (bd (X6_advanceToken n M) fun v18 M18 => (mA M18 0 0).bind fun v28 => bd (X6_seesNumber n M18 0 (v28 - 1)) fun v31 M31 => if v31 = 0 then (some (0, M31)) else ((X6_chuteAt n M31 (M31.2 18)).bind fun v44 => if v44 = (-1) then ((mS M31 19 0 (M31.2 18)).bind fun M66 => bd (X6_advanceToken n M66) fun v68 M68 => bd (X6_takes n M68 1 1 9) fun v76 M76 => if v76 = 0 then (some (0, M76)) else (bd (X6_takes n M76 2 0 3) fun v86 M86 => if v86 = 0 then (some (0, M86)) else (bd (X6_takes n M86 3 0 9) fun v97 M97 => if v97 = 0 then (some (0, M97)) else ((mA M97 19 0).bind fun v111 => (mA M97 19 1).bind fun v117 => (mA M97 19 2).bind fun v123 => (mA M97 19 3).bind fun v129 => bd (X6_addsChute n M97 v111 v117 v123 v129) fun v130 M130 => bd (X6_takesSemicolon n M130) fun v134 M134 => jbo .boolean v134 (some (v134, M134)))))) else (bd (X6_failsAt n M31 3) fun v53 M53 => jbo .boolean v53 (some (v53, M53)))))
set_option maxHeartbeats 4000000 in
set_option maxRecDepth 100000 in
theorem ct_X6_readChute (l : Launch) {G : jG} {mo : Nat} {A : Nat → Nat} (hm : mOK G mo A) (σ : jH) (n : Nat) (M : jM) : jCt l G yX6_readChute (ws_ yX6_readChute cX6_readChute 1 (some .boolean)) 5 109 jrI [.ref mo] (mH mo A σ M) (mup mo A σ (X6_readChute n M)) := by
  refine jCt.wm (lv := [(0, .ref mo)]) (plainFor_of_name (by decide)) (Nat.le_of_ble_eq_true rfl) rfl ?_
  intro t p e s m args below meth c ls X hr hnm hl
  have X : jCx p c cX6_readChute 1 s m args RX6 G meth := X
  unfold X6_readChute
  refine J.pu (fun _ _ _ _ k => lv_aload_n X.1.1 X.1.2.1 dX6_readChute_0 rfl (lv_at hl 0 rfl) k) ?_
  refine J.mgA (k := 0) X (by decide) q2730 rfl rfl dX6_readChute_1 ?_
  refine J.pu (fun _ _ _ _ k => lv_iconst (v := 3) X.1.1 X.1.2.1 dX6_readChute_4 (by decide) k) ?_
  refine J.mld X hm (by decide) dX6_readChute_5 (fun v5 h5 => ?_)
  refine J.pu (fun _ _ _ _ k => lv_bipush (v := 6) X.1.1 X.1.2.1 dX6_readChute_6 (by decide) k) ?_
  refine J.br (fun _ _ _ _ ka kb => lv_icmp_ne (tgt := 17) X.1.1 X.1.2.1 dX6_readChute_8 (by decide) kb ka) (fun c8 => ?_) (fun c8 => ?_)
  · refine J.pu (fun _ _ _ _ k => lv_aload_n X.1.1 X.1.2.1 dX6_readChute_11 rfl (lv_at hl 0 rfl) k) ?_
    refine J.pu (fun _ _ _ _ k => lv_iconst (v := 4) X.1.1 X.1.2.1 dX6_readChute_12 (by decide) k) ?_
    refine J.bd' (fun v13 M13 h13 => ?_)
    refine J.cV (q := (RX6, TX6, 26)) (ci := 5) (As := [.int 4]) (rest := []) (s2 := [.int v13]) X ⟨rfl, rfl⟩ (ct_X6_failsAt l hm σ n M 4) (mup_of h13) (fun _ _ => cwV 1 X.1.2.2.2.2 (lw_V q2866 q2868 qs67 q174 q2869) rfl rfl rfl (by decide +kernel) ⟨(Nat.le_of_ble_eq_true rfl), (Nat.le_of_ble_eq_true rfl)⟩) mH_rc rfl rfl hl.1 rfl rfl (Nat.le_of_ble_eq_true rfl) dX6_readChute_13 ?_
    exact J.zretb (vr := fun t : Int32 × jM => jrI t.1) (fin := fun r : Int32 × jM => mH mo A σ r.2) (t := t) X hr (by rfl) (by rfl) dX6_readChute_16
  · refine J.pu (fun _ _ _ _ k => lv_aload_n X.1.1 X.1.2.1 dX6_readChute_17 rfl (lv_at hl 0 rfl) k) ?_
    refine J.bd' (fun v18 M18 h18 => ?_)
    refine J.cV (q := (RX6, TX6, 26)) (ci := 5) (As := []) (rest := []) (s2 := []) X ⟨rfl, rfl⟩ (ct_X6_advanceToken l hm σ n M) (mup_of h18) (fun _ _ => cwV 0 X.1.2.2.2.2 (lw_V q2839 q2841 qs61 q174 q2842) rfl rfl rfl (by decide +kernel) ⟨(Nat.le_of_ble_eq_true rfl), (Nat.le_of_ble_eq_true rfl)⟩) mH_rc rfl rfl hl.1 rfl rfl (Nat.le_of_ble_eq_true rfl) dX6_readChute_18 ?_
    refine J.pu (fun _ _ _ _ k => lv_aload_n X.1.1 X.1.2.1 dX6_readChute_21 rfl (lv_at hl 0 rfl) k) ?_
    refine J.pu (fun _ _ _ _ k => lv_iconst (v := 0) X.1.1 X.1.2.1 dX6_readChute_22 (by decide) k) ?_
    refine J.pu (fun _ _ _ _ k => lv_aload_n X.1.1 X.1.2.1 dX6_readChute_23 rfl (lv_at hl 0 rfl) k) ?_
    refine J.mgA (k := 0) X (by decide) q2730 rfl rfl dX6_readChute_24 ?_
    refine J.pu (fun _ _ _ _ k => lv_iconst (v := 0) X.1.1 X.1.2.1 dX6_readChute_27 (by decide) k) ?_
    refine J.mld X hm (by decide) dX6_readChute_28 (fun v28 h28 => ?_)
    refine J.pu (fun _ _ _ _ k => lv_iconst (v := 1) X.1.1 X.1.2.1 dX6_readChute_29 (by decide) k) ?_
    refine J.pu (fun _ _ _ _ k => lv_isub X.1.1 X.1.2.1 dX6_readChute_30 k) ?_
    refine J.bd' (fun v31 M31 h31 => ?_)
    refine J.cV (q := (RX6, TX6, 26)) (ci := 5) (As := [.int 0, .int (v28 - 1)]) (rest := []) (s2 := [.int v31]) X ⟨rfl, rfl⟩ (ct_X6_seesNumber l hm σ n M18 0 (v28 - 1)) (mup_of h31) (fun _ _ => cwV 2 X.1.2.2.2.2 (lw_V q2878 q2880 qs70 q174 q2881) rfl rfl rfl (by decide +kernel) ⟨(Nat.le_of_ble_eq_true rfl), (Nat.le_of_ble_eq_true rfl)⟩) mH_rc rfl rfl hl.1 rfl rfl (Nat.le_of_ble_eq_true rfl) dX6_readChute_31 ?_
    refine J.br (fun _ _ _ _ ka kb => lv_if_ne (tgt := 39) X.1.1 X.1.2.1 dX6_readChute_34 (by decide) kb ka) (fun c34 => ?_) (fun c34 => ?_)
    · refine J.pu (fun _ _ _ _ k => lv_iconst (v := 0) X.1.1 X.1.2.1 dX6_readChute_37 (by decide) k) ?_
      exact J.zret (vr := fun t : Int32 × jM => jrI t.1) (fin := fun r : Int32 × jM => mH mo A σ r.2) (t := t) X hr (by decide) (by rfl) (by rfl) dX6_readChute_38
    · refine J.pu (fun _ _ _ _ k => lv_aload_n X.1.1 X.1.2.1 dX6_readChute_39 rfl (lv_at hl 0 rfl) k) ?_
      refine J.pu (fun _ _ _ _ k => lv_aload_n X.1.1 X.1.2.1 dX6_readChute_40 rfl (lv_at hl 0 rfl) k) ?_
      refine J.mgS (k := 18) X (by decide) q2748 rfl rfl dX6_readChute_41 ?_
      refine J.bind (fun v44 h44 => ?_)
      refine J.cV (q := (RX6, TX6, 26)) (ci := 5) (As := [.int (M31.2 18)]) (rest := []) (s2 := [.int v44]) X ⟨rfl, rfl⟩ (ct_X6_chuteAt l hm σ n M31 (M31.2 18)) (jrd_of h44) (fun _ _ => cwV 1 X.1.2.2.2.2 (lw_V q2904 q2906 qs76 q174 q2907) rfl rfl rfl (by decide +kernel) ⟨(Nat.le_of_ble_eq_true rfl), (Nat.le_of_ble_eq_true rfl)⟩) mH_rc rfl rfl hl.1 rfl rfl (Nat.le_of_ble_eq_true rfl) dX6_readChute_44 ?_
      refine J.pu (fun _ _ _ _ k => lv_iconst (v := (-1)) X.1.1 X.1.2.1 dX6_readChute_47 (by decide) k) ?_
      refine J.br (fun _ _ _ _ ka kb => lv_icmp_eq (tgt := 57) X.1.1 X.1.2.1 dX6_readChute_48 (by decide) ka kb) (fun c48 => ?_) (fun c48 => ?_)
      · refine J.pu (fun _ _ _ _ k => lv_aload_n X.1.1 X.1.2.1 dX6_readChute_57 rfl (lv_at hl 0 rfl) k) ?_
        refine J.mgA (k := 19) X (by decide) q2749 rfl rfl dX6_readChute_58 ?_
        refine J.pu (fun _ _ _ _ k => lv_iconst (v := 0) X.1.1 X.1.2.1 dX6_readChute_61 (by decide) k) ?_
        refine J.pu (fun _ _ _ _ k => lv_aload_n X.1.1 X.1.2.1 dX6_readChute_62 rfl (lv_at hl 0 rfl) k) ?_
        refine J.mgS (k := 18) X (by decide) q2748 rfl rfl dX6_readChute_63 ?_
        refine J.mst X hm (by decide) dX6_readChute_66 (fun M66 h66 => ?_)
        refine J.pu (fun _ _ _ _ k => lv_aload_n X.1.1 X.1.2.1 dX6_readChute_67 rfl (lv_at hl 0 rfl) k) ?_
        refine J.bd' (fun v68 M68 h68 => ?_)
        refine J.cV (q := (RX6, TX6, 26)) (ci := 5) (As := []) (rest := []) (s2 := []) X ⟨rfl, rfl⟩ (ct_X6_advanceToken l hm σ n M66) (mup_of h68) (fun _ _ => cwV 0 X.1.2.2.2.2 (lw_V q2839 q2841 qs61 q174 q2842) rfl rfl rfl (by decide +kernel) ⟨(Nat.le_of_ble_eq_true rfl), (Nat.le_of_ble_eq_true rfl)⟩) mH_rc rfl rfl hl.1 rfl rfl (Nat.le_of_ble_eq_true rfl) dX6_readChute_68 ?_
        refine J.pu (fun _ _ _ _ k => lv_aload_n X.1.1 X.1.2.1 dX6_readChute_71 rfl (lv_at hl 0 rfl) k) ?_
        refine J.pu (fun _ _ _ _ k => lv_iconst (v := 1) X.1.1 X.1.2.1 dX6_readChute_72 (by decide) k) ?_
        refine J.pu (fun _ _ _ _ k => lv_iconst (v := 1) X.1.1 X.1.2.1 dX6_readChute_73 (by decide) k) ?_
        refine J.pu (fun _ _ _ _ k => lv_bipush (v := 9) X.1.1 X.1.2.1 dX6_readChute_74 (by decide) k) ?_
        refine J.bd' (fun v76 M76 h76 => ?_)
        refine J.cV (q := (RX6, TX6, 26)) (ci := 5) (As := [.int 1, .int 1, .int 9]) (rest := []) (s2 := [.int v76]) X ⟨rfl, rfl⟩ (ct_X6_takes l hm σ n M68 1 1 9) (mup_of h76) (fun _ _ => cwV 3 X.1.2.2.2.2 (lw_V q2870 q2872 qs68 q174 q2873) rfl rfl rfl (by decide +kernel) ⟨(Nat.le_of_ble_eq_true rfl), (Nat.le_of_ble_eq_true rfl)⟩) mH_rc rfl rfl hl.1 rfl rfl (Nat.le_of_ble_eq_true rfl) dX6_readChute_76 ?_
        refine J.br (fun _ _ _ _ ka kb => lv_if_eq (tgt := 103) X.1.1 X.1.2.1 dX6_readChute_79 (by decide) ka kb) (fun c79 => ?_) (fun c79 => ?_)
        · refine J.pu (fun _ _ _ _ k => lv_iconst (v := 0) X.1.1 X.1.2.1 dX6_readChute_103 (by decide) k) ?_
          exact J.zret (vr := fun t : Int32 × jM => jrI t.1) (fin := fun r : Int32 × jM => mH mo A σ r.2) (t := t) X hr (by decide) (by rfl) (by rfl) dX6_readChute_104
        · refine J.pu (fun _ _ _ _ k => lv_aload_n X.1.1 X.1.2.1 dX6_readChute_82 rfl (lv_at hl 0 rfl) k) ?_
          refine J.pu (fun _ _ _ _ k => lv_iconst (v := 2) X.1.1 X.1.2.1 dX6_readChute_83 (by decide) k) ?_
          refine J.pu (fun _ _ _ _ k => lv_iconst (v := 0) X.1.1 X.1.2.1 dX6_readChute_84 (by decide) k) ?_
          refine J.pu (fun _ _ _ _ k => lv_iconst (v := 3) X.1.1 X.1.2.1 dX6_readChute_85 (by decide) k) ?_
          refine J.bd' (fun v86 M86 h86 => ?_)
          refine J.cV (q := (RX6, TX6, 26)) (ci := 5) (As := [.int 2, .int 0, .int 3]) (rest := []) (s2 := [.int v86]) X ⟨rfl, rfl⟩ (ct_X6_takes l hm σ n M76 2 0 3) (mup_of h86) (fun _ _ => cwV 3 X.1.2.2.2.2 (lw_V q2870 q2872 qs68 q174 q2873) rfl rfl rfl (by decide +kernel) ⟨(Nat.le_of_ble_eq_true rfl), (Nat.le_of_ble_eq_true rfl)⟩) mH_rc rfl rfl hl.1 rfl rfl (Nat.le_of_ble_eq_true rfl) dX6_readChute_86 ?_
          refine J.br (fun _ _ _ _ ka kb => lv_if_eq (tgt := 103) X.1.1 X.1.2.1 dX6_readChute_89 (by decide) ka kb) (fun c89 => ?_) (fun c89 => ?_)
          · refine J.pu (fun _ _ _ _ k => lv_iconst (v := 0) X.1.1 X.1.2.1 dX6_readChute_103 (by decide) k) ?_
            exact J.zret (vr := fun t : Int32 × jM => jrI t.1) (fin := fun r : Int32 × jM => mH mo A σ r.2) (t := t) X hr (by decide) (by rfl) (by rfl) dX6_readChute_104
          · refine J.pu (fun _ _ _ _ k => lv_aload_n X.1.1 X.1.2.1 dX6_readChute_92 rfl (lv_at hl 0 rfl) k) ?_
            refine J.pu (fun _ _ _ _ k => lv_iconst (v := 3) X.1.1 X.1.2.1 dX6_readChute_93 (by decide) k) ?_
            refine J.pu (fun _ _ _ _ k => lv_iconst (v := 0) X.1.1 X.1.2.1 dX6_readChute_94 (by decide) k) ?_
            refine J.pu (fun _ _ _ _ k => lv_bipush (v := 9) X.1.1 X.1.2.1 dX6_readChute_95 (by decide) k) ?_
            refine J.bd' (fun v97 M97 h97 => ?_)
            refine J.cV (q := (RX6, TX6, 26)) (ci := 5) (As := [.int 3, .int 0, .int 9]) (rest := []) (s2 := [.int v97]) X ⟨rfl, rfl⟩ (ct_X6_takes l hm σ n M86 3 0 9) (mup_of h97) (fun _ _ => cwV 3 X.1.2.2.2.2 (lw_V q2870 q2872 qs68 q174 q2873) rfl rfl rfl (by decide +kernel) ⟨(Nat.le_of_ble_eq_true rfl), (Nat.le_of_ble_eq_true rfl)⟩) mH_rc rfl rfl hl.1 rfl rfl (Nat.le_of_ble_eq_true rfl) dX6_readChute_97 ?_
            refine J.br (fun _ _ _ _ ka kb => lv_if_ne (tgt := 105) X.1.1 X.1.2.1 dX6_readChute_100 (by decide) kb ka) (fun c100 => ?_) (fun c100 => ?_)
            · refine J.pu (fun _ _ _ _ k => lv_iconst (v := 0) X.1.1 X.1.2.1 dX6_readChute_103 (by decide) k) ?_
              exact J.zret (vr := fun t : Int32 × jM => jrI t.1) (fin := fun r : Int32 × jM => mH mo A σ r.2) (t := t) X hr (by decide) (by rfl) (by rfl) dX6_readChute_104
            · refine J.pu (fun _ _ _ _ k => lv_aload_n X.1.1 X.1.2.1 dX6_readChute_105 rfl (lv_at hl 0 rfl) k) ?_
              refine J.pu (fun _ _ _ _ k => lv_aload_n X.1.1 X.1.2.1 dX6_readChute_106 rfl (lv_at hl 0 rfl) k) ?_
              refine J.mgA (k := 19) X (by decide) q2749 rfl rfl dX6_readChute_107 ?_
              refine J.pu (fun _ _ _ _ k => lv_iconst (v := 0) X.1.1 X.1.2.1 dX6_readChute_110 (by decide) k) ?_
              refine J.mld X hm (by decide) dX6_readChute_111 (fun v111 h111 => ?_)
              refine J.pu (fun _ _ _ _ k => lv_aload_n X.1.1 X.1.2.1 dX6_readChute_112 rfl (lv_at hl 0 rfl) k) ?_
              refine J.mgA (k := 19) X (by decide) q2749 rfl rfl dX6_readChute_113 ?_
              refine J.pu (fun _ _ _ _ k => lv_iconst (v := 1) X.1.1 X.1.2.1 dX6_readChute_116 (by decide) k) ?_
              refine J.mld X hm (by decide) dX6_readChute_117 (fun v117 h117 => ?_)
              refine J.pu (fun _ _ _ _ k => lv_aload_n X.1.1 X.1.2.1 dX6_readChute_118 rfl (lv_at hl 0 rfl) k) ?_
              refine J.mgA (k := 19) X (by decide) q2749 rfl rfl dX6_readChute_119 ?_
              refine J.pu (fun _ _ _ _ k => lv_iconst (v := 2) X.1.1 X.1.2.1 dX6_readChute_122 (by decide) k) ?_
              refine J.mld X hm (by decide) dX6_readChute_123 (fun v123 h123 => ?_)
              refine J.pu (fun _ _ _ _ k => lv_aload_n X.1.1 X.1.2.1 dX6_readChute_124 rfl (lv_at hl 0 rfl) k) ?_
              refine J.mgA (k := 19) X (by decide) q2749 rfl rfl dX6_readChute_125 ?_
              refine J.pu (fun _ _ _ _ k => lv_iconst (v := 3) X.1.1 X.1.2.1 dX6_readChute_128 (by decide) k) ?_
              refine J.mld X hm (by decide) dX6_readChute_129 (fun v129 h129 => ?_)
              refine J.bd' (fun v130 M130 h130 => ?_)
              refine J.cV (q := (RX6, TX6, 26)) (ci := 5) (As := [.int v111, .int v117, .int v123, .int v129]) (rest := []) (s2 := []) X ⟨rfl, rfl⟩ (ct_X6_addsChute l hm σ n M97 v111 v117 v123 v129) (mup_of h130) (fun _ _ => cwV 4 X.1.2.2.2.2 (lw_V q2722 q2724 qs57 q174 q2725) rfl rfl rfl (by decide +kernel) ⟨(Nat.le_of_ble_eq_true rfl), (Nat.le_of_ble_eq_true rfl)⟩) mH_rc rfl rfl hl.1 rfl rfl (Nat.le_of_ble_eq_true rfl) dX6_readChute_130 ?_
              refine J.pu (fun _ _ _ _ k => lv_aload_n X.1.1 X.1.2.1 dX6_readChute_133 rfl (lv_at hl 0 rfl) k) ?_
              refine J.bd' (fun v134 M134 h134 => ?_)
              refine J.cV (q := (RX6, TX6, 26)) (ci := 5) (As := []) (rest := []) (s2 := [.int v134]) X ⟨rfl, rfl⟩ (ct_X6_takesSemicolon l hm σ n M130) (mup_of h134) (fun _ _ => cwV 0 X.1.2.2.2.2 (lw_V q2882 q2884 qs71 q174 q2885) rfl rfl rfl (by decide +kernel) ⟨(Nat.le_of_ble_eq_true rfl), (Nat.le_of_ble_eq_true rfl)⟩) mH_rc rfl rfl hl.1 rfl rfl (Nat.le_of_ble_eq_true rfl) dX6_readChute_134 ?_
              exact J.zretb (vr := fun t : Int32 × jM => jrI t.1) (fin := fun r : Int32 × jM => mH mo A σ r.2) (t := t) X hr (by rfl) (by rfl) dX6_readChute_137
      · refine J.pu (fun _ _ _ _ k => lv_aload_n X.1.1 X.1.2.1 dX6_readChute_51 rfl (lv_at hl 0 rfl) k) ?_
        refine J.pu (fun _ _ _ _ k => lv_iconst (v := 3) X.1.1 X.1.2.1 dX6_readChute_52 (by decide) k) ?_
        refine J.bd' (fun v53 M53 h53 => ?_)
        refine J.cV (q := (RX6, TX6, 26)) (ci := 5) (As := [.int 3]) (rest := []) (s2 := [.int v53]) X ⟨rfl, rfl⟩ (ct_X6_failsAt l hm σ n M31 3) (mup_of h53) (fun _ _ => cwV 1 X.1.2.2.2.2 (lw_V q2866 q2868 qs67 q174 q2869) rfl rfl rfl (by decide +kernel) ⟨(Nat.le_of_ble_eq_true rfl), (Nat.le_of_ble_eq_true rfl)⟩) mH_rc rfl rfl hl.1 rfl rfl (Nat.le_of_ble_eq_true rfl) dX6_readChute_53 ?_
        exact J.zretb (vr := fun t : Int32 × jM => jrI t.1) (fin := fun r : Int32 × jM => mH mo A σ r.2) (t := t) X hr (by rfl) (by rfl) dX6_readChute_56
noncomputable def X6_readRounds (n : Nat) (M : jM) : Option (Int32 × jM) :=
  bd (X6_advanceToken n M) fun v1 M1 => bd (X6_takes n M1 0 1 9) fun v9 M9 => if v9 = 0 then (some (0, M9)) else ((mA M9 19 0).bind fun v28 => (mS M9 0 6 v28).bind fun M29 => bd (X6_takesSemicolon n M29) fun v31 M31 => jbo .boolean v31 (some (v31, M31)))
set_option maxHeartbeats 4000000 in
set_option maxRecDepth 100000 in
theorem ct_X6_readRounds (l : Launch) {G : jG} {mo : Nat} {A : Nat → Nat} (hm : mOK G mo A) (σ : jH) (n : Nat) (M : jM) : jCt l G yX6_readRounds (ws_ yX6_readRounds cX6_readRounds 1 (some .boolean)) 5 109 jrI [.ref mo] (mH mo A σ M) (mup mo A σ (X6_readRounds n M)) := by
  refine jCt.wm (lv := [(0, .ref mo)]) (plainFor_of_name (by decide)) (Nat.le_of_ble_eq_true rfl) rfl ?_
  intro t p e s m args below meth c ls X hr hnm hl
  have X : jCx p c cX6_readRounds 1 s m args RX6 G meth := X
  unfold X6_readRounds
  refine J.pu (fun _ _ _ _ k => lv_aload_n X.1.1 X.1.2.1 dX6_readRounds_0 rfl (lv_at hl 0 rfl) k) ?_
  refine J.bd' (fun v1 M1 h1 => ?_)
  refine J.cV (q := (RX6, TX6, 26)) (ci := 5) (As := []) (rest := []) (s2 := []) X ⟨rfl, rfl⟩ (ct_X6_advanceToken l hm σ n M) (mup_of h1) (fun _ _ => cwV 0 X.1.2.2.2.2 (lw_V q2839 q2841 qs61 q174 q2842) rfl rfl rfl (by decide +kernel) ⟨(Nat.le_of_ble_eq_true rfl), (Nat.le_of_ble_eq_true rfl)⟩) mH_rc rfl rfl hl.1 rfl rfl (Nat.le_of_ble_eq_true rfl) dX6_readRounds_1 ?_
  refine J.pu (fun _ _ _ _ k => lv_aload_n X.1.1 X.1.2.1 dX6_readRounds_4 rfl (lv_at hl 0 rfl) k) ?_
  refine J.pu (fun _ _ _ _ k => lv_iconst (v := 0) X.1.1 X.1.2.1 dX6_readRounds_5 (by decide) k) ?_
  refine J.pu (fun _ _ _ _ k => lv_iconst (v := 1) X.1.1 X.1.2.1 dX6_readRounds_6 (by decide) k) ?_
  refine J.pu (fun _ _ _ _ k => lv_bipush (v := 9) X.1.1 X.1.2.1 dX6_readRounds_7 (by decide) k) ?_
  refine J.bd' (fun v9 M9 h9 => ?_)
  refine J.cV (q := (RX6, TX6, 26)) (ci := 5) (As := [.int 0, .int 1, .int 9]) (rest := []) (s2 := [.int v9]) X ⟨rfl, rfl⟩ (ct_X6_takes l hm σ n M1 0 1 9) (mup_of h9) (fun _ _ => cwV 3 X.1.2.2.2.2 (lw_V q2870 q2872 qs68 q174 q2873) rfl rfl rfl (by decide +kernel) ⟨(Nat.le_of_ble_eq_true rfl), (Nat.le_of_ble_eq_true rfl)⟩) mH_rc rfl rfl hl.1 rfl rfl (Nat.le_of_ble_eq_true rfl) dX6_readRounds_9 ?_
  refine J.br (fun _ _ _ _ ka kb => lv_if_ne (tgt := 17) X.1.1 X.1.2.1 dX6_readRounds_12 (by decide) kb ka) (fun c12 => ?_) (fun c12 => ?_)
  · refine J.pu (fun _ _ _ _ k => lv_iconst (v := 0) X.1.1 X.1.2.1 dX6_readRounds_15 (by decide) k) ?_
    exact J.zret (vr := fun t : Int32 × jM => jrI t.1) (fin := fun r : Int32 × jM => mH mo A σ r.2) (t := t) X hr (by decide) (by rfl) (by rfl) dX6_readRounds_16
  · refine J.pu (fun _ _ _ _ k => lv_aload_n X.1.1 X.1.2.1 dX6_readRounds_17 rfl (lv_at hl 0 rfl) k) ?_
    refine J.mgA (k := 0) X (by decide) q2730 rfl rfl dX6_readRounds_18 ?_
    refine J.pu (fun _ _ _ _ k => lv_bipush (v := 6) X.1.1 X.1.2.1 dX6_readRounds_21 (by decide) k) ?_
    refine J.pu (fun _ _ _ _ k => lv_aload_n X.1.1 X.1.2.1 dX6_readRounds_23 rfl (lv_at hl 0 rfl) k) ?_
    refine J.mgA (k := 19) X (by decide) q2749 rfl rfl dX6_readRounds_24 ?_
    refine J.pu (fun _ _ _ _ k => lv_iconst (v := 0) X.1.1 X.1.2.1 dX6_readRounds_27 (by decide) k) ?_
    refine J.mld X hm (by decide) dX6_readRounds_28 (fun v28 h28 => ?_)
    refine J.mst X hm (by decide) dX6_readRounds_29 (fun M29 h29 => ?_)
    refine J.pu (fun _ _ _ _ k => lv_aload_n X.1.1 X.1.2.1 dX6_readRounds_30 rfl (lv_at hl 0 rfl) k) ?_
    refine J.bd' (fun v31 M31 h31 => ?_)
    refine J.cV (q := (RX6, TX6, 26)) (ci := 5) (As := []) (rest := []) (s2 := [.int v31]) X ⟨rfl, rfl⟩ (ct_X6_takesSemicolon l hm σ n M29) (mup_of h31) (fun _ _ => cwV 0 X.1.2.2.2.2 (lw_V q2882 q2884 qs71 q174 q2885) rfl rfl rfl (by decide +kernel) ⟨(Nat.le_of_ble_eq_true rfl), (Nat.le_of_ble_eq_true rfl)⟩) mH_rc rfl rfl hl.1 rfl rfl (Nat.le_of_ble_eq_true rfl) dX6_readRounds_31 ?_
    exact J.zretb (vr := fun t : Int32 × jM => jrI t.1) (fin := fun r : Int32 × jM => mH mo A σ r.2) (t := t) X hr (by rfl) (by rfl) dX6_readRounds_34
noncomputable def X6_hasScanner_h2 (n : Nat) (M : jM) (a1 : Int32) (rec2 : Int32 → Option (Int32)) (q2 : Int32) : Option (Int32) :=
  let x2_2 := q2; (mA M 0 2).bind fun v8 => if v8 ≤ x2_2 then (some 0) else ((mA M 0 (19 + x2_2)).bind fun v20 => if v20 = a1 then (some 1) else (rec2 (x2_2 + 1)))
noncomputable def X6_hasScanner (n : Nat) (M : jM) (a1 : Int32) : Option (Int32) :=
  jloop (X6_hasScanner_h2 n M a1) n 0
set_option maxHeartbeats 4000000 in
set_option maxRecDepth 100000 in
theorem ct_X6_hasScanner (l : Launch) {G : jG} {mo : Nat} {A : Nat → Nat} (hm : mOK G mo A) (σ : jH) (n : Nat) (M : jM) (a1 : Int32) : jCt l G yX6_hasScanner (ws_ yX6_hasScanner cX6_hasScanner 3 (some .boolean)) 0 0 jrI [.ref mo, .int a1] (mH mo A σ M) (jrd (mH mo A σ M) (X6_hasScanner n M a1)) := by
  refine jCt.rd (lv := [(0, .ref mo), (1, .int a1)]) (plainFor_of_name (by decide)) (Nat.le_of_ble_eq_true rfl) rfl ?_
  intro t p e s m args below meth c ls X hr hnm hl
  have X : jCx p c cX6_hasScanner 3 s m args RX6 G meth := X
  have L2 : ∀ (n2 : Nat) (x2_2 : Int32) (ls : Array Slot), lv_has ls 3 [(0, .ref mo), (1, .int a1), (2, .int x2_2)] → jGo l G 0 0 (mH mo A σ M) (fun _ : Int32 => (mH mo A σ M)) jrI t p e s m args below meth c (jloop (X6_hasScanner_h2 n M a1) n2 x2_2) (mH mo A σ M) (F0 m 2 ls []) := by
    intro n2
    induction n2 with
    | zero => intro x2_2 ls hl; exact J.nil_
    | succ n2 ih2 =>
      intro x2_2 ls hl
      refine J.eq (jloop_s _ _ _) ?_
      dsimp only [X6_hasScanner_h2]
      refine J.pu (fun _ _ _ _ k => lv_iload_n X.1.1 X.1.2.1 dX6_hasScanner_2 rfl (lv_at hl 2 rfl) k) ?_
      refine J.pu (fun _ _ _ _ k => lv_aload_n X.1.1 X.1.2.1 dX6_hasScanner_3 rfl (lv_at hl 0 rfl) k) ?_
      refine J.mgA (k := 0) X (by decide) q2730 rfl rfl dX6_hasScanner_4 ?_
      refine J.pu (fun _ _ _ _ k => lv_iconst (v := 2) X.1.1 X.1.2.1 dX6_hasScanner_7 (by decide) k) ?_
      refine J.mld X hm (by decide) dX6_hasScanner_8 (fun v8 h8 => ?_)
      refine J.br (fun _ _ _ _ ka kb => lv_icmp_ge (tgt := 33) X.1.1 X.1.2.1 dX6_hasScanner_9 (by decide) ka kb) (fun c9 => ?_) (fun c9 => ?_)
      · refine J.pu (fun _ _ _ _ k => lv_iconst (v := 0) X.1.1 X.1.2.1 dX6_hasScanner_33 (by decide) k) ?_
        exact J.zret (vr := jrI) (fin := fun _ : Int32 => (mH mo A σ M)) (t := t) X hr (by decide) (by rfl) (by rfl) dX6_hasScanner_34
      · refine J.pu (fun _ _ _ _ k => lv_aload_n X.1.1 X.1.2.1 dX6_hasScanner_12 rfl (lv_at hl 0 rfl) k) ?_
        refine J.mgA (k := 0) X (by decide) q2730 rfl rfl dX6_hasScanner_13 ?_
        refine J.pu (fun _ _ _ _ k => lv_bipush (v := 19) X.1.1 X.1.2.1 dX6_hasScanner_16 (by decide) k) ?_
        refine J.pu (fun _ _ _ _ k => lv_iload_n X.1.1 X.1.2.1 dX6_hasScanner_18 rfl (lv_at hl 2 rfl) k) ?_
        refine J.pu (fun _ _ _ _ k => lv_iadd X.1.1 X.1.2.1 dX6_hasScanner_19 k) ?_
        refine J.mld X hm (by decide) dX6_hasScanner_20 (fun v20 h20 => ?_)
        refine J.pu (fun _ _ _ _ k => lv_iload_n X.1.1 X.1.2.1 dX6_hasScanner_21 rfl (lv_at hl 1 rfl) k) ?_
        refine J.br (fun _ _ _ _ ka kb => lv_icmp_ne (tgt := 27) X.1.1 X.1.2.1 dX6_hasScanner_22 (by decide) kb ka) (fun c22 => ?_) (fun c22 => ?_)
        · refine J.pu (fun _ _ _ _ k => lv_iconst (v := 1) X.1.1 X.1.2.1 dX6_hasScanner_25 (by decide) k) ?_
          exact J.zret (vr := jrI) (fin := fun _ : Int32 => (mH mo A σ M)) (t := t) X hr (by decide) (by rfl) (by rfl) dX6_hasScanner_26
        · refine J.iinc (k := 2) (lv' := [(2, .int (x2_2 + 1)), (0, .ref mo), (1, .int a1)]) (w := (x2_2 + 1)) X.1.1 X.1.2.1 dX6_hasScanner_27 hl rfl rfl (by decide) (by first | rfl | simp [va_rf_cat, jcI, jcA, jcJ, jcD, jcF]) (fun ls hl => ?_)
          refine J.pu (fun _ _ _ _ k => lv_goto (tgt := 2) X.1.1 X.1.2.1 dX6_hasScanner_30 (by decide) k) ?_
          exact ih2 (x2_2 + 1) ls (lv_sub hl [1, 2, 0] rfl)
  unfold X6_hasScanner
  refine J.pu (fun _ _ _ _ k => lv_iconst (v := 0) X.1.1 X.1.2.1 dX6_hasScanner_0 (by decide) k) ?_
  refine J.istore_n (i := 2) (lv' := [(2, .int 0), (0, .ref mo), (1, .int a1)]) X.1.1 X.1.2.1 dX6_hasScanner_1 rfl hl (by decide) (by first | rfl | simp [va_rf_cat, jcI, jcA, jcJ, jcD, jcF]) (fun ls hl => ?_)
  exact L2 n 0 ls (lv_sub hl [1, 2, 0] rfl)
noncomputable def X6_readScanner (n : Nat) (M : jM) : Option (Int32 × jM) :=
  (mA M 0 2).bind fun v5 => if v5 = 4 then (bd (X6_failsAt n M 4) fun v12 M12 => jbo .boolean v12 (some (v12, M12))) else (bd (X6_advanceToken n M) fun v17 M17 => (mA M17 0 0).bind fun v27 => bd (X6_seesNumber n M17 0 (v27 - 1)) fun v30 M30 => if v30 = 0 then (some (0, M30)) else ((X6_hasScanner n M30 (M30.2 18)).bind fun v43 => if v43 = 0 then ((mA M30 0 2).bind fun v66 => (mS M30 0 (19 + v66) (M30.2 18)).bind fun M72 => (mA M72 0 2).bind fun v79 => (mS M72 0 2 (v79 + 1)).bind fun M82 => bd (X6_advanceToken n M82) fun v84 M84 => bd (X6_takesSemicolon n M84) fun v88 M88 => jbo .boolean v88 (some (v88, M88))) else (bd (X6_failsAt n M30 3) fun v51 M51 => jbo .boolean v51 (some (v51, M51)))))
set_option maxHeartbeats 4000000 in
set_option maxRecDepth 100000 in
theorem ct_X6_readScanner (l : Launch) {G : jG} {mo : Nat} {A : Nat → Nat} (hm : mOK G mo A) (σ : jH) (n : Nat) (M : jM) : jCt l G yX6_readScanner (ws_ yX6_readScanner cX6_readScanner 1 (some .boolean)) 4 84 jrI [.ref mo] (mH mo A σ M) (mup mo A σ (X6_readScanner n M)) := by
  refine jCt.wm (lv := [(0, .ref mo)]) (plainFor_of_name (by decide)) (Nat.le_of_ble_eq_true rfl) rfl ?_
  intro t p e s m args below meth c ls X hr hnm hl
  have X : jCx p c cX6_readScanner 1 s m args RX6 G meth := X
  unfold X6_readScanner
  refine J.pu (fun _ _ _ _ k => lv_aload_n X.1.1 X.1.2.1 dX6_readScanner_0 rfl (lv_at hl 0 rfl) k) ?_
  refine J.mgA (k := 0) X (by decide) q2730 rfl rfl dX6_readScanner_1 ?_
  refine J.pu (fun _ _ _ _ k => lv_iconst (v := 2) X.1.1 X.1.2.1 dX6_readScanner_4 (by decide) k) ?_
  refine J.mld X hm (by decide) dX6_readScanner_5 (fun v5 h5 => ?_)
  refine J.pu (fun _ _ _ _ k => lv_iconst (v := 4) X.1.1 X.1.2.1 dX6_readScanner_6 (by decide) k) ?_
  refine J.br (fun _ _ _ _ ka kb => lv_icmp_ne (tgt := 16) X.1.1 X.1.2.1 dX6_readScanner_7 (by decide) kb ka) (fun c7 => ?_) (fun c7 => ?_)
  · refine J.pu (fun _ _ _ _ k => lv_aload_n X.1.1 X.1.2.1 dX6_readScanner_10 rfl (lv_at hl 0 rfl) k) ?_
    refine J.pu (fun _ _ _ _ k => lv_iconst (v := 4) X.1.1 X.1.2.1 dX6_readScanner_11 (by decide) k) ?_
    refine J.bd' (fun v12 M12 h12 => ?_)
    refine J.cV (q := (RX6, TX6, 26)) (ci := 5) (As := [.int 4]) (rest := []) (s2 := [.int v12]) X ⟨rfl, rfl⟩ (ct_X6_failsAt l hm σ n M 4) (mup_of h12) (fun _ _ => cwV 1 X.1.2.2.2.2 (lw_V q2866 q2868 qs67 q174 q2869) rfl rfl rfl (by decide +kernel) ⟨(Nat.le_of_ble_eq_true rfl), (Nat.le_of_ble_eq_true rfl)⟩) mH_rc rfl rfl hl.1 rfl rfl (Nat.le_of_ble_eq_true rfl) dX6_readScanner_12 ?_
    exact J.zretb (vr := fun t : Int32 × jM => jrI t.1) (fin := fun r : Int32 × jM => mH mo A σ r.2) (t := t) X hr (by rfl) (by rfl) dX6_readScanner_15
  · refine J.pu (fun _ _ _ _ k => lv_aload_n X.1.1 X.1.2.1 dX6_readScanner_16 rfl (lv_at hl 0 rfl) k) ?_
    refine J.bd' (fun v17 M17 h17 => ?_)
    refine J.cV (q := (RX6, TX6, 26)) (ci := 5) (As := []) (rest := []) (s2 := []) X ⟨rfl, rfl⟩ (ct_X6_advanceToken l hm σ n M) (mup_of h17) (fun _ _ => cwV 0 X.1.2.2.2.2 (lw_V q2839 q2841 qs61 q174 q2842) rfl rfl rfl (by decide +kernel) ⟨(Nat.le_of_ble_eq_true rfl), (Nat.le_of_ble_eq_true rfl)⟩) mH_rc rfl rfl hl.1 rfl rfl (Nat.le_of_ble_eq_true rfl) dX6_readScanner_17 ?_
    refine J.pu (fun _ _ _ _ k => lv_aload_n X.1.1 X.1.2.1 dX6_readScanner_20 rfl (lv_at hl 0 rfl) k) ?_
    refine J.pu (fun _ _ _ _ k => lv_iconst (v := 0) X.1.1 X.1.2.1 dX6_readScanner_21 (by decide) k) ?_
    refine J.pu (fun _ _ _ _ k => lv_aload_n X.1.1 X.1.2.1 dX6_readScanner_22 rfl (lv_at hl 0 rfl) k) ?_
    refine J.mgA (k := 0) X (by decide) q2730 rfl rfl dX6_readScanner_23 ?_
    refine J.pu (fun _ _ _ _ k => lv_iconst (v := 0) X.1.1 X.1.2.1 dX6_readScanner_26 (by decide) k) ?_
    refine J.mld X hm (by decide) dX6_readScanner_27 (fun v27 h27 => ?_)
    refine J.pu (fun _ _ _ _ k => lv_iconst (v := 1) X.1.1 X.1.2.1 dX6_readScanner_28 (by decide) k) ?_
    refine J.pu (fun _ _ _ _ k => lv_isub X.1.1 X.1.2.1 dX6_readScanner_29 k) ?_
    refine J.bd' (fun v30 M30 h30 => ?_)
    refine J.cV (q := (RX6, TX6, 26)) (ci := 5) (As := [.int 0, .int (v27 - 1)]) (rest := []) (s2 := [.int v30]) X ⟨rfl, rfl⟩ (ct_X6_seesNumber l hm σ n M17 0 (v27 - 1)) (mup_of h30) (fun _ _ => cwV 2 X.1.2.2.2.2 (lw_V q2878 q2880 qs70 q174 q2881) rfl rfl rfl (by decide +kernel) ⟨(Nat.le_of_ble_eq_true rfl), (Nat.le_of_ble_eq_true rfl)⟩) mH_rc rfl rfl hl.1 rfl rfl (Nat.le_of_ble_eq_true rfl) dX6_readScanner_30 ?_
    refine J.br (fun _ _ _ _ ka kb => lv_if_ne (tgt := 38) X.1.1 X.1.2.1 dX6_readScanner_33 (by decide) kb ka) (fun c33 => ?_) (fun c33 => ?_)
    · refine J.pu (fun _ _ _ _ k => lv_iconst (v := 0) X.1.1 X.1.2.1 dX6_readScanner_36 (by decide) k) ?_
      exact J.zret (vr := fun t : Int32 × jM => jrI t.1) (fin := fun r : Int32 × jM => mH mo A σ r.2) (t := t) X hr (by decide) (by rfl) (by rfl) dX6_readScanner_37
    · refine J.pu (fun _ _ _ _ k => lv_aload_n X.1.1 X.1.2.1 dX6_readScanner_38 rfl (lv_at hl 0 rfl) k) ?_
      refine J.pu (fun _ _ _ _ k => lv_aload_n X.1.1 X.1.2.1 dX6_readScanner_39 rfl (lv_at hl 0 rfl) k) ?_
      refine J.mgS (k := 18) X (by decide) q2748 rfl rfl dX6_readScanner_40 ?_
      refine J.bind (fun v43 h43 => ?_)
      refine J.cV (q := (RX6, TX6, 26)) (ci := 5) (As := [.int (M30.2 18)]) (rest := []) (s2 := [.int v43]) X ⟨rfl, rfl⟩ (ct_X6_hasScanner l hm σ n M30 (M30.2 18)) (jrd_of h43) (fun _ _ => cwV 1 X.1.2.2.2.2 (lw_V q2895 q2897 qs74 q174 q2898) rfl rfl rfl (by decide +kernel) ⟨(Nat.le_of_ble_eq_true rfl), (Nat.le_of_ble_eq_true rfl)⟩) mH_rc rfl rfl hl.1 rfl rfl (Nat.le_of_ble_eq_true rfl) dX6_readScanner_43 ?_
      refine J.br (fun _ _ _ _ ka kb => lv_if_eq (tgt := 55) X.1.1 X.1.2.1 dX6_readScanner_46 (by decide) ka kb) (fun c46 => ?_) (fun c46 => ?_)
      · refine J.pu (fun _ _ _ _ k => lv_aload_n X.1.1 X.1.2.1 dX6_readScanner_55 rfl (lv_at hl 0 rfl) k) ?_
        refine J.mgA (k := 0) X (by decide) q2730 rfl rfl dX6_readScanner_56 ?_
        refine J.pu (fun _ _ _ _ k => lv_bipush (v := 19) X.1.1 X.1.2.1 dX6_readScanner_59 (by decide) k) ?_
        refine J.pu (fun _ _ _ _ k => lv_aload_n X.1.1 X.1.2.1 dX6_readScanner_61 rfl (lv_at hl 0 rfl) k) ?_
        refine J.mgA (k := 0) X (by decide) q2730 rfl rfl dX6_readScanner_62 ?_
        refine J.pu (fun _ _ _ _ k => lv_iconst (v := 2) X.1.1 X.1.2.1 dX6_readScanner_65 (by decide) k) ?_
        refine J.mld X hm (by decide) dX6_readScanner_66 (fun v66 h66 => ?_)
        refine J.pu (fun _ _ _ _ k => lv_iadd X.1.1 X.1.2.1 dX6_readScanner_67 k) ?_
        refine J.pu (fun _ _ _ _ k => lv_aload_n X.1.1 X.1.2.1 dX6_readScanner_68 rfl (lv_at hl 0 rfl) k) ?_
        refine J.mgS (k := 18) X (by decide) q2748 rfl rfl dX6_readScanner_69 ?_
        refine J.mst X hm (by decide) dX6_readScanner_72 (fun M72 h72 => ?_)
        refine J.pu (fun _ _ _ _ k => lv_aload_n X.1.1 X.1.2.1 dX6_readScanner_73 rfl (lv_at hl 0 rfl) k) ?_
        refine J.mgA (k := 0) X (by decide) q2730 rfl rfl dX6_readScanner_74 ?_
        refine J.pu (fun _ _ _ _ k => lv_iconst (v := 2) X.1.1 X.1.2.1 dX6_readScanner_77 (by decide) k) ?_
        refine J.pu (fun _ _ _ _ k => lv_dup2_11 X.1.1 X.1.2.1 dX6_readScanner_78 rfl rfl k) ?_
        refine J.mld X hm (by decide) dX6_readScanner_79 (fun v79 h79 => ?_)
        refine J.pu (fun _ _ _ _ k => lv_iconst (v := 1) X.1.1 X.1.2.1 dX6_readScanner_80 (by decide) k) ?_
        refine J.pu (fun _ _ _ _ k => lv_iadd X.1.1 X.1.2.1 dX6_readScanner_81 k) ?_
        refine J.mst X hm (by decide) dX6_readScanner_82 (fun M82 h82 => ?_)
        refine J.pu (fun _ _ _ _ k => lv_aload_n X.1.1 X.1.2.1 dX6_readScanner_83 rfl (lv_at hl 0 rfl) k) ?_
        refine J.bd' (fun v84 M84 h84 => ?_)
        refine J.cV (q := (RX6, TX6, 26)) (ci := 5) (As := []) (rest := []) (s2 := []) X ⟨rfl, rfl⟩ (ct_X6_advanceToken l hm σ n M82) (mup_of h84) (fun _ _ => cwV 0 X.1.2.2.2.2 (lw_V q2839 q2841 qs61 q174 q2842) rfl rfl rfl (by decide +kernel) ⟨(Nat.le_of_ble_eq_true rfl), (Nat.le_of_ble_eq_true rfl)⟩) mH_rc rfl rfl hl.1 rfl rfl (Nat.le_of_ble_eq_true rfl) dX6_readScanner_84 ?_
        refine J.pu (fun _ _ _ _ k => lv_aload_n X.1.1 X.1.2.1 dX6_readScanner_87 rfl (lv_at hl 0 rfl) k) ?_
        refine J.bd' (fun v88 M88 h88 => ?_)
        refine J.cV (q := (RX6, TX6, 26)) (ci := 5) (As := []) (rest := []) (s2 := [.int v88]) X ⟨rfl, rfl⟩ (ct_X6_takesSemicolon l hm σ n M84) (mup_of h88) (fun _ _ => cwV 0 X.1.2.2.2.2 (lw_V q2882 q2884 qs71 q174 q2885) rfl rfl rfl (by decide +kernel) ⟨(Nat.le_of_ble_eq_true rfl), (Nat.le_of_ble_eq_true rfl)⟩) mH_rc rfl rfl hl.1 rfl rfl (Nat.le_of_ble_eq_true rfl) dX6_readScanner_88 ?_
        exact J.zretb (vr := fun t : Int32 × jM => jrI t.1) (fin := fun r : Int32 × jM => mH mo A σ r.2) (t := t) X hr (by rfl) (by rfl) dX6_readScanner_91
      · refine J.pu (fun _ _ _ _ k => lv_aload_n X.1.1 X.1.2.1 dX6_readScanner_49 rfl (lv_at hl 0 rfl) k) ?_
        refine J.pu (fun _ _ _ _ k => lv_iconst (v := 3) X.1.1 X.1.2.1 dX6_readScanner_50 (by decide) k) ?_
        refine J.bd' (fun v51 M51 h51 => ?_)
        refine J.cV (q := (RX6, TX6, 26)) (ci := 5) (As := [.int 3]) (rest := []) (s2 := [.int v51]) X ⟨rfl, rfl⟩ (ct_X6_failsAt l hm σ n M30 3) (mup_of h51) (fun _ _ => cwV 1 X.1.2.2.2.2 (lw_V q2866 q2868 qs67 q174 q2869) rfl rfl rfl (by decide +kernel) ⟨(Nat.le_of_ble_eq_true rfl), (Nat.le_of_ble_eq_true rfl)⟩) mH_rc rfl rfl hl.1 rfl rfl (Nat.le_of_ble_eq_true rfl) dX6_readScanner_51 ?_
        exact J.zretb (vr := fun t : Int32 × jM => jrI t.1) (fin := fun r : Int32 × jM => mH mo A σ r.2) (t := t) X hr (by rfl) (by rfl) dX6_readScanner_54
noncomputable def X6_readSetupStatement (n : Nat) (M : jM) : Option (Int32 × jM) :=
  (X6_isWord n M 36).bind fun v3 => if v3 = 0 then ((X6_isWord n M 37).bind fun v17 => if v17 = 0 then ((X6_isWord n M 38).bind fun v31 => if v31 = 0 then (bd (X6_failsAt n M 1) fun v46 M46 => jbo .boolean v46 (some (v46, M46))) else (bd (X6_readRounds n M) fun v38 M38 => jbo .boolean v38 (some (v38, M38)))) else (bd (X6_readChute n M) fun v24 M24 => jbo .boolean v24 (some (v24, M24)))) else (bd (X6_readScanner n M) fun v10 M10 => jbo .boolean v10 (some (v10, M10)))
set_option maxHeartbeats 4000000 in
set_option maxRecDepth 100000 in
theorem ct_X6_readSetupStatement (l : Launch) {G : jG} {mo : Nat} {A : Nat → Nat} (hm : mOK G mo A) (σ : jH) (hs : jKS G σ) (n : Nat) (M : jM) : jCt l G yX6_readSetupStatement (ws_ yX6_readSetupStatement cX6_readSetupStatement 1 (some .boolean)) 8 243 jrI [.ref mo] (mH mo A σ M) (mup mo A σ (X6_readSetupStatement n M)) := by
  refine jCt.wm (lv := [(0, .ref mo)]) (plainFor_of_name (by decide)) (Nat.le_of_ble_eq_true rfl) rfl ?_
  intro t p e s m args below meth c ls X hr hnm hl
  have X : jCx p c cX6_readSetupStatement 1 s m args RX6 G meth := X
  unfold X6_readSetupStatement
  refine J.pu (fun _ _ _ _ k => lv_aload_n X.1.1 X.1.2.1 dX6_readSetupStatement_0 rfl (lv_at hl 0 rfl) k) ?_
  refine J.pu (fun _ _ _ _ k => W.ldcS (i := 36) X rfl dX6_readSetupStatement_1 k) ?_
  refine J.bind (fun v3 h3 => ?_)
  refine J.cV (q := (RX6, TX6, 26)) (ci := 5) (As := [va_rf (G.2.2.2 36)]) (rest := []) (s2 := [.int v3]) X ⟨rfl, rfl⟩ (ct_X6_isWord l hm σ hs n M 36 (by decide)) (jrd_of h3) (fun _ _ => cwV 1 X.1.2.2.2.2 (lw_V q2860 q2862 qs66 q174 q2863) rfl rfl rfl (by decide +kernel) ⟨(Nat.le_of_ble_eq_true rfl), (Nat.le_of_ble_eq_true rfl)⟩) mH_rc rfl rfl hl.1 rfl rfl (Nat.le_of_ble_eq_true rfl) dX6_readSetupStatement_3 ?_
  refine J.br (fun _ _ _ _ ka kb => lv_if_eq (tgt := 14) X.1.1 X.1.2.1 dX6_readSetupStatement_6 (by decide) ka kb) (fun c6 => ?_) (fun c6 => ?_)
  · refine J.pu (fun _ _ _ _ k => lv_aload_n X.1.1 X.1.2.1 dX6_readSetupStatement_14 rfl (lv_at hl 0 rfl) k) ?_
    refine J.pu (fun _ _ _ _ k => W.ldcS (i := 37) X rfl dX6_readSetupStatement_15 k) ?_
    refine J.bind (fun v17 h17 => ?_)
    refine J.cV (q := (RX6, TX6, 26)) (ci := 5) (As := [va_rf (G.2.2.2 37)]) (rest := []) (s2 := [.int v17]) X ⟨rfl, rfl⟩ (ct_X6_isWord l hm σ hs n M 37 (by decide)) (jrd_of h17) (fun _ _ => cwV 1 X.1.2.2.2.2 (lw_V q2860 q2862 qs66 q174 q2863) rfl rfl rfl (by decide +kernel) ⟨(Nat.le_of_ble_eq_true rfl), (Nat.le_of_ble_eq_true rfl)⟩) mH_rc rfl rfl hl.1 rfl rfl (Nat.le_of_ble_eq_true rfl) dX6_readSetupStatement_17 ?_
    refine J.br (fun _ _ _ _ ka kb => lv_if_eq (tgt := 28) X.1.1 X.1.2.1 dX6_readSetupStatement_20 (by decide) ka kb) (fun c20 => ?_) (fun c20 => ?_)
    · refine J.pu (fun _ _ _ _ k => lv_aload_n X.1.1 X.1.2.1 dX6_readSetupStatement_28 rfl (lv_at hl 0 rfl) k) ?_
      refine J.pu (fun _ _ _ _ k => W.ldcS (i := 38) X rfl dX6_readSetupStatement_29 k) ?_
      refine J.bind (fun v31 h31 => ?_)
      refine J.cV (q := (RX6, TX6, 26)) (ci := 5) (As := [va_rf (G.2.2.2 38)]) (rest := []) (s2 := [.int v31]) X ⟨rfl, rfl⟩ (ct_X6_isWord l hm σ hs n M 38 (by decide)) (jrd_of h31) (fun _ _ => cwV 1 X.1.2.2.2.2 (lw_V q2860 q2862 qs66 q174 q2863) rfl rfl rfl (by decide +kernel) ⟨(Nat.le_of_ble_eq_true rfl), (Nat.le_of_ble_eq_true rfl)⟩) mH_rc rfl rfl hl.1 rfl rfl (Nat.le_of_ble_eq_true rfl) dX6_readSetupStatement_31 ?_
      refine J.br (fun _ _ _ _ ka kb => lv_if_eq (tgt := 44) X.1.1 X.1.2.1 dX6_readSetupStatement_34 (by decide) ka kb) (fun c34 => ?_) (fun c34 => ?_)
      · refine J.pu (fun _ _ _ _ k => lv_aload_n X.1.1 X.1.2.1 dX6_readSetupStatement_44 rfl (lv_at hl 0 rfl) k) ?_
        refine J.pu (fun _ _ _ _ k => lv_iconst (v := 1) X.1.1 X.1.2.1 dX6_readSetupStatement_45 (by decide) k) ?_
        refine J.bd' (fun v46 M46 h46 => ?_)
        refine J.cV (q := (RX6, TX6, 26)) (ci := 5) (As := [.int 1]) (rest := []) (s2 := [.int v46]) X ⟨rfl, rfl⟩ (ct_X6_failsAt l hm σ n M 1) (mup_of h46) (fun _ _ => cwV 1 X.1.2.2.2.2 (lw_V q2866 q2868 qs67 q174 q2869) rfl rfl rfl (by decide +kernel) ⟨(Nat.le_of_ble_eq_true rfl), (Nat.le_of_ble_eq_true rfl)⟩) mH_rc rfl rfl hl.1 rfl rfl (Nat.le_of_ble_eq_true rfl) dX6_readSetupStatement_46 ?_
        exact J.zretb (vr := fun t : Int32 × jM => jrI t.1) (fin := fun r : Int32 × jM => mH mo A σ r.2) (t := t) X hr (by rfl) (by rfl) dX6_readSetupStatement_49
      · refine J.pu (fun _ _ _ _ k => lv_aload_n X.1.1 X.1.2.1 dX6_readSetupStatement_37 rfl (lv_at hl 0 rfl) k) ?_
        refine J.bd' (fun v38 M38 h38 => ?_)
        refine J.cV (q := (RX6, TX6, 26)) (ci := 5) (As := []) (rest := []) (s2 := [.int v38]) X ⟨rfl, rfl⟩ (ct_X6_readRounds l hm σ n M) (mup_of h38) (fun _ _ => cwV 0 X.1.2.2.2.2 (lw_V q2913 q2915 qs78 q174 q2916) rfl rfl rfl (by decide +kernel) ⟨(Nat.le_of_ble_eq_true rfl), (Nat.le_of_ble_eq_true rfl)⟩) mH_rc rfl rfl hl.1 rfl rfl (Nat.le_of_ble_eq_true rfl) dX6_readSetupStatement_38 ?_
        refine J.pu (fun _ _ _ _ k => lv_goto (tgt := 49) X.1.1 X.1.2.1 dX6_readSetupStatement_41 (by decide) k) ?_
        exact J.zretb (vr := fun t : Int32 × jM => jrI t.1) (fin := fun r : Int32 × jM => mH mo A σ r.2) (t := t) X hr (by rfl) (by rfl) dX6_readSetupStatement_49
    · refine J.pu (fun _ _ _ _ k => lv_aload_n X.1.1 X.1.2.1 dX6_readSetupStatement_23 rfl (lv_at hl 0 rfl) k) ?_
      refine J.bd' (fun v24 M24 h24 => ?_)
      refine J.cV (q := (RX6, TX6, 26)) (ci := 5) (As := []) (rest := []) (s2 := [.int v24]) X ⟨rfl, rfl⟩ (ct_X6_readChute l hm σ n M) (mup_of h24) (fun _ _ => cwV 0 X.1.2.2.2.2 (lw_V q2900 q2902 qs75 q174 q2903) rfl rfl rfl (by decide +kernel) ⟨(Nat.le_of_ble_eq_true rfl), (Nat.le_of_ble_eq_true rfl)⟩) mH_rc rfl rfl hl.1 rfl rfl (Nat.le_of_ble_eq_true rfl) dX6_readSetupStatement_24 ?_
      exact J.zretb (vr := fun t : Int32 × jM => jrI t.1) (fin := fun r : Int32 × jM => mH mo A σ r.2) (t := t) X hr (by rfl) (by rfl) dX6_readSetupStatement_27
  · refine J.pu (fun _ _ _ _ k => lv_aload_n X.1.1 X.1.2.1 dX6_readSetupStatement_9 rfl (lv_at hl 0 rfl) k) ?_
    refine J.bd' (fun v10 M10 h10 => ?_)
    refine J.cV (q := (RX6, TX6, 26)) (ci := 5) (As := []) (rest := []) (s2 := [.int v10]) X ⟨rfl, rfl⟩ (ct_X6_readScanner l hm σ n M) (mup_of h10) (fun _ _ => cwV 0 X.1.2.2.2.2 (lw_V q2891 q2893 qs73 q174 q2894) rfl rfl rfl (by decide +kernel) ⟨(Nat.le_of_ble_eq_true rfl), (Nat.le_of_ble_eq_true rfl)⟩) mH_rc rfl rfl hl.1 rfl rfl (Nat.le_of_ble_eq_true rfl) dX6_readSetupStatement_10 ?_
    exact J.zretb (vr := fun t : Int32 × jM => jrI t.1) (fin := fun r : Int32 × jM => mH mo A σ r.2) (t := t) X hr (by rfl) (by rfl) dX6_readSetupStatement_13
noncomputable def X6_readText_h9 (n : Nat) (rec9 : jM → Option (Int32 × jM)) (q9 : jM) : Option (Int32 × jM) :=
  let B9 := q9; if (B9.2 17) = 0 then ((mA B9 0 3).bind fun v30 => if 0 < v30 then (some (1, B9)) else (bd (X6_failsAt n B9 5) fun v36 M36 => if v36 = 0 then (some (0, M36)) else (some (1, M36)))) else (bd (X6_readSetupStatement n B9) fun v17 M17 => if v17 = 0 then (some (0, M17)) else (rec9 M17))
noncomputable def X6_readText (n : Nat) (M : jM) : Option (Int32 × jM) :=
  bd (X6_readLoop n M) fun v1 M1 => if v1 = 0 then (some (0, M1)) else (jloop (X6_readText_h9 n) n M1)
set_option maxHeartbeats 4000000 in
set_option maxRecDepth 100000 in
theorem ct_X6_readText (l : Launch) {G : jG} {mo : Nat} {A : Nat → Nat} (hm : mOK G mo A) (σ : jH) (hs : jKS G σ) (n : Nat) (M : jM) : jCt l G yX6_readText (ws_ yX6_readText cX6_readText 1 (some .boolean)) 9 263 jrI [.ref mo] (mH mo A σ M) (mup mo A σ (X6_readText n M)) := by
  refine jCt.wm (lv := [(0, .ref mo)]) (plainFor_of_name (by decide)) (Nat.le_of_ble_eq_true rfl) rfl ?_
  intro t p e s m args below meth c ls X hr hnm hl
  have X : jCx p c cX6_readText 1 s m args RX6 G meth := X
  have L9 : ∀ (n9 : Nat) (B9 : jM) (ls : Array Slot), lv_has ls 1 [(0, .ref mo)] → jGo l G 9 263 (mH mo A σ M) (fun r : Int32 × jM => mH mo A σ r.2) (fun t => jrI t.1) t p e s m args below meth c (jloop (X6_readText_h9 n) n9 B9) (mH mo A σ B9) (F0 m 9 ls []) := by
    intro n9
    induction n9 with
    | zero => intro B9 ls hl; exact J.nil_
    | succ n9 ih9 =>
      intro B9 ls hl
      refine J.eq (jloop_s _ _ _) ?_
      dsimp only [X6_readText_h9]
      refine J.pu (fun _ _ _ _ k => lv_aload_n X.1.1 X.1.2.1 dX6_readText_9 rfl (lv_at hl 0 rfl) k) ?_
      refine J.mgS (k := 17) X (by decide) q2747 rfl rfl dX6_readText_10 ?_
      refine J.br (fun _ _ _ _ ka kb => lv_if_eq (tgt := 25) X.1.1 X.1.2.1 dX6_readText_13 (by decide) ka kb) (fun c13 => ?_) (fun c13 => ?_)
      · refine J.pu (fun _ _ _ _ k => lv_aload_n X.1.1 X.1.2.1 dX6_readText_25 rfl (lv_at hl 0 rfl) k) ?_
        refine J.mgA (k := 0) X (by decide) q2730 rfl rfl dX6_readText_26 ?_
        refine J.pu (fun _ _ _ _ k => lv_iconst (v := 3) X.1.1 X.1.2.1 dX6_readText_29 (by decide) k) ?_
        refine J.mld X hm (by decide) dX6_readText_30 (fun v30 h30 => ?_)
        refine J.br (fun _ _ _ _ ka kb => lv_if_gt (tgt := 42) X.1.1 X.1.2.1 dX6_readText_31 (by decide) ka kb) (fun c31 => ?_) (fun c31 => ?_)
        · refine J.pu (fun _ _ _ _ k => lv_iconst (v := 1) X.1.1 X.1.2.1 dX6_readText_42 (by decide) k) ?_
          refine J.pu (fun _ _ _ _ k => lv_goto (tgt := 47) X.1.1 X.1.2.1 dX6_readText_43 (by decide) k) ?_
          exact J.zret (vr := fun t : Int32 × jM => jrI t.1) (fin := fun r : Int32 × jM => mH mo A σ r.2) (t := t) X hr (by decide) (by rfl) (by rfl) dX6_readText_47
        · refine J.pu (fun _ _ _ _ k => lv_aload_n X.1.1 X.1.2.1 dX6_readText_34 rfl (lv_at hl 0 rfl) k) ?_
          refine J.pu (fun _ _ _ _ k => lv_iconst (v := 5) X.1.1 X.1.2.1 dX6_readText_35 (by decide) k) ?_
          refine J.bd' (fun v36 M36 h36 => ?_)
          refine J.cV (q := (RX6, TX6, 26)) (ci := 5) (As := [.int 5]) (rest := []) (s2 := [.int v36]) X ⟨rfl, rfl⟩ (ct_X6_failsAt l hm σ n B9 5) (mup_of h36) (fun _ _ => cwV 1 X.1.2.2.2.2 (lw_V q2866 q2868 qs67 q174 q2869) rfl rfl rfl (by decide +kernel) ⟨(Nat.le_of_ble_eq_true rfl), (Nat.le_of_ble_eq_true rfl)⟩) mH_rc rfl rfl hl.1 rfl rfl (Nat.le_of_ble_eq_true rfl) dX6_readText_36 ?_
          refine J.br (fun _ _ _ _ ka kb => lv_if_eq (tgt := 46) X.1.1 X.1.2.1 dX6_readText_39 (by decide) ka kb) (fun c39 => ?_) (fun c39 => ?_)
          · refine J.pu (fun _ _ _ _ k => lv_iconst (v := 0) X.1.1 X.1.2.1 dX6_readText_46 (by decide) k) ?_
            exact J.zret (vr := fun t : Int32 × jM => jrI t.1) (fin := fun r : Int32 × jM => mH mo A σ r.2) (t := t) X hr (by decide) (by rfl) (by rfl) dX6_readText_47
          · refine J.pu (fun _ _ _ _ k => lv_iconst (v := 1) X.1.1 X.1.2.1 dX6_readText_42 (by decide) k) ?_
            refine J.pu (fun _ _ _ _ k => lv_goto (tgt := 47) X.1.1 X.1.2.1 dX6_readText_43 (by decide) k) ?_
            exact J.zret (vr := fun t : Int32 × jM => jrI t.1) (fin := fun r : Int32 × jM => mH mo A σ r.2) (t := t) X hr (by decide) (by rfl) (by rfl) dX6_readText_47
      · refine J.pu (fun _ _ _ _ k => lv_aload_n X.1.1 X.1.2.1 dX6_readText_16 rfl (lv_at hl 0 rfl) k) ?_
        refine J.bd' (fun v17 M17 h17 => ?_)
        refine J.cV (q := (RX6, TX6, 26)) (ci := 5) (As := []) (rest := []) (s2 := [.int v17]) X ⟨rfl, rfl⟩ (ct_X6_readSetupStatement l hm σ hs n B9) (mup_of h17) (fun _ _ => cwV 0 X.1.2.2.2.2 (lw_V q2886 q2888 qs72 q174 q2889) rfl rfl rfl (by decide +kernel) ⟨(Nat.le_of_ble_eq_true rfl), (Nat.le_of_ble_eq_true rfl)⟩) mH_rc rfl rfl hl.1 rfl rfl (Nat.le_of_ble_eq_true rfl) dX6_readText_17 ?_
        refine J.br (fun _ _ _ _ ka kb => lv_if_ne (tgt := 9) X.1.1 X.1.2.1 dX6_readText_20 (by decide) kb ka) (fun c20 => ?_) (fun c20 => ?_)
        · refine J.pu (fun _ _ _ _ k => lv_iconst (v := 0) X.1.1 X.1.2.1 dX6_readText_23 (by decide) k) ?_
          exact J.zret (vr := fun t : Int32 × jM => jrI t.1) (fin := fun r : Int32 × jM => mH mo A σ r.2) (t := t) X hr (by decide) (by rfl) (by rfl) dX6_readText_24
        · exact ih9 M17 ls (lv_sub hl [0] rfl)
  unfold X6_readText
  refine J.pu (fun _ _ _ _ k => lv_aload_n X.1.1 X.1.2.1 dX6_readText_0 rfl (lv_at hl 0 rfl) k) ?_
  refine J.bd' (fun v1 M1 h1 => ?_)
  refine J.cV (q := (RX6, TX6, 26)) (ci := 5) (As := []) (rest := []) (s2 := [.int v1]) X ⟨rfl, rfl⟩ (ct_X6_readLoop l hm σ hs n M) (mup_of h1) (fun _ _ => cwV 0 X.1.2.2.2.2 (lw_V q2855 q2857 qs65 q174 q2858) rfl rfl rfl (by decide +kernel) ⟨(Nat.le_of_ble_eq_true rfl), (Nat.le_of_ble_eq_true rfl)⟩) mH_rc rfl rfl hl.1 rfl rfl (Nat.le_of_ble_eq_true rfl) dX6_readText_1 ?_
  refine J.br (fun _ _ _ _ ka kb => lv_if_ne (tgt := 9) X.1.1 X.1.2.1 dX6_readText_4 (by decide) kb ka) (fun c4 => ?_) (fun c4 => ?_)
  · refine J.pu (fun _ _ _ _ k => lv_iconst (v := 0) X.1.1 X.1.2.1 dX6_readText_7 (by decide) k) ?_
    exact J.zret (vr := fun t : Int32 × jM => jrI t.1) (fin := fun r : Int32 × jM => mH mo A σ r.2) (t := t) X hr (by decide) (by rfl) (by rfl) dX6_readText_8
  · exact L9 n M1 ls (lv_sub hl [0] rfl)
noncomputable def X6_startsText (n : Nat) (M : jM) : Option (Unit × jM) :=
  bd (X6_advanceToken n (mP (mP (mP (mP M 12 0) 13 (-1)) 23 0) 14 0)) fun v21 M21 => some ((), M21)
set_option maxHeartbeats 4000000 in
set_option maxRecDepth 100000 in
theorem ct_X6_startsText (l : Launch) {G : jG} {mo : Nat} {A : Nat → Nat} (hm : mOK G mo A) (σ : jH) (n : Nat) (M : jM) : jCt l G yX6_startsText (ws_ yX6_startsText cX6_startsText 1 none) 3 64 jrV [.ref mo] (mH mo A σ M) (mup mo A σ (X6_startsText n M)) := by
  refine jCt.wm (lv := [(0, .ref mo)]) (plainFor_of_name (by decide)) (Nat.le_of_ble_eq_true rfl) rfl ?_
  intro t p e s m args below meth c ls X hr hnm hl
  have X : jCx p c cX6_startsText 1 s m args RX6 G meth := X
  unfold X6_startsText
  refine J.pu (fun _ _ _ _ k => lv_aload_n X.1.1 X.1.2.1 dX6_startsText_0 rfl (lv_at hl 0 rfl) k) ?_
  refine J.pu (fun _ _ _ _ k => lv_iconst (v := 0) X.1.1 X.1.2.1 dX6_startsText_1 (by decide) k) ?_
  refine J.mpS (k := 12) X hm (by decide) q2742 rfl rfl rfl dX6_startsText_2 ?_
  refine J.pu (fun _ _ _ _ k => lv_aload_n X.1.1 X.1.2.1 dX6_startsText_5 rfl (lv_at hl 0 rfl) k) ?_
  refine J.pu (fun _ _ _ _ k => lv_iconst (v := (-1)) X.1.1 X.1.2.1 dX6_startsText_6 (by decide) k) ?_
  refine J.mpS (k := 13) X hm (by decide) q2743 rfl rfl rfl dX6_startsText_7 ?_
  refine J.pu (fun _ _ _ _ k => lv_aload_n X.1.1 X.1.2.1 dX6_startsText_10 rfl (lv_at hl 0 rfl) k) ?_
  refine J.pu (fun _ _ _ _ k => lv_iconst (v := 0) X.1.1 X.1.2.1 dX6_startsText_11 (by decide) k) ?_
  refine J.mpS (k := 23) X hm (by decide) q2753 rfl rfl rfl dX6_startsText_12 ?_
  refine J.pu (fun _ _ _ _ k => lv_aload_n X.1.1 X.1.2.1 dX6_startsText_15 rfl (lv_at hl 0 rfl) k) ?_
  refine J.pu (fun _ _ _ _ k => lv_iconst (v := 0) X.1.1 X.1.2.1 dX6_startsText_16 (by decide) k) ?_
  refine J.mpS (k := 14) X hm (by decide) q2744 rfl rfl rfl dX6_startsText_17 ?_
  refine J.pu (fun _ _ _ _ k => lv_aload_n X.1.1 X.1.2.1 dX6_startsText_20 rfl (lv_at hl 0 rfl) k) ?_
  refine J.bd' (fun v21 M21 h21 => ?_)
  refine J.cV (q := (RX6, TX6, 26)) (ci := 5) (As := []) (rest := []) (s2 := []) X ⟨rfl, rfl⟩ (ct_X6_advanceToken l hm σ n (mP (mP (mP (mP M 12 0) 13 (-1)) 23 0) 14 0)) (mup_of h21) (fun _ _ => cwV 0 X.1.2.2.2.2 (lw_V q2839 q2841 qs61 q174 q2842) rfl rfl rfl (by decide +kernel) ⟨(Nat.le_of_ble_eq_true rfl), (Nat.le_of_ble_eq_true rfl)⟩) mH_rc rfl rfl hl.1 rfl rfl (Nat.le_of_ble_eq_true rfl) dX6_startsText_21 ?_
  exact J.vret (vr := fun t : Unit × jM => jrV t.1) (fin := fun r : Unit × jM => mH mo A σ r.2) (t := t) X hr (by rfl) (by rfl) dX6_startsText_24
noncomputable def X6_loadLoop (n : Nat) (M : jM) : Option (Int32 × jM) :=
  bd (X6_copies n (mP M 7 0) 0 0 1 0) fun v15 M15 => bd (X6_startsText n M15) fun v19 M19 => bd (X6_readText n M19) fun v23 M23 => bd (X6_endsText n M23) fun v28 M28 => if v23 = 0 then (bd (X6_copies n M28 1 0 0 0) fun v45 M45 => some ((-1), M45)) else ((mA (mP (mP M28 5 0) 6 0) 0 3).bind fun v65 => some (v65, (mP (mP M28 5 0) 6 0)))
set_option maxHeartbeats 4000000 in
set_option maxRecDepth 100000 in
theorem ct_X6_loadLoop (l : Launch) {G : jG} {mo : Nat} {A : Nat → Nat} (hm : mOK G mo A) (σ : jH) (hs : jKS G σ) (n : Nat) (M : jM) : jCt l G yX6_loadLoop (ws_ yX6_loadLoop cX6_loadLoop 2 (some .int)) 10 283 jrI [.ref mo] (mH mo A σ M) (mup mo A σ (X6_loadLoop n M)) := by
  refine jCt.wm (lv := [(0, .ref mo)]) (plainFor_of_name (by decide)) (Nat.le_of_ble_eq_true rfl) rfl ?_
  intro t p e s m args below meth c ls X hr hnm hl
  have X : jCx p c cX6_loadLoop 2 s m args RX6 G meth := X
  unfold X6_loadLoop
  refine J.pu (fun _ _ _ _ k => lv_aload_n X.1.1 X.1.2.1 dX6_loadLoop_0 rfl (lv_at hl 0 rfl) k) ?_
  refine J.pu (fun _ _ _ _ k => lv_iconst (v := 0) X.1.1 X.1.2.1 dX6_loadLoop_1 (by decide) k) ?_
  refine J.mpS (k := 7) X hm (by decide) q2737 rfl rfl rfl dX6_loadLoop_2 ?_
  refine J.pu (fun _ _ _ _ k => lv_aload_n X.1.1 X.1.2.1 dX6_loadLoop_5 rfl (lv_at hl 0 rfl) k) ?_
  refine J.mgA (k := 0) X (by decide) q2730 rfl rfl dX6_loadLoop_6 ?_
  refine J.pu (fun _ _ _ _ k => lv_iconst (v := 0) X.1.1 X.1.2.1 dX6_loadLoop_9 (by decide) k) ?_
  refine J.pu (fun _ _ _ _ k => lv_aload_n X.1.1 X.1.2.1 dX6_loadLoop_10 rfl (lv_at hl 0 rfl) k) ?_
  refine J.mgA (k := 1) X (by decide) q2731 rfl rfl dX6_loadLoop_11 ?_
  refine J.pu (fun _ _ _ _ k => lv_iconst (v := 0) X.1.1 X.1.2.1 dX6_loadLoop_14 (by decide) k) ?_
  refine J.bd' (fun v15 M15 h15 => ?_)
  refine J.cS (As := [.ref (A 0), .int 0, .ref (A 1), .int 0]) (rest := []) (s2 := []) X ⟨rfl, rfl⟩ (ct_X6_copies l hm σ n (mP M 7 0) 0 0 1 0 (by decide) (by decide)) (mup_of h15) (fun _ _ => va_cwS 4 X.1.2.2.2.2 (lw_S q2832 q2833 q174 q2834) rfl rfl rfl (by decide +kernel) ⟨(Nat.le_of_ble_eq_true rfl), (Nat.le_of_ble_eq_true rfl)⟩) rfl hl.1 rfl rfl (Nat.le_of_ble_eq_true rfl) dX6_loadLoop_15 ?_
  refine J.pu (fun _ _ _ _ k => lv_aload_n X.1.1 X.1.2.1 dX6_loadLoop_18 rfl (lv_at hl 0 rfl) k) ?_
  refine J.bd' (fun v19 M19 h19 => ?_)
  refine J.cV (q := (RX6, TX6, 26)) (ci := 5) (As := []) (rest := []) (s2 := []) X ⟨rfl, rfl⟩ (ct_X6_startsText l hm σ n M15) (mup_of h19) (fun _ _ => cwV 0 X.1.2.2.2.2 (lw_V q2835 q2837 qs60 q174 q2838) rfl rfl rfl (by decide +kernel) ⟨(Nat.le_of_ble_eq_true rfl), (Nat.le_of_ble_eq_true rfl)⟩) mH_rc rfl rfl hl.1 rfl rfl (Nat.le_of_ble_eq_true rfl) dX6_loadLoop_19 ?_
  refine J.pu (fun _ _ _ _ k => lv_aload_n X.1.1 X.1.2.1 dX6_loadLoop_22 rfl (lv_at hl 0 rfl) k) ?_
  refine J.bd' (fun v23 M23 h23 => ?_)
  refine J.cV (q := (RX6, TX6, 26)) (ci := 5) (As := []) (rest := []) (s2 := [.int v23]) X ⟨rfl, rfl⟩ (ct_X6_readText l hm σ hs n M19) (mup_of h23) (fun _ _ => cwV 0 X.1.2.2.2.2 (lw_V q2851 q2853 qs64 q174 q2854) rfl rfl rfl (by decide +kernel) ⟨(Nat.le_of_ble_eq_true rfl), (Nat.le_of_ble_eq_true rfl)⟩) mH_rc rfl rfl hl.1 rfl rfl (Nat.le_of_ble_eq_true rfl) dX6_loadLoop_23 ?_
  refine J.istore_n (i := 1) (lv' := [(1, .int v23), (0, .ref mo)]) X.1.1 X.1.2.1 dX6_loadLoop_26 rfl hl (by decide) (by first | rfl | simp [va_rf_cat, jcI, jcA, jcJ, jcD, jcF]) (fun ls hl => ?_)
  refine J.pu (fun _ _ _ _ k => lv_aload_n X.1.1 X.1.2.1 dX6_loadLoop_27 rfl (lv_at hl 1 rfl) k) ?_
  refine J.bd' (fun v28 M28 h28 => ?_)
  refine J.cV (q := (RX6, TX6, 26)) (ci := 5) (As := []) (rest := []) (s2 := []) X ⟨rfl, rfl⟩ (ct_X6_endsText l hm σ n M23) (mup_of h28) (fun _ _ => cwV 0 X.1.2.2.2.2 (lw_V q2917 q2919 qs79 q174 q2920) rfl rfl rfl (by decide +kernel) ⟨(Nat.le_of_ble_eq_true rfl), (Nat.le_of_ble_eq_true rfl)⟩) mH_rc rfl rfl hl.1 rfl rfl (Nat.le_of_ble_eq_true rfl) dX6_loadLoop_28 ?_
  refine J.pu (fun _ _ _ _ k => lv_iload_n X.1.1 X.1.2.1 dX6_loadLoop_31 rfl (lv_at hl 0 rfl) k) ?_
  refine J.br (fun _ _ _ _ ka kb => lv_if_ne (tgt := 50) X.1.1 X.1.2.1 dX6_loadLoop_32 (by decide) kb ka) (fun c32 => ?_) (fun c32 => ?_)
  · refine J.pu (fun _ _ _ _ k => lv_aload_n X.1.1 X.1.2.1 dX6_loadLoop_35 rfl (lv_at hl 1 rfl) k) ?_
    refine J.mgA (k := 1) X (by decide) q2731 rfl rfl dX6_loadLoop_36 ?_
    refine J.pu (fun _ _ _ _ k => lv_iconst (v := 0) X.1.1 X.1.2.1 dX6_loadLoop_39 (by decide) k) ?_
    refine J.pu (fun _ _ _ _ k => lv_aload_n X.1.1 X.1.2.1 dX6_loadLoop_40 rfl (lv_at hl 1 rfl) k) ?_
    refine J.mgA (k := 0) X (by decide) q2730 rfl rfl dX6_loadLoop_41 ?_
    refine J.pu (fun _ _ _ _ k => lv_iconst (v := 0) X.1.1 X.1.2.1 dX6_loadLoop_44 (by decide) k) ?_
    refine J.bd' (fun v45 M45 h45 => ?_)
    refine J.cS (As := [.ref (A 1), .int 0, .ref (A 0), .int 0]) (rest := []) (s2 := []) X ⟨rfl, rfl⟩ (ct_X6_copies l hm σ n M28 1 0 0 0 (by decide) (by decide)) (mup_of h45) (fun _ _ => va_cwS 4 X.1.2.2.2.2 (lw_S q2832 q2833 q174 q2834) rfl rfl rfl (by decide +kernel) ⟨(Nat.le_of_ble_eq_true rfl), (Nat.le_of_ble_eq_true rfl)⟩) rfl hl.1 rfl rfl (Nat.le_of_ble_eq_true rfl) dX6_loadLoop_45 ?_
    refine J.pu (fun _ _ _ _ k => lv_iconst (v := (-1)) X.1.1 X.1.2.1 dX6_loadLoop_48 (by decide) k) ?_
    exact J.iret (vr := fun t : Int32 × jM => jrI t.1) (fin := fun r : Int32 × jM => mH mo A σ r.2) (t := t) X hr (by rfl) (by rfl) dX6_loadLoop_49
  · refine J.pu (fun _ _ _ _ k => lv_aload_n X.1.1 X.1.2.1 dX6_loadLoop_50 rfl (lv_at hl 1 rfl) k) ?_
    refine J.pu (fun _ _ _ _ k => lv_iconst (v := 0) X.1.1 X.1.2.1 dX6_loadLoop_51 (by decide) k) ?_
    refine J.mpS (k := 5) X hm (by decide) q2735 rfl rfl rfl dX6_loadLoop_52 ?_
    refine J.pu (fun _ _ _ _ k => lv_aload_n X.1.1 X.1.2.1 dX6_loadLoop_55 rfl (lv_at hl 1 rfl) k) ?_
    refine J.pu (fun _ _ _ _ k => lv_iconst (v := 0) X.1.1 X.1.2.1 dX6_loadLoop_56 (by decide) k) ?_
    refine J.mpB (k := 6) X hm (by decide) q2736 rfl rfl rfl (by decide) dX6_loadLoop_57 ?_
    refine J.pu (fun _ _ _ _ k => lv_aload_n X.1.1 X.1.2.1 dX6_loadLoop_60 rfl (lv_at hl 1 rfl) k) ?_
    refine J.mgA (k := 0) X (by decide) q2730 rfl rfl dX6_loadLoop_61 ?_
    refine J.pu (fun _ _ _ _ k => lv_iconst (v := 3) X.1.1 X.1.2.1 dX6_loadLoop_64 (by decide) k) ?_
    refine J.mld X hm (by decide) dX6_loadLoop_65 (fun v65 h65 => ?_)
    exact J.iret (vr := fun t : Int32 × jM => jrI t.1) (fin := fun r : Int32 × jM => mH mo A σ r.2) (t := t) X hr (by rfl) (by rfl) dX6_loadLoop_66
noncomputable def X6_of (n : Nat) (M : jM) (a1 : Int32) (a2 : Int32) : Option (Int32) :=
  (mA M 0 ((125 + (10 * a1)) + a2)).bind fun v13 => some v13
set_option maxHeartbeats 4000000 in
set_option maxRecDepth 100000 in
theorem ct_X6_of (l : Launch) {G : jG} {mo : Nat} {A : Nat → Nat} (hm : mOK G mo A) (σ : jH) (n : Nat) (M : jM) (a1 : Int32) (a2 : Int32) : jCt l G yX6_of (ws_ yX6_of cX6_of 3 (some .int)) 0 0 jrI [.ref mo, .int a1, .int a2] (mH mo A σ M) (jrd (mH mo A σ M) (X6_of n M a1 a2)) := by
  refine jCt.rd (lv := [(0, .ref mo), (1, .int a1), (2, .int a2)]) (plainFor_of_name (by decide)) (Nat.le_of_ble_eq_true rfl) rfl ?_
  intro t p e s m args below meth c ls X hr hnm hl
  have X : jCx p c cX6_of 3 s m args RX6 G meth := X
  unfold X6_of
  refine J.pu (fun _ _ _ _ k => lv_aload_n X.1.1 X.1.2.1 dX6_of_0 rfl (lv_at hl 0 rfl) k) ?_
  refine J.mgA (k := 0) X (by decide) q2730 rfl rfl dX6_of_1 ?_
  refine J.pu (fun _ _ _ _ k => lv_bipush (v := 125) X.1.1 X.1.2.1 dX6_of_4 (by decide) k) ?_
  refine J.pu (fun _ _ _ _ k => lv_bipush (v := 10) X.1.1 X.1.2.1 dX6_of_6 (by decide) k) ?_
  refine J.pu (fun _ _ _ _ k => lv_iload_n X.1.1 X.1.2.1 dX6_of_8 rfl (lv_at hl 1 rfl) k) ?_
  refine J.pu (fun _ _ _ _ k => lv_imul X.1.1 X.1.2.1 dX6_of_9 k) ?_
  refine J.pu (fun _ _ _ _ k => lv_iadd X.1.1 X.1.2.1 dX6_of_10 k) ?_
  refine J.pu (fun _ _ _ _ k => lv_iload_n X.1.1 X.1.2.1 dX6_of_11 rfl (lv_at hl 2 rfl) k) ?_
  refine J.pu (fun _ _ _ _ k => lv_iadd X.1.1 X.1.2.1 dX6_of_12 k) ?_
  refine J.mld X hm (by decide) dX6_of_13 (fun v13 h13 => ?_)
  exact J.iret (vr := jrI) (fin := fun _ : Int32 => (mH mo A σ M)) (t := t) X hr (by rfl) (by rfl) dX6_of_14
noncomputable def X6_isOn (n : Nat) (M : jM) (a1 : Int32) : Option (Int32) :=
  (X6_of n M a1 3).bind fun v3 => if v3 = 0 then (some 1) else (some 0)
set_option maxHeartbeats 4000000 in
set_option maxRecDepth 100000 in
theorem ct_X6_isOn (l : Launch) {G : jG} {mo : Nat} {A : Nat → Nat} (hm : mOK G mo A) (σ : jH) (n : Nat) (M : jM) (a1 : Int32) : jCt l G yX6_isOn (ws_ yX6_isOn cX6_isOn 2 (some .boolean)) 1 22 jrI [.ref mo, .int a1] (mH mo A σ M) (jrd (mH mo A σ M) (X6_isOn n M a1)) := by
  refine jCt.rd (lv := [(0, .ref mo), (1, .int a1)]) (plainFor_of_name (by decide)) (Nat.le_of_ble_eq_true rfl) rfl ?_
  intro t p e s m args below meth c ls X hr hnm hl
  have X : jCx p c cX6_isOn 2 s m args RX6 G meth := X
  unfold X6_isOn
  refine J.pu (fun _ _ _ _ k => lv_aload_n X.1.1 X.1.2.1 dX6_isOn_0 rfl (lv_at hl 0 rfl) k) ?_
  refine J.pu (fun _ _ _ _ k => lv_iload_n X.1.1 X.1.2.1 dX6_isOn_1 rfl (lv_at hl 1 rfl) k) ?_
  refine J.pu (fun _ _ _ _ k => lv_iconst (v := 3) X.1.1 X.1.2.1 dX6_isOn_2 (by decide) k) ?_
  refine J.bind (fun v3 h3 => ?_)
  refine J.cV (q := (RX6, TX6, 26)) (ci := 5) (As := [.int a1, .int 3]) (rest := []) (s2 := [.int v3]) X ⟨rfl, rfl⟩ (ct_X6_of l hm σ n M a1 3) (jrd_of h3) (fun _ _ => cwV 2 X.1.2.2.2.2 (lw_V q2964 q2966 qs88 q174 q2967) rfl rfl rfl (by decide +kernel) ⟨(Nat.le_of_ble_eq_true rfl), (Nat.le_of_ble_eq_true rfl)⟩) mH_rc rfl rfl hl.1 rfl rfl (Nat.le_of_ble_eq_true rfl) dX6_isOn_3 ?_
  refine J.br (fun _ _ _ _ ka kb => lv_if_ne (tgt := 13) X.1.1 X.1.2.1 dX6_isOn_6 (by decide) kb ka) (fun c6 => ?_) (fun c6 => ?_)
  · refine J.pu (fun _ _ _ _ k => lv_iconst (v := 1) X.1.1 X.1.2.1 dX6_isOn_9 (by decide) k) ?_
    refine J.pu (fun _ _ _ _ k => lv_goto (tgt := 14) X.1.1 X.1.2.1 dX6_isOn_10 (by decide) k) ?_
    exact J.zret (vr := jrI) (fin := fun _ : Int32 => (mH mo A σ M)) (t := t) X hr (by decide) (by rfl) (by rfl) dX6_isOn_14
  · refine J.pu (fun _ _ _ _ k => lv_iconst (v := 0) X.1.1 X.1.2.1 dX6_isOn_13 (by decide) k) ?_
    exact J.zret (vr := jrI) (fin := fun _ : Int32 => (mH mo A σ M)) (t := t) X hr (by decide) (by rfl) (by rfl) dX6_isOn_14
noncomputable def X6_parcelIn_j32 (n : Nat) (M : jM) (a1 : Int32) (rec2 : Int32 → Option (Int32)) (x2_32 : Int32) : Option (Int32) :=
  rec2 (x2_32 + 1)
noncomputable def X6_parcelIn_h2 (n : Nat) (M : jM) (a1 : Int32) (rec2 : Int32 → Option (Int32)) (q2 : Int32) : Option (Int32) :=
  let x2_2 := q2; (mA M 0 4).bind fun v8 => if v8 ≤ x2_2 then (some (-1)) else ((X6_isOn n M x2_2).bind fun v14 => if v14 = 0 then (X6_parcelIn_j32 n M a1 rec2 x2_2) else ((X6_of n M x2_2 4).bind fun v23 => if v23 = a1 then (some x2_2) else (X6_parcelIn_j32 n M a1 rec2 x2_2)))
noncomputable def X6_parcelIn (n : Nat) (M : jM) (a1 : Int32) : Option (Int32) :=
  jloop (X6_parcelIn_h2 n M a1) n 0
set_option maxHeartbeats 4000000 in
set_option maxRecDepth 100000 in
theorem ct_X6_parcelIn (l : Launch) {G : jG} {mo : Nat} {A : Nat → Nat} (hm : mOK G mo A) (σ : jH) (n : Nat) (M : jM) (a1 : Int32) : jCt l G yX6_parcelIn (ws_ yX6_parcelIn cX6_parcelIn 3 (some .int)) 2 43 jrI [.ref mo, .int a1] (mH mo A σ M) (jrd (mH mo A σ M) (X6_parcelIn n M a1)) := by
  refine jCt.rd (lv := [(0, .ref mo), (1, .int a1)]) (plainFor_of_name (by decide)) (Nat.le_of_ble_eq_true rfl) rfl ?_
  intro t p e s m args below meth c ls X hr hnm hl
  have X : jCx p c cX6_parcelIn 3 s m args RX6 G meth := X
  have L2 : ∀ (n2 : Nat) (x2_2 : Int32) (ls : Array Slot), lv_has ls 3 [(0, .ref mo), (1, .int a1), (2, .int x2_2)] → jGo l G 2 43 (mH mo A σ M) (fun _ : Int32 => (mH mo A σ M)) jrI t p e s m args below meth c (jloop (X6_parcelIn_h2 n M a1) n2 x2_2) (mH mo A σ M) (F0 m 2 ls []) := by
    intro n2
    induction n2 with
    | zero => intro x2_2 ls hl; exact J.nil_
    | succ n2 ih2 =>
      have j32 : ∀ (x2_32 : Int32) (ls : Array Slot), lv_has ls 3 [(0, .ref mo), (1, .int a1), (2, .int x2_32)] → jGo l G 2 43 (mH mo A σ M) (fun _ : Int32 => (mH mo A σ M)) jrI t p e s m args below meth c (X6_parcelIn_j32 n M a1 (jloop (X6_parcelIn_h2 n M a1) n2) x2_32) (mH mo A σ M) (F0 m 32 ls []) := by
        intro x2_32 ls hl
        unfold X6_parcelIn_j32
        refine J.iinc (k := 2) (lv' := [(2, .int (x2_32 + 1)), (0, .ref mo), (1, .int a1)]) (w := (x2_32 + 1)) X.1.1 X.1.2.1 dX6_parcelIn_32 hl rfl rfl (by decide) (by first | rfl | simp [va_rf_cat, jcI, jcA, jcJ, jcD, jcF]) (fun ls hl => ?_)
        refine J.pu (fun _ _ _ _ k => lv_goto (tgt := 2) X.1.1 X.1.2.1 dX6_parcelIn_35 (by decide) k) ?_
        exact ih2 (x2_32 + 1) ls (lv_sub hl [1, 2, 0] rfl)
      intro x2_2 ls hl
      refine J.eq (jloop_s _ _ _) ?_
      dsimp only [X6_parcelIn_h2]
      refine J.pu (fun _ _ _ _ k => lv_iload_n X.1.1 X.1.2.1 dX6_parcelIn_2 rfl (lv_at hl 2 rfl) k) ?_
      refine J.pu (fun _ _ _ _ k => lv_aload_n X.1.1 X.1.2.1 dX6_parcelIn_3 rfl (lv_at hl 0 rfl) k) ?_
      refine J.mgA (k := 0) X (by decide) q2730 rfl rfl dX6_parcelIn_4 ?_
      refine J.pu (fun _ _ _ _ k => lv_iconst (v := 4) X.1.1 X.1.2.1 dX6_parcelIn_7 (by decide) k) ?_
      refine J.mld X hm (by decide) dX6_parcelIn_8 (fun v8 h8 => ?_)
      refine J.br (fun _ _ _ _ ka kb => lv_icmp_ge (tgt := 38) X.1.1 X.1.2.1 dX6_parcelIn_9 (by decide) ka kb) (fun c9 => ?_) (fun c9 => ?_)
      · refine J.pu (fun _ _ _ _ k => lv_iconst (v := (-1)) X.1.1 X.1.2.1 dX6_parcelIn_38 (by decide) k) ?_
        exact J.iret (vr := jrI) (fin := fun _ : Int32 => (mH mo A σ M)) (t := t) X hr (by rfl) (by rfl) dX6_parcelIn_39
      · refine J.pu (fun _ _ _ _ k => lv_aload_n X.1.1 X.1.2.1 dX6_parcelIn_12 rfl (lv_at hl 0 rfl) k) ?_
        refine J.pu (fun _ _ _ _ k => lv_iload_n X.1.1 X.1.2.1 dX6_parcelIn_13 rfl (lv_at hl 2 rfl) k) ?_
        refine J.bind (fun v14 h14 => ?_)
        refine J.cV (q := (RX6, TX6, 26)) (ci := 5) (As := [.int x2_2]) (rest := []) (s2 := [.int v14]) X ⟨rfl, rfl⟩ (ct_X6_isOn l hm σ n M x2_2) (jrd_of h14) (fun _ _ => cwV 1 X.1.2.2.2.2 (lw_V q2960 q2962 qs87 q174 q2963) rfl rfl rfl (by decide +kernel) ⟨(Nat.le_of_ble_eq_true rfl), (Nat.le_of_ble_eq_true rfl)⟩) mH_rc rfl rfl hl.1 rfl rfl (Nat.le_of_ble_eq_true rfl) dX6_parcelIn_14 ?_
        refine J.br (fun _ _ _ _ ka kb => lv_if_eq (tgt := 32) X.1.1 X.1.2.1 dX6_parcelIn_17 (by decide) ka kb) (fun c17 => ?_) (fun c17 => ?_)
        · exact j32 x2_2 ls (lv_sub hl [0, 1, 2] rfl)
        · refine J.pu (fun _ _ _ _ k => lv_aload_n X.1.1 X.1.2.1 dX6_parcelIn_20 rfl (lv_at hl 0 rfl) k) ?_
          refine J.pu (fun _ _ _ _ k => lv_iload_n X.1.1 X.1.2.1 dX6_parcelIn_21 rfl (lv_at hl 2 rfl) k) ?_
          refine J.pu (fun _ _ _ _ k => lv_iconst (v := 4) X.1.1 X.1.2.1 dX6_parcelIn_22 (by decide) k) ?_
          refine J.bind (fun v23 h23 => ?_)
          refine J.cV (q := (RX6, TX6, 26)) (ci := 5) (As := [.int x2_2, .int 4]) (rest := []) (s2 := [.int v23]) X ⟨rfl, rfl⟩ (ct_X6_of l hm σ n M x2_2 4) (jrd_of h23) (fun _ _ => cwV 2 X.1.2.2.2.2 (lw_V q2964 q2966 qs88 q174 q2967) rfl rfl rfl (by decide +kernel) ⟨(Nat.le_of_ble_eq_true rfl), (Nat.le_of_ble_eq_true rfl)⟩) mH_rc rfl rfl hl.1 rfl rfl (Nat.le_of_ble_eq_true rfl) dX6_parcelIn_23 ?_
          refine J.pu (fun _ _ _ _ k => lv_iload_n X.1.1 X.1.2.1 dX6_parcelIn_26 rfl (lv_at hl 1 rfl) k) ?_
          refine J.br (fun _ _ _ _ ka kb => lv_icmp_ne (tgt := 32) X.1.1 X.1.2.1 dX6_parcelIn_27 (by decide) kb ka) (fun c27 => ?_) (fun c27 => ?_)
          · refine J.pu (fun _ _ _ _ k => lv_iload_n X.1.1 X.1.2.1 dX6_parcelIn_30 rfl (lv_at hl 2 rfl) k) ?_
            exact J.iret (vr := jrI) (fin := fun _ : Int32 => (mH mo A σ M)) (t := t) X hr (by rfl) (by rfl) dX6_parcelIn_31
          · exact j32 x2_2 ls (lv_sub hl [0, 1, 2] rfl)
  unfold X6_parcelIn
  refine J.pu (fun _ _ _ _ k => lv_iconst (v := 0) X.1.1 X.1.2.1 dX6_parcelIn_0 (by decide) k) ?_
  refine J.istore_n (i := 2) (lv' := [(2, .int 0), (0, .ref mo), (1, .int a1)]) X.1.1 X.1.2.1 dX6_parcelIn_1 rfl hl (by decide) (by first | rfl | simp [va_rf_cat, jcI, jcA, jcJ, jcD, jcF]) (fun ls hl => ?_)
  exact L2 n 0 ls (lv_sub hl [1, 2, 0] rfl)
noncomputable def X6_barsPut (n : Nat) (M : jM) : Option (Int32) :=
  (mA M 0 4).bind fun v5 => if v5 = 40 then (some 1) else ((mA M 0 1).bind fun v19 => (X6_parcelIn n M v19).bind fun v20 => if v20 = (-1) then (some 0) else (some 2))
set_option maxHeartbeats 4000000 in
set_option maxRecDepth 100000 in
theorem ct_X6_barsPut (l : Launch) {G : jG} {mo : Nat} {A : Nat → Nat} (hm : mOK G mo A) (σ : jH) (n : Nat) (M : jM) : jCt l G yX6_barsPut (ws_ yX6_barsPut cX6_barsPut 1 (some .int)) 3 65 jrI [.ref mo] (mH mo A σ M) (jrd (mH mo A σ M) (X6_barsPut n M)) := by
  refine jCt.rd (lv := [(0, .ref mo)]) (plainFor_of_name (by decide)) (Nat.le_of_ble_eq_true rfl) rfl ?_
  intro t p e s m args below meth c ls X hr hnm hl
  have X : jCx p c cX6_barsPut 1 s m args RX6 G meth := X
  unfold X6_barsPut
  refine J.pu (fun _ _ _ _ k => lv_aload_n X.1.1 X.1.2.1 dX6_barsPut_0 rfl (lv_at hl 0 rfl) k) ?_
  refine J.mgA (k := 0) X (by decide) q2730 rfl rfl dX6_barsPut_1 ?_
  refine J.pu (fun _ _ _ _ k => lv_iconst (v := 4) X.1.1 X.1.2.1 dX6_barsPut_4 (by decide) k) ?_
  refine J.mld X hm (by decide) dX6_barsPut_5 (fun v5 h5 => ?_)
  refine J.pu (fun _ _ _ _ k => lv_bipush (v := 40) X.1.1 X.1.2.1 dX6_barsPut_6 (by decide) k) ?_
  refine J.br (fun _ _ _ _ ka kb => lv_icmp_ne (tgt := 13) X.1.1 X.1.2.1 dX6_barsPut_8 (by decide) kb ka) (fun c8 => ?_) (fun c8 => ?_)
  · refine J.pu (fun _ _ _ _ k => lv_iconst (v := 1) X.1.1 X.1.2.1 dX6_barsPut_11 (by decide) k) ?_
    exact J.iret (vr := jrI) (fin := fun _ : Int32 => (mH mo A σ M)) (t := t) X hr (by rfl) (by rfl) dX6_barsPut_12
  · refine J.pu (fun _ _ _ _ k => lv_aload_n X.1.1 X.1.2.1 dX6_barsPut_13 rfl (lv_at hl 0 rfl) k) ?_
    refine J.pu (fun _ _ _ _ k => lv_aload_n X.1.1 X.1.2.1 dX6_barsPut_14 rfl (lv_at hl 0 rfl) k) ?_
    refine J.mgA (k := 0) X (by decide) q2730 rfl rfl dX6_barsPut_15 ?_
    refine J.pu (fun _ _ _ _ k => lv_iconst (v := 1) X.1.1 X.1.2.1 dX6_barsPut_18 (by decide) k) ?_
    refine J.mld X hm (by decide) dX6_barsPut_19 (fun v19 h19 => ?_)
    refine J.bind (fun v20 h20 => ?_)
    refine J.cV (q := (RX6, TX6, 26)) (ci := 5) (As := [.int v19]) (rest := []) (s2 := [.int v20]) X ⟨rfl, rfl⟩ (ct_X6_parcelIn l hm σ n M v19) (jrd_of h20) (fun _ _ => cwV 1 X.1.2.2.2.2 (lw_V q2956 q2958 qs86 q174 q2959) rfl rfl rfl (by decide +kernel) ⟨(Nat.le_of_ble_eq_true rfl), (Nat.le_of_ble_eq_true rfl)⟩) mH_rc rfl rfl hl.1 rfl rfl (Nat.le_of_ble_eq_true rfl) dX6_barsPut_20 ?_
    refine J.pu (fun _ _ _ _ k => lv_iconst (v := (-1)) X.1.1 X.1.2.1 dX6_barsPut_23 (by decide) k) ?_
    refine J.br (fun _ _ _ _ ka kb => lv_icmp_ne (tgt := 31) X.1.1 X.1.2.1 dX6_barsPut_24 (by decide) kb ka) (fun c24 => ?_) (fun c24 => ?_)
    · refine J.pu (fun _ _ _ _ k => lv_iconst (v := 0) X.1.1 X.1.2.1 dX6_barsPut_27 (by decide) k) ?_
      refine J.pu (fun _ _ _ _ k => lv_goto (tgt := 32) X.1.1 X.1.2.1 dX6_barsPut_28 (by decide) k) ?_
      exact J.iret (vr := jrI) (fin := fun _ : Int32 => (mH mo A σ M)) (t := t) X hr (by rfl) (by rfl) dX6_barsPut_32
    · refine J.pu (fun _ _ _ _ k => lv_iconst (v := 2) X.1.1 X.1.2.1 dX6_barsPut_31 (by decide) k) ?_
      exact J.iret (vr := jrI) (fin := fun _ : Int32 => (mH mo A σ M)) (t := t) X hr (by rfl) (by rfl) dX6_barsPut_32
noncomputable def X6_barsSlip (n : Nat) (M : jM) (a1 : Int32) : Option (Int32) :=
  (X6_isOn n M a1).bind fun v2 => if v2 = 0 then (some 1) else ((X6_of n M a1 4).bind fun v13 => if v13 = 0 then (some 2) else ((X6_of n M a1 4).bind fun v25 => (X6_parcelIn n M (v25 - 1)).bind fun v30 => if v30 = (-1) then (some 0) else (some 3)))
set_option maxHeartbeats 4000000 in
set_option maxRecDepth 100000 in
theorem ct_X6_barsSlip (l : Launch) {G : jG} {mo : Nat} {A : Nat → Nat} (hm : mOK G mo A) (σ : jH) (n : Nat) (M : jM) (a1 : Int32) : jCt l G yX6_barsSlip (ws_ yX6_barsSlip cX6_barsSlip 2 (some .int)) 3 65 jrI [.ref mo, .int a1] (mH mo A σ M) (jrd (mH mo A σ M) (X6_barsSlip n M a1)) := by
  refine jCt.rd (lv := [(0, .ref mo), (1, .int a1)]) (plainFor_of_name (by decide)) (Nat.le_of_ble_eq_true rfl) rfl ?_
  intro t p e s m args below meth c ls X hr hnm hl
  have X : jCx p c cX6_barsSlip 2 s m args RX6 G meth := X
  unfold X6_barsSlip
  refine J.pu (fun _ _ _ _ k => lv_aload_n X.1.1 X.1.2.1 dX6_barsSlip_0 rfl (lv_at hl 0 rfl) k) ?_
  refine J.pu (fun _ _ _ _ k => lv_iload_n X.1.1 X.1.2.1 dX6_barsSlip_1 rfl (lv_at hl 1 rfl) k) ?_
  refine J.bind (fun v2 h2 => ?_)
  refine J.cV (q := (RX6, TX6, 26)) (ci := 5) (As := [.int a1]) (rest := []) (s2 := [.int v2]) X ⟨rfl, rfl⟩ (ct_X6_isOn l hm σ n M a1) (jrd_of h2) (fun _ _ => cwV 1 X.1.2.2.2.2 (lw_V q2960 q2962 qs87 q174 q2963) rfl rfl rfl (by decide +kernel) ⟨(Nat.le_of_ble_eq_true rfl), (Nat.le_of_ble_eq_true rfl)⟩) mH_rc rfl rfl hl.1 rfl rfl (Nat.le_of_ble_eq_true rfl) dX6_barsSlip_2 ?_
  refine J.br (fun _ _ _ _ ka kb => lv_if_ne (tgt := 10) X.1.1 X.1.2.1 dX6_barsSlip_5 (by decide) kb ka) (fun c5 => ?_) (fun c5 => ?_)
  · refine J.pu (fun _ _ _ _ k => lv_iconst (v := 1) X.1.1 X.1.2.1 dX6_barsSlip_8 (by decide) k) ?_
    exact J.iret (vr := jrI) (fin := fun _ : Int32 => (mH mo A σ M)) (t := t) X hr (by rfl) (by rfl) dX6_barsSlip_9
  · refine J.pu (fun _ _ _ _ k => lv_aload_n X.1.1 X.1.2.1 dX6_barsSlip_10 rfl (lv_at hl 0 rfl) k) ?_
    refine J.pu (fun _ _ _ _ k => lv_iload_n X.1.1 X.1.2.1 dX6_barsSlip_11 rfl (lv_at hl 1 rfl) k) ?_
    refine J.pu (fun _ _ _ _ k => lv_iconst (v := 4) X.1.1 X.1.2.1 dX6_barsSlip_12 (by decide) k) ?_
    refine J.bind (fun v13 h13 => ?_)
    refine J.cV (q := (RX6, TX6, 26)) (ci := 5) (As := [.int a1, .int 4]) (rest := []) (s2 := [.int v13]) X ⟨rfl, rfl⟩ (ct_X6_of l hm σ n M a1 4) (jrd_of h13) (fun _ _ => cwV 2 X.1.2.2.2.2 (lw_V q2964 q2966 qs88 q174 q2967) rfl rfl rfl (by decide +kernel) ⟨(Nat.le_of_ble_eq_true rfl), (Nat.le_of_ble_eq_true rfl)⟩) mH_rc rfl rfl hl.1 rfl rfl (Nat.le_of_ble_eq_true rfl) dX6_barsSlip_13 ?_
    refine J.br (fun _ _ _ _ ka kb => lv_if_ne (tgt := 21) X.1.1 X.1.2.1 dX6_barsSlip_16 (by decide) kb ka) (fun c16 => ?_) (fun c16 => ?_)
    · refine J.pu (fun _ _ _ _ k => lv_iconst (v := 2) X.1.1 X.1.2.1 dX6_barsSlip_19 (by decide) k) ?_
      exact J.iret (vr := jrI) (fin := fun _ : Int32 => (mH mo A σ M)) (t := t) X hr (by rfl) (by rfl) dX6_barsSlip_20
    · refine J.pu (fun _ _ _ _ k => lv_aload_n X.1.1 X.1.2.1 dX6_barsSlip_21 rfl (lv_at hl 0 rfl) k) ?_
      refine J.pu (fun _ _ _ _ k => lv_aload_n X.1.1 X.1.2.1 dX6_barsSlip_22 rfl (lv_at hl 0 rfl) k) ?_
      refine J.pu (fun _ _ _ _ k => lv_iload_n X.1.1 X.1.2.1 dX6_barsSlip_23 rfl (lv_at hl 1 rfl) k) ?_
      refine J.pu (fun _ _ _ _ k => lv_iconst (v := 4) X.1.1 X.1.2.1 dX6_barsSlip_24 (by decide) k) ?_
      refine J.bind (fun v25 h25 => ?_)
      refine J.cV (q := (RX6, TX6, 26)) (ci := 5) (As := [.int a1, .int 4]) (rest := [.ref mo]) (s2 := [.int v25, .ref mo]) X ⟨rfl, rfl⟩ (ct_X6_of l hm σ n M a1 4) (jrd_of h25) (fun _ _ => cwV 2 X.1.2.2.2.2 (lw_V q2964 q2966 qs88 q174 q2967) rfl rfl rfl (by decide +kernel) ⟨(Nat.le_of_ble_eq_true rfl), (Nat.le_of_ble_eq_true rfl)⟩) mH_rc rfl rfl hl.1 rfl rfl (Nat.le_of_ble_eq_true rfl) dX6_barsSlip_25 ?_
      refine J.pu (fun _ _ _ _ k => lv_iconst (v := 1) X.1.1 X.1.2.1 dX6_barsSlip_28 (by decide) k) ?_
      refine J.pu (fun _ _ _ _ k => lv_isub X.1.1 X.1.2.1 dX6_barsSlip_29 k) ?_
      refine J.bind (fun v30 h30 => ?_)
      refine J.cV (q := (RX6, TX6, 26)) (ci := 5) (As := [.int (v25 - 1)]) (rest := []) (s2 := [.int v30]) X ⟨rfl, rfl⟩ (ct_X6_parcelIn l hm σ n M (v25 - 1)) (jrd_of h30) (fun _ _ => cwV 1 X.1.2.2.2.2 (lw_V q2956 q2958 qs86 q174 q2959) rfl rfl rfl (by decide +kernel) ⟨(Nat.le_of_ble_eq_true rfl), (Nat.le_of_ble_eq_true rfl)⟩) mH_rc rfl rfl hl.1 rfl rfl (Nat.le_of_ble_eq_true rfl) dX6_barsSlip_30 ?_
      refine J.pu (fun _ _ _ _ k => lv_iconst (v := (-1)) X.1.1 X.1.2.1 dX6_barsSlip_33 (by decide) k) ?_
      refine J.br (fun _ _ _ _ ka kb => lv_icmp_ne (tgt := 41) X.1.1 X.1.2.1 dX6_barsSlip_34 (by decide) kb ka) (fun c34 => ?_) (fun c34 => ?_)
      · refine J.pu (fun _ _ _ _ k => lv_iconst (v := 0) X.1.1 X.1.2.1 dX6_barsSlip_37 (by decide) k) ?_
        refine J.pu (fun _ _ _ _ k => lv_goto (tgt := 42) X.1.1 X.1.2.1 dX6_barsSlip_38 (by decide) k) ?_
        exact J.iret (vr := jrI) (fin := fun _ : Int32 => (mH mo A σ M)) (t := t) X hr (by rfl) (by rfl) dX6_barsSlip_42
      · refine J.pu (fun _ _ _ _ k => lv_iconst (v := 3) X.1.1 X.1.2.1 dX6_barsSlip_41 (by decide) k) ?_
        exact J.iret (vr := jrI) (fin := fun _ : Int32 => (mH mo A σ M)) (t := t) X hr (by rfl) (by rfl) dX6_barsSlip_42
noncomputable def X6_counts (n : Nat) (M : jM) (a1 : Int32) (a2 : Int32) : Option (Unit × jM) :=
  (mA M 0 (7 + a1)).bind fun v9 => (mS M 0 (7 + a1) (v9 + a2)).bind fun M12 => some ((), M12)
set_option maxHeartbeats 4000000 in
set_option maxRecDepth 100000 in
theorem ct_X6_counts (l : Launch) {G : jG} {mo : Nat} {A : Nat → Nat} (hm : mOK G mo A) (σ : jH) (n : Nat) (M : jM) (a1 : Int32) (a2 : Int32) : jCt l G yX6_counts (ws_ yX6_counts cX6_counts 3 none) 0 0 jrV [.ref mo, .int a1, .int a2] (mH mo A σ M) (mup mo A σ (X6_counts n M a1 a2)) := by
  refine jCt.wm (lv := [(0, .ref mo), (1, .int a1), (2, .int a2)]) (plainFor_of_name (by decide)) (Nat.le_of_ble_eq_true rfl) rfl ?_
  intro t p e s m args below meth c ls X hr hnm hl
  have X : jCx p c cX6_counts 3 s m args RX6 G meth := X
  unfold X6_counts
  refine J.pu (fun _ _ _ _ k => lv_aload_n X.1.1 X.1.2.1 dX6_counts_0 rfl (lv_at hl 0 rfl) k) ?_
  refine J.mgA (k := 0) X (by decide) q2730 rfl rfl dX6_counts_1 ?_
  refine J.pu (fun _ _ _ _ k => lv_bipush (v := 7) X.1.1 X.1.2.1 dX6_counts_4 (by decide) k) ?_
  refine J.pu (fun _ _ _ _ k => lv_iload_n X.1.1 X.1.2.1 dX6_counts_6 rfl (lv_at hl 1 rfl) k) ?_
  refine J.pu (fun _ _ _ _ k => lv_iadd X.1.1 X.1.2.1 dX6_counts_7 k) ?_
  refine J.pu (fun _ _ _ _ k => lv_dup2_11 X.1.1 X.1.2.1 dX6_counts_8 rfl rfl k) ?_
  refine J.mld X hm (by decide) dX6_counts_9 (fun v9 h9 => ?_)
  refine J.pu (fun _ _ _ _ k => lv_iload_n X.1.1 X.1.2.1 dX6_counts_10 rfl (lv_at hl 2 rfl) k) ?_
  refine J.pu (fun _ _ _ _ k => lv_iadd X.1.1 X.1.2.1 dX6_counts_11 k) ?_
  refine J.mst X hm (by decide) dX6_counts_12 (fun M12 h12 => ?_)
  exact J.vret (vr := fun t : Unit × jM => jrV t.1) (fin := fun r : Unit × jM => mH mo A σ r.2) (t := t) X hr (by rfl) (by rfl) dX6_counts_13
noncomputable def X6_puts (n : Nat) (M : jM) (a1 : Int32) (a2 : Int32) (a3 : Int32) : Option (Unit × jM) :=
  (mS M 0 ((125 + (10 * a1)) + a2) a3).bind fun M14 => some ((), M14)
set_option maxHeartbeats 4000000 in
set_option maxRecDepth 100000 in
theorem ct_X6_puts (l : Launch) {G : jG} {mo : Nat} {A : Nat → Nat} (hm : mOK G mo A) (σ : jH) (n : Nat) (M : jM) (a1 : Int32) (a2 : Int32) (a3 : Int32) : jCt l G yX6_puts (ws_ yX6_puts cX6_puts 4 none) 0 0 jrV [.ref mo, .int a1, .int a2, .int a3] (mH mo A σ M) (mup mo A σ (X6_puts n M a1 a2 a3)) := by
  refine jCt.wm (lv := [(0, .ref mo), (1, .int a1), (2, .int a2), (3, .int a3)]) (plainFor_of_name (by decide)) (Nat.le_of_ble_eq_true rfl) rfl ?_
  intro t p e s m args below meth c ls X hr hnm hl
  have X : jCx p c cX6_puts 4 s m args RX6 G meth := X
  unfold X6_puts
  refine J.pu (fun _ _ _ _ k => lv_aload_n X.1.1 X.1.2.1 dX6_puts_0 rfl (lv_at hl 0 rfl) k) ?_
  refine J.mgA (k := 0) X (by decide) q2730 rfl rfl dX6_puts_1 ?_
  refine J.pu (fun _ _ _ _ k => lv_bipush (v := 125) X.1.1 X.1.2.1 dX6_puts_4 (by decide) k) ?_
  refine J.pu (fun _ _ _ _ k => lv_bipush (v := 10) X.1.1 X.1.2.1 dX6_puts_6 (by decide) k) ?_
  refine J.pu (fun _ _ _ _ k => lv_iload_n X.1.1 X.1.2.1 dX6_puts_8 rfl (lv_at hl 1 rfl) k) ?_
  refine J.pu (fun _ _ _ _ k => lv_imul X.1.1 X.1.2.1 dX6_puts_9 k) ?_
  refine J.pu (fun _ _ _ _ k => lv_iadd X.1.1 X.1.2.1 dX6_puts_10 k) ?_
  refine J.pu (fun _ _ _ _ k => lv_iload_n X.1.1 X.1.2.1 dX6_puts_11 rfl (lv_at hl 2 rfl) k) ?_
  refine J.pu (fun _ _ _ _ k => lv_iadd X.1.1 X.1.2.1 dX6_puts_12 k) ?_
  refine J.pu (fun _ _ _ _ k => lv_iload_n X.1.1 X.1.2.1 dX6_puts_13 rfl (lv_at hl 3 rfl) k) ?_
  refine J.mst X hm (by decide) dX6_puts_14 (fun M14 h14 => ?_)
  exact J.vret (vr := fun t : Unit × jM => jrV t.1) (fin := fun r : Unit × jM => mH mo A σ r.2) (t := t) X hr (by rfl) (by rfl) dX6_puts_15
noncomputable def X6_comes (n : Nat) (M : jM) (a1 : Int32) (a2 : Int32) : Option (Int32 × jM) :=
  (mA M 0 4).bind fun v5 => bd (X6_puts n M v5 0 a1) fun v11 M11 => bd (X6_puts n M11 v5 1 a2) fun v18 M18 => (mA M18 0 1).bind fun v29 => bd (X6_puts n M18 v5 4 v29) fun v30 M30 => bd (X6_puts n M30 v5 5 1) fun v37 M37 => (mA M37 0 1).bind fun v49 => bd (X6_puts n M37 v5 6 v49) fun v50 M50 => bd (X6_puts n M50 v5 7 (-1)) fun v58 M58 => bd (X6_puts n M58 v5 8 (-1)) fun v66 M66 => (mA M66 0 4).bind fun v75 => (mS M66 0 4 (v75 + 1)).bind fun M78 => bd (X6_counts n M78 1 1) fun v82 M82 => some (v5, M82)
set_option maxHeartbeats 4000000 in
set_option maxRecDepth 100000 in
theorem ct_X6_comes (l : Launch) {G : jG} {mo : Nat} {A : Nat → Nat} (hm : mOK G mo A) (σ : jH) (n : Nat) (M : jM) (a1 : Int32) (a2 : Int32) : jCt l G yX6_comes (ws_ yX6_comes cX6_comes 4 (some .int)) 1 23 jrI [.ref mo, .int a1, .int a2] (mH mo A σ M) (mup mo A σ (X6_comes n M a1 a2)) := by
  refine jCt.wm (lv := [(0, .ref mo), (1, .int a1), (2, .int a2)]) (plainFor_of_name (by decide)) (Nat.le_of_ble_eq_true rfl) rfl ?_
  intro t p e s m args below meth c ls X hr hnm hl
  have X : jCx p c cX6_comes 4 s m args RX6 G meth := X
  unfold X6_comes
  refine J.pu (fun _ _ _ _ k => lv_aload_n X.1.1 X.1.2.1 dX6_comes_0 rfl (lv_at hl 0 rfl) k) ?_
  refine J.mgA (k := 0) X (by decide) q2730 rfl rfl dX6_comes_1 ?_
  refine J.pu (fun _ _ _ _ k => lv_iconst (v := 4) X.1.1 X.1.2.1 dX6_comes_4 (by decide) k) ?_
  refine J.mld X hm (by decide) dX6_comes_5 (fun v5 h5 => ?_)
  refine J.istore_n (i := 3) (lv' := [(3, .int v5), (0, .ref mo), (1, .int a1), (2, .int a2)]) X.1.1 X.1.2.1 dX6_comes_6 rfl hl (by decide) (by first | rfl | simp [va_rf_cat, jcI, jcA, jcJ, jcD, jcF]) (fun ls hl => ?_)
  refine J.pu (fun _ _ _ _ k => lv_aload_n X.1.1 X.1.2.1 dX6_comes_7 rfl (lv_at hl 1 rfl) k) ?_
  refine J.pu (fun _ _ _ _ k => lv_iload_n X.1.1 X.1.2.1 dX6_comes_8 rfl (lv_at hl 0 rfl) k) ?_
  refine J.pu (fun _ _ _ _ k => lv_iconst (v := 0) X.1.1 X.1.2.1 dX6_comes_9 (by decide) k) ?_
  refine J.pu (fun _ _ _ _ k => lv_iload_n X.1.1 X.1.2.1 dX6_comes_10 rfl (lv_at hl 2 rfl) k) ?_
  refine J.bd' (fun v11 M11 h11 => ?_)
  refine J.cV (q := (RX6, TX6, 26)) (ci := 5) (As := [.int v5, .int 0, .int a1]) (rest := []) (s2 := []) X ⟨rfl, rfl⟩ (ct_X6_puts l hm σ n M v5 0 a1) (mup_of h11) (fun _ _ => cwV 3 X.1.2.2.2.2 (lw_V q2972 q2974 qs90 q174 q2975) rfl rfl rfl (by decide +kernel) ⟨(Nat.le_of_ble_eq_true rfl), (Nat.le_of_ble_eq_true rfl)⟩) mH_rc rfl rfl hl.1 rfl rfl (Nat.le_of_ble_eq_true rfl) dX6_comes_11 ?_
  refine J.pu (fun _ _ _ _ k => lv_aload_n X.1.1 X.1.2.1 dX6_comes_14 rfl (lv_at hl 1 rfl) k) ?_
  refine J.pu (fun _ _ _ _ k => lv_iload_n X.1.1 X.1.2.1 dX6_comes_15 rfl (lv_at hl 0 rfl) k) ?_
  refine J.pu (fun _ _ _ _ k => lv_iconst (v := 1) X.1.1 X.1.2.1 dX6_comes_16 (by decide) k) ?_
  refine J.pu (fun _ _ _ _ k => lv_iload_n X.1.1 X.1.2.1 dX6_comes_17 rfl (lv_at hl 3 rfl) k) ?_
  refine J.bd' (fun v18 M18 h18 => ?_)
  refine J.cV (q := (RX6, TX6, 26)) (ci := 5) (As := [.int v5, .int 1, .int a2]) (rest := []) (s2 := []) X ⟨rfl, rfl⟩ (ct_X6_puts l hm σ n M11 v5 1 a2) (mup_of h18) (fun _ _ => cwV 3 X.1.2.2.2.2 (lw_V q2972 q2974 qs90 q174 q2975) rfl rfl rfl (by decide +kernel) ⟨(Nat.le_of_ble_eq_true rfl), (Nat.le_of_ble_eq_true rfl)⟩) mH_rc rfl rfl hl.1 rfl rfl (Nat.le_of_ble_eq_true rfl) dX6_comes_18 ?_
  refine J.pu (fun _ _ _ _ k => lv_aload_n X.1.1 X.1.2.1 dX6_comes_21 rfl (lv_at hl 1 rfl) k) ?_
  refine J.pu (fun _ _ _ _ k => lv_iload_n X.1.1 X.1.2.1 dX6_comes_22 rfl (lv_at hl 0 rfl) k) ?_
  refine J.pu (fun _ _ _ _ k => lv_iconst (v := 4) X.1.1 X.1.2.1 dX6_comes_23 (by decide) k) ?_
  refine J.pu (fun _ _ _ _ k => lv_aload_n X.1.1 X.1.2.1 dX6_comes_24 rfl (lv_at hl 1 rfl) k) ?_
  refine J.mgA (k := 0) X (by decide) q2730 rfl rfl dX6_comes_25 ?_
  refine J.pu (fun _ _ _ _ k => lv_iconst (v := 1) X.1.1 X.1.2.1 dX6_comes_28 (by decide) k) ?_
  refine J.mld X hm (by decide) dX6_comes_29 (fun v29 h29 => ?_)
  refine J.bd' (fun v30 M30 h30 => ?_)
  refine J.cV (q := (RX6, TX6, 26)) (ci := 5) (As := [.int v5, .int 4, .int v29]) (rest := []) (s2 := []) X ⟨rfl, rfl⟩ (ct_X6_puts l hm σ n M18 v5 4 v29) (mup_of h30) (fun _ _ => cwV 3 X.1.2.2.2.2 (lw_V q2972 q2974 qs90 q174 q2975) rfl rfl rfl (by decide +kernel) ⟨(Nat.le_of_ble_eq_true rfl), (Nat.le_of_ble_eq_true rfl)⟩) mH_rc rfl rfl hl.1 rfl rfl (Nat.le_of_ble_eq_true rfl) dX6_comes_30 ?_
  refine J.pu (fun _ _ _ _ k => lv_aload_n X.1.1 X.1.2.1 dX6_comes_33 rfl (lv_at hl 1 rfl) k) ?_
  refine J.pu (fun _ _ _ _ k => lv_iload_n X.1.1 X.1.2.1 dX6_comes_34 rfl (lv_at hl 0 rfl) k) ?_
  refine J.pu (fun _ _ _ _ k => lv_iconst (v := 5) X.1.1 X.1.2.1 dX6_comes_35 (by decide) k) ?_
  refine J.pu (fun _ _ _ _ k => lv_iconst (v := 1) X.1.1 X.1.2.1 dX6_comes_36 (by decide) k) ?_
  refine J.bd' (fun v37 M37 h37 => ?_)
  refine J.cV (q := (RX6, TX6, 26)) (ci := 5) (As := [.int v5, .int 5, .int 1]) (rest := []) (s2 := []) X ⟨rfl, rfl⟩ (ct_X6_puts l hm σ n M30 v5 5 1) (mup_of h37) (fun _ _ => cwV 3 X.1.2.2.2.2 (lw_V q2972 q2974 qs90 q174 q2975) rfl rfl rfl (by decide +kernel) ⟨(Nat.le_of_ble_eq_true rfl), (Nat.le_of_ble_eq_true rfl)⟩) mH_rc rfl rfl hl.1 rfl rfl (Nat.le_of_ble_eq_true rfl) dX6_comes_37 ?_
  refine J.pu (fun _ _ _ _ k => lv_aload_n X.1.1 X.1.2.1 dX6_comes_40 rfl (lv_at hl 1 rfl) k) ?_
  refine J.pu (fun _ _ _ _ k => lv_iload_n X.1.1 X.1.2.1 dX6_comes_41 rfl (lv_at hl 0 rfl) k) ?_
  refine J.pu (fun _ _ _ _ k => lv_bipush (v := 6) X.1.1 X.1.2.1 dX6_comes_42 (by decide) k) ?_
  refine J.pu (fun _ _ _ _ k => lv_aload_n X.1.1 X.1.2.1 dX6_comes_44 rfl (lv_at hl 1 rfl) k) ?_
  refine J.mgA (k := 0) X (by decide) q2730 rfl rfl dX6_comes_45 ?_
  refine J.pu (fun _ _ _ _ k => lv_iconst (v := 1) X.1.1 X.1.2.1 dX6_comes_48 (by decide) k) ?_
  refine J.mld X hm (by decide) dX6_comes_49 (fun v49 h49 => ?_)
  refine J.bd' (fun v50 M50 h50 => ?_)
  refine J.cV (q := (RX6, TX6, 26)) (ci := 5) (As := [.int v5, .int 6, .int v49]) (rest := []) (s2 := []) X ⟨rfl, rfl⟩ (ct_X6_puts l hm σ n M37 v5 6 v49) (mup_of h50) (fun _ _ => cwV 3 X.1.2.2.2.2 (lw_V q2972 q2974 qs90 q174 q2975) rfl rfl rfl (by decide +kernel) ⟨(Nat.le_of_ble_eq_true rfl), (Nat.le_of_ble_eq_true rfl)⟩) mH_rc rfl rfl hl.1 rfl rfl (Nat.le_of_ble_eq_true rfl) dX6_comes_50 ?_
  refine J.pu (fun _ _ _ _ k => lv_aload_n X.1.1 X.1.2.1 dX6_comes_53 rfl (lv_at hl 1 rfl) k) ?_
  refine J.pu (fun _ _ _ _ k => lv_iload_n X.1.1 X.1.2.1 dX6_comes_54 rfl (lv_at hl 0 rfl) k) ?_
  refine J.pu (fun _ _ _ _ k => lv_bipush (v := 7) X.1.1 X.1.2.1 dX6_comes_55 (by decide) k) ?_
  refine J.pu (fun _ _ _ _ k => lv_iconst (v := (-1)) X.1.1 X.1.2.1 dX6_comes_57 (by decide) k) ?_
  refine J.bd' (fun v58 M58 h58 => ?_)
  refine J.cV (q := (RX6, TX6, 26)) (ci := 5) (As := [.int v5, .int 7, .int (-1)]) (rest := []) (s2 := []) X ⟨rfl, rfl⟩ (ct_X6_puts l hm σ n M50 v5 7 (-1)) (mup_of h58) (fun _ _ => cwV 3 X.1.2.2.2.2 (lw_V q2972 q2974 qs90 q174 q2975) rfl rfl rfl (by decide +kernel) ⟨(Nat.le_of_ble_eq_true rfl), (Nat.le_of_ble_eq_true rfl)⟩) mH_rc rfl rfl hl.1 rfl rfl (Nat.le_of_ble_eq_true rfl) dX6_comes_58 ?_
  refine J.pu (fun _ _ _ _ k => lv_aload_n X.1.1 X.1.2.1 dX6_comes_61 rfl (lv_at hl 1 rfl) k) ?_
  refine J.pu (fun _ _ _ _ k => lv_iload_n X.1.1 X.1.2.1 dX6_comes_62 rfl (lv_at hl 0 rfl) k) ?_
  refine J.pu (fun _ _ _ _ k => lv_bipush (v := 8) X.1.1 X.1.2.1 dX6_comes_63 (by decide) k) ?_
  refine J.pu (fun _ _ _ _ k => lv_iconst (v := (-1)) X.1.1 X.1.2.1 dX6_comes_65 (by decide) k) ?_
  refine J.bd' (fun v66 M66 h66 => ?_)
  refine J.cV (q := (RX6, TX6, 26)) (ci := 5) (As := [.int v5, .int 8, .int (-1)]) (rest := []) (s2 := []) X ⟨rfl, rfl⟩ (ct_X6_puts l hm σ n M58 v5 8 (-1)) (mup_of h66) (fun _ _ => cwV 3 X.1.2.2.2.2 (lw_V q2972 q2974 qs90 q174 q2975) rfl rfl rfl (by decide +kernel) ⟨(Nat.le_of_ble_eq_true rfl), (Nat.le_of_ble_eq_true rfl)⟩) mH_rc rfl rfl hl.1 rfl rfl (Nat.le_of_ble_eq_true rfl) dX6_comes_66 ?_
  refine J.pu (fun _ _ _ _ k => lv_aload_n X.1.1 X.1.2.1 dX6_comes_69 rfl (lv_at hl 1 rfl) k) ?_
  refine J.mgA (k := 0) X (by decide) q2730 rfl rfl dX6_comes_70 ?_
  refine J.pu (fun _ _ _ _ k => lv_iconst (v := 4) X.1.1 X.1.2.1 dX6_comes_73 (by decide) k) ?_
  refine J.pu (fun _ _ _ _ k => lv_dup2_11 X.1.1 X.1.2.1 dX6_comes_74 rfl rfl k) ?_
  refine J.mld X hm (by decide) dX6_comes_75 (fun v75 h75 => ?_)
  refine J.pu (fun _ _ _ _ k => lv_iconst (v := 1) X.1.1 X.1.2.1 dX6_comes_76 (by decide) k) ?_
  refine J.pu (fun _ _ _ _ k => lv_iadd X.1.1 X.1.2.1 dX6_comes_77 k) ?_
  refine J.mst X hm (by decide) dX6_comes_78 (fun M78 h78 => ?_)
  refine J.pu (fun _ _ _ _ k => lv_aload_n X.1.1 X.1.2.1 dX6_comes_79 rfl (lv_at hl 1 rfl) k) ?_
  refine J.pu (fun _ _ _ _ k => lv_iconst (v := 1) X.1.1 X.1.2.1 dX6_comes_80 (by decide) k) ?_
  refine J.pu (fun _ _ _ _ k => lv_iconst (v := 1) X.1.1 X.1.2.1 dX6_comes_81 (by decide) k) ?_
  refine J.bd' (fun v82 M82 h82 => ?_)
  refine J.cV (q := (RX6, TX6, 26)) (ci := 5) (As := [.int 1, .int 1]) (rest := []) (s2 := []) X ⟨rfl, rfl⟩ (ct_X6_counts l hm σ n M78 1 1) (mup_of h82) (fun _ _ => cwV 2 X.1.2.2.2.2 (lw_V q2976 q2978 qs91 q174 q2979) rfl rfl rfl (by decide +kernel) ⟨(Nat.le_of_ble_eq_true rfl), (Nat.le_of_ble_eq_true rfl)⟩) mH_rc rfl rfl hl.1 rfl rfl (Nat.le_of_ble_eq_true rfl) dX6_comes_82 ?_
  refine J.pu (fun _ _ _ _ k => lv_iload_n X.1.1 X.1.2.1 dX6_comes_85 rfl (lv_at hl 0 rfl) k) ?_
  exact J.iret (vr := fun t : Int32 × jM => jrI t.1) (fin := fun r : Int32 × jM => mH mo A σ r.2) (t := t) X hr (by rfl) (by rfl) dX6_comes_86
noncomputable def X6_empties_h10 (n : Nat) (a1 : Int32) (x2_10 : Int32) (rec10 : Int32 × jM → Option (Int32 × jM)) (q10 : Int32 × jM) : Option (Int32 × jM) :=
  let x3_10 := q10.1; let B10 := q10.2; if x2_10 ≤ x3_10 then (bd (X6_putsChute n B10 a1 6 0) fun v51 M51 => bd (X6_counts n M51 10 x2_10) fun v58 M58 => some (x2_10, M58)) else ((X6_ofChute n B10 a1 (8 + x3_10)).bind fun v22 => bd (X6_puts n B10 v22 3 2) fun v27 M27 => bd (X6_putsChute n M27 a1 (8 + x3_10) 0) fun v37 M37 => rec10 ((x3_10 + 1), M37))
noncomputable def X6_empties (n : Nat) (M : jM) (a1 : Int32) : Option (Int32 × jM) :=
  (X6_ofChute n M a1 6).bind fun v4 => jloop (X6_empties_h10 n a1 v4) n (0, M)
set_option maxHeartbeats 4000000 in
set_option maxRecDepth 100000 in
theorem ct_X6_empties (l : Launch) {G : jG} {mo : Nat} {A : Nat → Nat} (hm : mOK G mo A) (σ : jH) (n : Nat) (M : jM) (a1 : Int32) : jCt l G yX6_empties (ws_ yX6_empties cX6_empties 4 (some .int)) 1 23 jrI [.ref mo, .int a1] (mH mo A σ M) (mup mo A σ (X6_empties n M a1)) := by
  refine jCt.wm (lv := [(0, .ref mo), (1, .int a1)]) (plainFor_of_name (by decide)) (Nat.le_of_ble_eq_true rfl) rfl ?_
  intro t p e s m args below meth c ls X hr hnm hl
  have X : jCx p c cX6_empties 4 s m args RX6 G meth := X
  have L10 : ∀ (x2_10 : Int32) (n10 : Nat) (x3_10 : Int32) (B10 : jM) (ls : Array Slot), lv_has ls 4 [(0, .ref mo), (1, .int a1), (2, .int x2_10), (3, .int x3_10)] → jGo l G 1 23 (mH mo A σ M) (fun r : Int32 × jM => mH mo A σ r.2) (fun t => jrI t.1) t p e s m args below meth c (jloop (X6_empties_h10 n a1 x2_10) n10 (x3_10, B10)) (mH mo A σ B10) (F0 m 10 ls []) := by
    intro x2_10
    intro n10
    induction n10 with
    | zero => intro x3_10 B10 ls hl; exact J.nil_
    | succ n10 ih10 =>
      intro x3_10 B10 ls hl
      refine J.eq (jloop_s _ _ _) ?_
      dsimp only [X6_empties_h10]
      refine J.pu (fun _ _ _ _ k => lv_iload_n X.1.1 X.1.2.1 dX6_empties_10 rfl (lv_at hl 3 rfl) k) ?_
      refine J.pu (fun _ _ _ _ k => lv_iload_n X.1.1 X.1.2.1 dX6_empties_11 rfl (lv_at hl 2 rfl) k) ?_
      refine J.br (fun _ _ _ _ ka kb => lv_icmp_ge (tgt := 46) X.1.1 X.1.2.1 dX6_empties_12 (by decide) ka kb) (fun c12 => ?_) (fun c12 => ?_)
      · refine J.pu (fun _ _ _ _ k => lv_aload_n X.1.1 X.1.2.1 dX6_empties_46 rfl (lv_at hl 0 rfl) k) ?_
        refine J.pu (fun _ _ _ _ k => lv_iload_n X.1.1 X.1.2.1 dX6_empties_47 rfl (lv_at hl 1 rfl) k) ?_
        refine J.pu (fun _ _ _ _ k => lv_bipush (v := 6) X.1.1 X.1.2.1 dX6_empties_48 (by decide) k) ?_
        refine J.pu (fun _ _ _ _ k => lv_iconst (v := 0) X.1.1 X.1.2.1 dX6_empties_50 (by decide) k) ?_
        refine J.bd' (fun v51 M51 h51 => ?_)
        refine J.cV (q := (RX6, TX6, 26)) (ci := 5) (As := [.int a1, .int 6, .int 0]) (rest := []) (s2 := []) X ⟨rfl, rfl⟩ (ct_X6_putsChute l hm σ n B10 a1 6 0) (mup_of h51) (fun _ _ => cwV 3 X.1.2.2.2.2 (lw_V q2726 q2728 qs58 q174 q2729) rfl rfl rfl (by decide +kernel) ⟨(Nat.le_of_ble_eq_true rfl), (Nat.le_of_ble_eq_true rfl)⟩) mH_rc rfl rfl hl.1 rfl rfl (Nat.le_of_ble_eq_true rfl) dX6_empties_51 ?_
        refine J.pu (fun _ _ _ _ k => lv_aload_n X.1.1 X.1.2.1 dX6_empties_54 rfl (lv_at hl 0 rfl) k) ?_
        refine J.pu (fun _ _ _ _ k => lv_bipush (v := 10) X.1.1 X.1.2.1 dX6_empties_55 (by decide) k) ?_
        refine J.pu (fun _ _ _ _ k => lv_iload_n X.1.1 X.1.2.1 dX6_empties_57 rfl (lv_at hl 2 rfl) k) ?_
        refine J.bd' (fun v58 M58 h58 => ?_)
        refine J.cV (q := (RX6, TX6, 26)) (ci := 5) (As := [.int 10, .int x2_10]) (rest := []) (s2 := []) X ⟨rfl, rfl⟩ (ct_X6_counts l hm σ n M51 10 x2_10) (mup_of h58) (fun _ _ => cwV 2 X.1.2.2.2.2 (lw_V q2976 q2978 qs91 q174 q2979) rfl rfl rfl (by decide +kernel) ⟨(Nat.le_of_ble_eq_true rfl), (Nat.le_of_ble_eq_true rfl)⟩) mH_rc rfl rfl hl.1 rfl rfl (Nat.le_of_ble_eq_true rfl) dX6_empties_58 ?_
        refine J.pu (fun _ _ _ _ k => lv_iload_n X.1.1 X.1.2.1 dX6_empties_61 rfl (lv_at hl 2 rfl) k) ?_
        exact J.iret (vr := fun t : Int32 × jM => jrI t.1) (fin := fun r : Int32 × jM => mH mo A σ r.2) (t := t) X hr (by rfl) (by rfl) dX6_empties_62
      · refine J.pu (fun _ _ _ _ k => lv_aload_n X.1.1 X.1.2.1 dX6_empties_15 rfl (lv_at hl 0 rfl) k) ?_
        refine J.pu (fun _ _ _ _ k => lv_aload_n X.1.1 X.1.2.1 dX6_empties_16 rfl (lv_at hl 0 rfl) k) ?_
        refine J.pu (fun _ _ _ _ k => lv_iload_n X.1.1 X.1.2.1 dX6_empties_17 rfl (lv_at hl 1 rfl) k) ?_
        refine J.pu (fun _ _ _ _ k => lv_bipush (v := 8) X.1.1 X.1.2.1 dX6_empties_18 (by decide) k) ?_
        refine J.pu (fun _ _ _ _ k => lv_iload_n X.1.1 X.1.2.1 dX6_empties_20 rfl (lv_at hl 3 rfl) k) ?_
        refine J.pu (fun _ _ _ _ k => lv_iadd X.1.1 X.1.2.1 dX6_empties_21 k) ?_
        refine J.bind (fun v22 h22 => ?_)
        refine J.cV (q := (RX6, TX6, 26)) (ci := 5) (As := [.int a1, .int (8 + x3_10)]) (rest := [.ref mo]) (s2 := [.int v22, .ref mo]) X ⟨rfl, rfl⟩ (ct_X6_ofChute l hm σ n B10 a1 (8 + x3_10)) (jrd_of h22) (fun _ _ => cwV 2 X.1.2.2.2.2 (lw_V q2908 q2910 qs77 q174 q2911) rfl rfl rfl (by decide +kernel) ⟨(Nat.le_of_ble_eq_true rfl), (Nat.le_of_ble_eq_true rfl)⟩) mH_rc rfl rfl hl.1 rfl rfl (Nat.le_of_ble_eq_true rfl) dX6_empties_22 ?_
        refine J.pu (fun _ _ _ _ k => lv_iconst (v := 3) X.1.1 X.1.2.1 dX6_empties_25 (by decide) k) ?_
        refine J.pu (fun _ _ _ _ k => lv_iconst (v := 2) X.1.1 X.1.2.1 dX6_empties_26 (by decide) k) ?_
        refine J.bd' (fun v27 M27 h27 => ?_)
        refine J.cV (q := (RX6, TX6, 26)) (ci := 5) (As := [.int v22, .int 3, .int 2]) (rest := []) (s2 := []) X ⟨rfl, rfl⟩ (ct_X6_puts l hm σ n B10 v22 3 2) (mup_of h27) (fun _ _ => cwV 3 X.1.2.2.2.2 (lw_V q2972 q2974 qs90 q174 q2975) rfl rfl rfl (by decide +kernel) ⟨(Nat.le_of_ble_eq_true rfl), (Nat.le_of_ble_eq_true rfl)⟩) mH_rc rfl rfl hl.1 rfl rfl (Nat.le_of_ble_eq_true rfl) dX6_empties_27 ?_
        refine J.pu (fun _ _ _ _ k => lv_aload_n X.1.1 X.1.2.1 dX6_empties_30 rfl (lv_at hl 0 rfl) k) ?_
        refine J.pu (fun _ _ _ _ k => lv_iload_n X.1.1 X.1.2.1 dX6_empties_31 rfl (lv_at hl 1 rfl) k) ?_
        refine J.pu (fun _ _ _ _ k => lv_bipush (v := 8) X.1.1 X.1.2.1 dX6_empties_32 (by decide) k) ?_
        refine J.pu (fun _ _ _ _ k => lv_iload_n X.1.1 X.1.2.1 dX6_empties_34 rfl (lv_at hl 3 rfl) k) ?_
        refine J.pu (fun _ _ _ _ k => lv_iadd X.1.1 X.1.2.1 dX6_empties_35 k) ?_
        refine J.pu (fun _ _ _ _ k => lv_iconst (v := 0) X.1.1 X.1.2.1 dX6_empties_36 (by decide) k) ?_
        refine J.bd' (fun v37 M37 h37 => ?_)
        refine J.cV (q := (RX6, TX6, 26)) (ci := 5) (As := [.int a1, .int (8 + x3_10), .int 0]) (rest := []) (s2 := []) X ⟨rfl, rfl⟩ (ct_X6_putsChute l hm σ n M27 a1 (8 + x3_10) 0) (mup_of h37) (fun _ _ => cwV 3 X.1.2.2.2.2 (lw_V q2726 q2728 qs58 q174 q2729) rfl rfl rfl (by decide +kernel) ⟨(Nat.le_of_ble_eq_true rfl), (Nat.le_of_ble_eq_true rfl)⟩) mH_rc rfl rfl hl.1 rfl rfl (Nat.le_of_ble_eq_true rfl) dX6_empties_37 ?_
        refine J.iinc (k := 3) (lv' := [(3, .int (x3_10 + 1)), (0, .ref mo), (1, .int a1), (2, .int x2_10)]) (w := (x3_10 + 1)) X.1.1 X.1.2.1 dX6_empties_40 hl rfl rfl (by decide) (by first | rfl | simp [va_rf_cat, jcI, jcA, jcJ, jcD, jcF]) (fun ls hl => ?_)
        refine J.pu (fun _ _ _ _ k => lv_goto (tgt := 10) X.1.1 X.1.2.1 dX6_empties_43 (by decide) k) ?_
        exact ih10 (x3_10 + 1) M37 ls (lv_sub hl [1, 2, 3, 0] rfl)
  unfold X6_empties
  refine J.pu (fun _ _ _ _ k => lv_aload_n X.1.1 X.1.2.1 dX6_empties_0 rfl (lv_at hl 0 rfl) k) ?_
  refine J.pu (fun _ _ _ _ k => lv_iload_n X.1.1 X.1.2.1 dX6_empties_1 rfl (lv_at hl 1 rfl) k) ?_
  refine J.pu (fun _ _ _ _ k => lv_bipush (v := 6) X.1.1 X.1.2.1 dX6_empties_2 (by decide) k) ?_
  refine J.bind (fun v4 h4 => ?_)
  refine J.cV (q := (RX6, TX6, 26)) (ci := 5) (As := [.int a1, .int 6]) (rest := []) (s2 := [.int v4]) X ⟨rfl, rfl⟩ (ct_X6_ofChute l hm σ n M a1 6) (jrd_of h4) (fun _ _ => cwV 2 X.1.2.2.2.2 (lw_V q2908 q2910 qs77 q174 q2911) rfl rfl rfl (by decide +kernel) ⟨(Nat.le_of_ble_eq_true rfl), (Nat.le_of_ble_eq_true rfl)⟩) mH_rc rfl rfl hl.1 rfl rfl (Nat.le_of_ble_eq_true rfl) dX6_empties_4 ?_
  refine J.istore_n (i := 2) (lv' := [(2, .int v4), (0, .ref mo), (1, .int a1)]) X.1.1 X.1.2.1 dX6_empties_7 rfl hl (by decide) (by first | rfl | simp [va_rf_cat, jcI, jcA, jcJ, jcD, jcF]) (fun ls hl => ?_)
  refine J.pu (fun _ _ _ _ k => lv_iconst (v := 0) X.1.1 X.1.2.1 dX6_empties_8 (by decide) k) ?_
  refine J.istore_n (i := 3) (lv' := [(3, .int 0), (2, .int v4), (0, .ref mo), (1, .int a1)]) X.1.1 X.1.2.1 dX6_empties_9 rfl hl (by decide) (by first | rfl | simp [va_rf_cat, jcI, jcA, jcJ, jcD, jcF]) (fun ls hl => ?_)
  exact L10 v4 n 0 M ls (lv_sub hl [2, 3, 1, 0] rfl)
noncomputable def X6_opens (n : Nat) (M : jM) (a1 : Int32) (a2 : Int32) : Option (Int32 × jM) :=
  (X6_ofChute n M a1 5).bind fun v3 => bd (X6_putsChute n M a1 5 a2) fun v11 M11 => some (v3, M11)
set_option maxHeartbeats 4000000 in
set_option maxRecDepth 100000 in
theorem ct_X6_opens (l : Launch) {G : jG} {mo : Nat} {A : Nat → Nat} (hm : mOK G mo A) (σ : jH) (n : Nat) (M : jM) (a1 : Int32) (a2 : Int32) : jCt l G yX6_opens (ws_ yX6_opens cX6_opens 4 (some .int)) 1 23 jrI [.ref mo, .int a1, .int a2] (mH mo A σ M) (mup mo A σ (X6_opens n M a1 a2)) := by
  refine jCt.wm (lv := [(0, .ref mo), (1, .int a1), (2, .int a2)]) (plainFor_of_name (by decide)) (Nat.le_of_ble_eq_true rfl) rfl ?_
  intro t p e s m args below meth c ls X hr hnm hl
  have X : jCx p c cX6_opens 4 s m args RX6 G meth := X
  unfold X6_opens
  refine J.pu (fun _ _ _ _ k => lv_aload_n X.1.1 X.1.2.1 dX6_opens_0 rfl (lv_at hl 0 rfl) k) ?_
  refine J.pu (fun _ _ _ _ k => lv_iload_n X.1.1 X.1.2.1 dX6_opens_1 rfl (lv_at hl 1 rfl) k) ?_
  refine J.pu (fun _ _ _ _ k => lv_iconst (v := 5) X.1.1 X.1.2.1 dX6_opens_2 (by decide) k) ?_
  refine J.bind (fun v3 h3 => ?_)
  refine J.cV (q := (RX6, TX6, 26)) (ci := 5) (As := [.int a1, .int 5]) (rest := []) (s2 := [.int v3]) X ⟨rfl, rfl⟩ (ct_X6_ofChute l hm σ n M a1 5) (jrd_of h3) (fun _ _ => cwV 2 X.1.2.2.2.2 (lw_V q2908 q2910 qs77 q174 q2911) rfl rfl rfl (by decide +kernel) ⟨(Nat.le_of_ble_eq_true rfl), (Nat.le_of_ble_eq_true rfl)⟩) mH_rc rfl rfl hl.1 rfl rfl (Nat.le_of_ble_eq_true rfl) dX6_opens_3 ?_
  refine J.istore_n (i := 3) (lv' := [(3, .int v3), (0, .ref mo), (1, .int a1), (2, .int a2)]) X.1.1 X.1.2.1 dX6_opens_6 rfl hl (by decide) (by first | rfl | simp [va_rf_cat, jcI, jcA, jcJ, jcD, jcF]) (fun ls hl => ?_)
  refine J.pu (fun _ _ _ _ k => lv_aload_n X.1.1 X.1.2.1 dX6_opens_7 rfl (lv_at hl 1 rfl) k) ?_
  refine J.pu (fun _ _ _ _ k => lv_iload_n X.1.1 X.1.2.1 dX6_opens_8 rfl (lv_at hl 2 rfl) k) ?_
  refine J.pu (fun _ _ _ _ k => lv_iconst (v := 5) X.1.1 X.1.2.1 dX6_opens_9 (by decide) k) ?_
  refine J.pu (fun _ _ _ _ k => lv_iload_n X.1.1 X.1.2.1 dX6_opens_10 rfl (lv_at hl 3 rfl) k) ?_
  refine J.bd' (fun v11 M11 h11 => ?_)
  refine J.cV (q := (RX6, TX6, 26)) (ci := 5) (As := [.int a1, .int 5, .int a2]) (rest := []) (s2 := []) X ⟨rfl, rfl⟩ (ct_X6_putsChute l hm σ n M a1 5 a2) (mup_of h11) (fun _ _ => cwV 3 X.1.2.2.2.2 (lw_V q2726 q2728 qs58 q174 q2729) rfl rfl rfl (by decide +kernel) ⟨(Nat.le_of_ble_eq_true rfl), (Nat.le_of_ble_eq_true rfl)⟩) mH_rc rfl rfl hl.1 rfl rfl (Nat.le_of_ble_eq_true rfl) dX6_opens_11 ?_
  refine J.pu (fun _ _ _ _ k => lv_iload_n X.1.1 X.1.2.1 dX6_opens_14 rfl (lv_at hl 0 rfl) k) ?_
  exact J.iret (vr := fun t : Int32 × jM => jrI t.1) (fin := fun r : Int32 × jM => mH mo A σ r.2) (t := t) X hr (by rfl) (by rfl) dX6_opens_15
noncomputable def X6_sets_j19 (n : Nat) (a1 : Int32) (a2 : Int32) (s0_19 : Int32) (B19 : jM) : Option (Int32 × jM) :=
  (mA B19 0 s0_19).bind fun v25 => (mS B19 0 s0_19 a2).bind fun M34 => some (v25, M34)
noncomputable def X6_sets (n : Nat) (M : jM) (a1 : Int32) (a2 : Int32) : Option (Int32 × jM) :=
  if a1 = (-1) then (X6_sets_j19 n a1 a2 6 M) else (X6_sets_j19 n a1 a2 ((23 + (17 * a1)) + 2) M)
set_option maxHeartbeats 4000000 in
set_option maxRecDepth 100000 in
theorem ct_X6_sets (l : Launch) {G : jG} {mo : Nat} {A : Nat → Nat} (hm : mOK G mo A) (σ : jH) (n : Nat) (M : jM) (a1 : Int32) (a2 : Int32) : jCt l G yX6_sets (ws_ yX6_sets cX6_sets 5 (some .int)) 0 0 jrI [.ref mo, .int a1, .int a2] (mH mo A σ M) (mup mo A σ (X6_sets n M a1 a2)) := by
  refine jCt.wm (lv := [(0, .ref mo), (1, .int a1), (2, .int a2)]) (plainFor_of_name (by decide)) (Nat.le_of_ble_eq_true rfl) rfl ?_
  intro t p e s m args below meth c ls X hr hnm hl
  have X : jCx p c cX6_sets 5 s m args RX6 G meth := X
  have j19 : ∀ (s0_19 : Int32) (B19 : jM) (ls : Array Slot), lv_has ls 5 [(0, .ref mo), (2, .int a2)] → jGo l G 0 0 (mH mo A σ M) (fun r : Int32 × jM => mH mo A σ r.2) (fun t => jrI t.1) t p e s m args below meth c (X6_sets_j19 n a1 a2 s0_19 B19) (mH mo A σ B19) (F0 m 19 ls [.int s0_19]) := by
    intro s0_19 B19 ls hl
    unfold X6_sets_j19
    refine J.istore_n (i := 3) (lv' := [(3, .int s0_19), (0, .ref mo), (2, .int a2)]) X.1.1 X.1.2.1 dX6_sets_19 rfl hl (by decide) (by first | rfl | simp [va_rf_cat, jcI, jcA, jcJ, jcD, jcF]) (fun ls hl => ?_)
    refine J.pu (fun _ _ _ _ k => lv_aload_n X.1.1 X.1.2.1 dX6_sets_20 rfl (lv_at hl 1 rfl) k) ?_
    refine J.mgA (k := 0) X (by decide) q2730 rfl rfl dX6_sets_21 ?_
    refine J.pu (fun _ _ _ _ k => lv_iload_n X.1.1 X.1.2.1 dX6_sets_24 rfl (lv_at hl 0 rfl) k) ?_
    refine J.mld X hm (by decide) dX6_sets_25 (fun v25 h25 => ?_)
    refine J.istore (lv' := [(4, .int v25), (3, .int s0_19), (0, .ref mo), (2, .int a2)]) X.1.1 X.1.2.1 dX6_sets_26 hl (by decide) (by first | rfl | simp [va_rf_cat, jcI, jcA, jcJ, jcD, jcF]) (fun ls hl => ?_)
    refine J.pu (fun _ _ _ _ k => lv_aload_n X.1.1 X.1.2.1 dX6_sets_28 rfl (lv_at hl 2 rfl) k) ?_
    refine J.mgA (k := 0) X (by decide) q2730 rfl rfl dX6_sets_29 ?_
    refine J.pu (fun _ _ _ _ k => lv_iload_n X.1.1 X.1.2.1 dX6_sets_32 rfl (lv_at hl 1 rfl) k) ?_
    refine J.pu (fun _ _ _ _ k => lv_iload_n X.1.1 X.1.2.1 dX6_sets_33 rfl (lv_at hl 3 rfl) k) ?_
    refine J.mst X hm (by decide) dX6_sets_34 (fun M34 h34 => ?_)
    refine J.pu (fun _ _ _ _ k => lv_iload X.1.1 X.1.2.1 dX6_sets_35 (lv_at hl 0 rfl) k) ?_
    exact J.iret (vr := fun t : Int32 × jM => jrI t.1) (fin := fun r : Int32 × jM => mH mo A σ r.2) (t := t) X hr (by rfl) (by rfl) dX6_sets_37
  unfold X6_sets
  refine J.pu (fun _ _ _ _ k => lv_iload_n X.1.1 X.1.2.1 dX6_sets_0 rfl (lv_at hl 1 rfl) k) ?_
  refine J.pu (fun _ _ _ _ k => lv_iconst (v := (-1)) X.1.1 X.1.2.1 dX6_sets_1 (by decide) k) ?_
  refine J.br (fun _ _ _ _ ka kb => lv_icmp_ne (tgt := 10) X.1.1 X.1.2.1 dX6_sets_2 (by decide) kb ka) (fun c2 => ?_) (fun c2 => ?_)
  · refine J.pu (fun _ _ _ _ k => lv_bipush (v := 6) X.1.1 X.1.2.1 dX6_sets_5 (by decide) k) ?_
    refine J.pu (fun _ _ _ _ k => lv_goto (tgt := 19) X.1.1 X.1.2.1 dX6_sets_7 (by decide) k) ?_
    exact j19 6 M ls (lv_sub hl [0, 2] rfl)
  · refine J.pu (fun _ _ _ _ k => lv_bipush (v := 23) X.1.1 X.1.2.1 dX6_sets_10 (by decide) k) ?_
    refine J.pu (fun _ _ _ _ k => lv_bipush (v := 17) X.1.1 X.1.2.1 dX6_sets_12 (by decide) k) ?_
    refine J.pu (fun _ _ _ _ k => lv_iload_n X.1.1 X.1.2.1 dX6_sets_14 rfl (lv_at hl 1 rfl) k) ?_
    refine J.pu (fun _ _ _ _ k => lv_imul X.1.1 X.1.2.1 dX6_sets_15 k) ?_
    refine J.pu (fun _ _ _ _ k => lv_iadd X.1.1 X.1.2.1 dX6_sets_16 k) ?_
    refine J.pu (fun _ _ _ _ k => lv_iconst (v := 2) X.1.1 X.1.2.1 dX6_sets_17 (by decide) k) ?_
    refine J.pu (fun _ _ _ _ k => lv_iadd X.1.1 X.1.2.1 dX6_sets_18 k) ?_
    exact j19 ((23 + (17 * a1)) + 2) M ls (lv_sub hl [0, 2] rfl)
noncomputable def X6_slips (n : Nat) (M : jM) (a1 : Int32) : Option (Int32 × jM) :=
  (X6_of n M a1 4).bind fun v6 => bd (X6_puts n M a1 4 (v6 - 1)) fun v11 M11 => bd (X6_puts n M11 a1 9 1) fun v19 M19 => bd (X6_counts n M19 11 1) fun v26 M26 => (X6_of n M26 a1 4).bind fun v32 => some (v32, M26)
set_option maxHeartbeats 4000000 in
set_option maxRecDepth 100000 in
theorem ct_X6_slips (l : Launch) {G : jG} {mo : Nat} {A : Nat → Nat} (hm : mOK G mo A) (σ : jH) (n : Nat) (M : jM) (a1 : Int32) : jCt l G yX6_slips (ws_ yX6_slips cX6_slips 2 (some .int)) 1 23 jrI [.ref mo, .int a1] (mH mo A σ M) (mup mo A σ (X6_slips n M a1)) := by
  refine jCt.wm (lv := [(0, .ref mo), (1, .int a1)]) (plainFor_of_name (by decide)) (Nat.le_of_ble_eq_true rfl) rfl ?_
  intro t p e s m args below meth c ls X hr hnm hl
  have X : jCx p c cX6_slips 2 s m args RX6 G meth := X
  unfold X6_slips
  refine J.pu (fun _ _ _ _ k => lv_aload_n X.1.1 X.1.2.1 dX6_slips_0 rfl (lv_at hl 0 rfl) k) ?_
  refine J.pu (fun _ _ _ _ k => lv_iload_n X.1.1 X.1.2.1 dX6_slips_1 rfl (lv_at hl 1 rfl) k) ?_
  refine J.pu (fun _ _ _ _ k => lv_iconst (v := 4) X.1.1 X.1.2.1 dX6_slips_2 (by decide) k) ?_
  refine J.pu (fun _ _ _ _ k => lv_aload_n X.1.1 X.1.2.1 dX6_slips_3 rfl (lv_at hl 0 rfl) k) ?_
  refine J.pu (fun _ _ _ _ k => lv_iload_n X.1.1 X.1.2.1 dX6_slips_4 rfl (lv_at hl 1 rfl) k) ?_
  refine J.pu (fun _ _ _ _ k => lv_iconst (v := 4) X.1.1 X.1.2.1 dX6_slips_5 (by decide) k) ?_
  refine J.bind (fun v6 h6 => ?_)
  refine J.cV (q := (RX6, TX6, 26)) (ci := 5) (As := [.int a1, .int 4]) (rest := [.int 4, .int a1, .ref mo]) (s2 := [.int v6, .int 4, .int a1, .ref mo]) X ⟨rfl, rfl⟩ (ct_X6_of l hm σ n M a1 4) (jrd_of h6) (fun _ _ => cwV 2 X.1.2.2.2.2 (lw_V q2964 q2966 qs88 q174 q2967) rfl rfl rfl (by decide +kernel) ⟨(Nat.le_of_ble_eq_true rfl), (Nat.le_of_ble_eq_true rfl)⟩) mH_rc rfl rfl hl.1 rfl rfl (Nat.le_of_ble_eq_true rfl) dX6_slips_6 ?_
  refine J.pu (fun _ _ _ _ k => lv_iconst (v := 1) X.1.1 X.1.2.1 dX6_slips_9 (by decide) k) ?_
  refine J.pu (fun _ _ _ _ k => lv_isub X.1.1 X.1.2.1 dX6_slips_10 k) ?_
  refine J.bd' (fun v11 M11 h11 => ?_)
  refine J.cV (q := (RX6, TX6, 26)) (ci := 5) (As := [.int a1, .int 4, .int (v6 - 1)]) (rest := []) (s2 := []) X ⟨rfl, rfl⟩ (ct_X6_puts l hm σ n M a1 4 (v6 - 1)) (mup_of h11) (fun _ _ => cwV 3 X.1.2.2.2.2 (lw_V q2972 q2974 qs90 q174 q2975) rfl rfl rfl (by decide +kernel) ⟨(Nat.le_of_ble_eq_true rfl), (Nat.le_of_ble_eq_true rfl)⟩) mH_rc rfl rfl hl.1 rfl rfl (Nat.le_of_ble_eq_true rfl) dX6_slips_11 ?_
  refine J.pu (fun _ _ _ _ k => lv_aload_n X.1.1 X.1.2.1 dX6_slips_14 rfl (lv_at hl 0 rfl) k) ?_
  refine J.pu (fun _ _ _ _ k => lv_iload_n X.1.1 X.1.2.1 dX6_slips_15 rfl (lv_at hl 1 rfl) k) ?_
  refine J.pu (fun _ _ _ _ k => lv_bipush (v := 9) X.1.1 X.1.2.1 dX6_slips_16 (by decide) k) ?_
  refine J.pu (fun _ _ _ _ k => lv_iconst (v := 1) X.1.1 X.1.2.1 dX6_slips_18 (by decide) k) ?_
  refine J.bd' (fun v19 M19 h19 => ?_)
  refine J.cV (q := (RX6, TX6, 26)) (ci := 5) (As := [.int a1, .int 9, .int 1]) (rest := []) (s2 := []) X ⟨rfl, rfl⟩ (ct_X6_puts l hm σ n M11 a1 9 1) (mup_of h19) (fun _ _ => cwV 3 X.1.2.2.2.2 (lw_V q2972 q2974 qs90 q174 q2975) rfl rfl rfl (by decide +kernel) ⟨(Nat.le_of_ble_eq_true rfl), (Nat.le_of_ble_eq_true rfl)⟩) mH_rc rfl rfl hl.1 rfl rfl (Nat.le_of_ble_eq_true rfl) dX6_slips_19 ?_
  refine J.pu (fun _ _ _ _ k => lv_aload_n X.1.1 X.1.2.1 dX6_slips_22 rfl (lv_at hl 0 rfl) k) ?_
  refine J.pu (fun _ _ _ _ k => lv_bipush (v := 11) X.1.1 X.1.2.1 dX6_slips_23 (by decide) k) ?_
  refine J.pu (fun _ _ _ _ k => lv_iconst (v := 1) X.1.1 X.1.2.1 dX6_slips_25 (by decide) k) ?_
  refine J.bd' (fun v26 M26 h26 => ?_)
  refine J.cV (q := (RX6, TX6, 26)) (ci := 5) (As := [.int 11, .int 1]) (rest := []) (s2 := []) X ⟨rfl, rfl⟩ (ct_X6_counts l hm σ n M19 11 1) (mup_of h26) (fun _ _ => cwV 2 X.1.2.2.2.2 (lw_V q2976 q2978 qs91 q174 q2979) rfl rfl rfl (by decide +kernel) ⟨(Nat.le_of_ble_eq_true rfl), (Nat.le_of_ble_eq_true rfl)⟩) mH_rc rfl rfl hl.1 rfl rfl (Nat.le_of_ble_eq_true rfl) dX6_slips_26 ?_
  refine J.pu (fun _ _ _ _ k => lv_aload_n X.1.1 X.1.2.1 dX6_slips_29 rfl (lv_at hl 0 rfl) k) ?_
  refine J.pu (fun _ _ _ _ k => lv_iload_n X.1.1 X.1.2.1 dX6_slips_30 rfl (lv_at hl 1 rfl) k) ?_
  refine J.pu (fun _ _ _ _ k => lv_iconst (v := 4) X.1.1 X.1.2.1 dX6_slips_31 (by decide) k) ?_
  refine J.bind (fun v32 h32 => ?_)
  refine J.cV (q := (RX6, TX6, 26)) (ci := 5) (As := [.int a1, .int 4]) (rest := []) (s2 := [.int v32]) X ⟨rfl, rfl⟩ (ct_X6_of l hm σ n M26 a1 4) (jrd_of h32) (fun _ _ => cwV 2 X.1.2.2.2.2 (lw_V q2964 q2966 qs88 q174 q2967) rfl rfl rfl (by decide +kernel) ⟨(Nat.le_of_ble_eq_true rfl), (Nat.le_of_ble_eq_true rfl)⟩) mH_rc rfl rfl hl.1 rfl rfl (Nat.le_of_ble_eq_true rfl) dX6_slips_32 ?_
  exact J.iret (vr := fun t : Int32 × jM => jrI t.1) (fin := fun r : Int32 × jM => mH mo A σ r.2) (t := t) X hr (by rfl) (by rfl) dX6_slips_35
noncomputable def X6_one (n : Nat) (M : jM) (a0 : Int32) : Option (Int32) :=
  if a0 = 0 then (some 0) else (some 1)
set_option maxHeartbeats 4000000 in
set_option maxRecDepth 100000 in
theorem ct_X6_one (l : Launch) {G : jG} {mo : Nat} {A : Nat → Nat} (hm : mOK G mo A) (σ : jH) (n : Nat) (M : jM) (a0 : Int32) : jCt l G yX6_one (ws_ yX6_one cX6_one 1 (some .int)) 0 0 jrI [.int a0] (mH mo A σ M) (jrd (mH mo A σ M) (X6_one n M a0)) := by
  refine jCt.rd (lv := [(0, .int a0)]) (plainFor_of_name (by decide)) (Nat.le_of_ble_eq_true rfl) rfl ?_
  intro t p e s m args below meth c ls X hr hnm hl
  have X : jCx p c cX6_one 1 s m args RX6 G meth := X
  unfold X6_one
  refine J.pu (fun _ _ _ _ k => lv_iload_n X.1.1 X.1.2.1 dX6_one_0 rfl (lv_at hl 0 rfl) k) ?_
  refine J.br (fun _ _ _ _ ka kb => lv_if_eq (tgt := 8) X.1.1 X.1.2.1 dX6_one_1 (by decide) ka kb) (fun c1 => ?_) (fun c1 => ?_)
  · refine J.pu (fun _ _ _ _ k => lv_iconst (v := 0) X.1.1 X.1.2.1 dX6_one_8 (by decide) k) ?_
    exact J.iret (vr := jrI) (fin := fun _ : Int32 => (mH mo A σ M)) (t := t) X hr (by rfl) (by rfl) dX6_one_9
  · refine J.pu (fun _ _ _ _ k => lv_iconst (v := 1) X.1.1 X.1.2.1 dX6_one_4 (by decide) k) ?_
    refine J.pu (fun _ _ _ _ k => lv_goto (tgt := 9) X.1.1 X.1.2.1 dX6_one_5 (by decide) k) ?_
    exact J.iret (vr := jrI) (fin := fun _ : Int32 => (mH mo A σ M)) (t := t) X hr (by rfl) (by rfl) dX6_one_9
noncomputable def X6_inState_j30 (n : Nat) (M : jM) (a1 : Int32) (rec4 : Int32 × Int32 → Option (Int32)) (x3_30 : Int32) (s0_30 : Int32) (s1_30 : Int32) : Option (Int32) :=
  (X6_one n M s1_30).bind fun v30 => rec4 ((s0_30 + v30), (x3_30 + 1))
noncomputable def X6_inState_h4 (n : Nat) (M : jM) (a1 : Int32) (rec4 : Int32 × Int32 → Option (Int32)) (q4 : Int32 × Int32) : Option (Int32) :=
  let x2_4 := q4.1; let x3_4 := q4.2; (mA M 0 4).bind fun v10 => if v10 ≤ x3_4 then (some x2_4) else ((X6_of n M x3_4 3).bind fun v18 => if v18 = a1 then (X6_inState_j30 n M a1 rec4 x3_4 x2_4 1) else (X6_inState_j30 n M a1 rec4 x3_4 x2_4 0))
noncomputable def X6_inState (n : Nat) (M : jM) (a1 : Int32) : Option (Int32) :=
  jloop (X6_inState_h4 n M a1) n (0, 0)
set_option maxHeartbeats 4000000 in
set_option maxRecDepth 100000 in
theorem ct_X6_inState (l : Launch) {G : jG} {mo : Nat} {A : Nat → Nat} (hm : mOK G mo A) (σ : jH) (n : Nat) (M : jM) (a1 : Int32) : jCt l G yX6_inState (ws_ yX6_inState cX6_inState 4 (some .int)) 1 22 jrI [.ref mo, .int a1] (mH mo A σ M) (jrd (mH mo A σ M) (X6_inState n M a1)) := by
  refine jCt.rd (lv := [(0, .ref mo), (1, .int a1)]) (plainFor_of_name (by decide)) (Nat.le_of_ble_eq_true rfl) rfl ?_
  intro t p e s m args below meth c ls X hr hnm hl
  have X : jCx p c cX6_inState 4 s m args RX6 G meth := X
  have L4 : ∀ (n4 : Nat) (x2_4 : Int32) (x3_4 : Int32) (ls : Array Slot), lv_has ls 4 [(0, .ref mo), (1, .int a1), (2, .int x2_4), (3, .int x3_4)] → jGo l G 1 22 (mH mo A σ M) (fun _ : Int32 => (mH mo A σ M)) jrI t p e s m args below meth c (jloop (X6_inState_h4 n M a1) n4 (x2_4, x3_4)) (mH mo A σ M) (F0 m 4 ls []) := by
    intro n4
    induction n4 with
    | zero => intro x2_4 x3_4 ls hl; exact J.nil_
    | succ n4 ih4 =>
      have j30 : ∀ (x3_30 : Int32) (s0_30 : Int32) (s1_30 : Int32) (ls : Array Slot), lv_has ls 4 [(0, .ref mo), (1, .int a1), (3, .int x3_30)] → jGo l G 1 22 (mH mo A σ M) (fun _ : Int32 => (mH mo A σ M)) jrI t p e s m args below meth c (X6_inState_j30 n M a1 (jloop (X6_inState_h4 n M a1) n4) x3_30 s0_30 s1_30) (mH mo A σ M) (F0 m 30 ls [.int s1_30, .int s0_30]) := by
        intro x3_30 s0_30 s1_30 ls hl
        unfold X6_inState_j30
        refine J.bind (fun v30 h30 => ?_)
        refine J.cS (As := [.int s1_30]) (rest := [.int s0_30]) (s2 := [.int v30, .int s0_30]) X ⟨rfl, rfl⟩ (ct_X6_one l hm σ n M s1_30) (jrd_of h30) (fun _ _ => va_cwS 1 X.1.2.2.2.2 (lw_S q2988 q2989 q174 q2990) rfl rfl rfl (by decide +kernel) ⟨(Nat.le_of_ble_eq_true rfl), (Nat.le_of_ble_eq_true rfl)⟩) rfl hl.1 rfl rfl (Nat.le_of_ble_eq_true rfl) dX6_inState_30 ?_
        refine J.pu (fun _ _ _ _ k => lv_iadd X.1.1 X.1.2.1 dX6_inState_33 k) ?_
        refine J.istore_n (i := 2) (lv' := [(2, .int (s0_30 + v30)), (0, .ref mo), (1, .int a1), (3, .int x3_30)]) X.1.1 X.1.2.1 dX6_inState_34 rfl hl (by decide) (by first | rfl | simp [va_rf_cat, jcI, jcA, jcJ, jcD, jcF]) (fun ls hl => ?_)
        refine J.iinc (k := 3) (lv' := [(3, .int (x3_30 + 1)), (2, .int (s0_30 + v30)), (0, .ref mo), (1, .int a1)]) (w := (x3_30 + 1)) X.1.1 X.1.2.1 dX6_inState_35 hl rfl rfl (by decide) (by first | rfl | simp [va_rf_cat, jcI, jcA, jcJ, jcD, jcF]) (fun ls hl => ?_)
        refine J.pu (fun _ _ _ _ k => lv_goto (tgt := 4) X.1.1 X.1.2.1 dX6_inState_38 (by decide) k) ?_
        exact ih4 (s0_30 + v30) (x3_30 + 1) ls (lv_sub hl [2, 3, 1, 0] rfl)
      intro x2_4 x3_4 ls hl
      refine J.eq (jloop_s _ _ _) ?_
      dsimp only [X6_inState_h4]
      refine J.pu (fun _ _ _ _ k => lv_iload_n X.1.1 X.1.2.1 dX6_inState_4 rfl (lv_at hl 3 rfl) k) ?_
      refine J.pu (fun _ _ _ _ k => lv_aload_n X.1.1 X.1.2.1 dX6_inState_5 rfl (lv_at hl 0 rfl) k) ?_
      refine J.mgA (k := 0) X (by decide) q2730 rfl rfl dX6_inState_6 ?_
      refine J.pu (fun _ _ _ _ k => lv_iconst (v := 4) X.1.1 X.1.2.1 dX6_inState_9 (by decide) k) ?_
      refine J.mld X hm (by decide) dX6_inState_10 (fun v10 h10 => ?_)
      refine J.br (fun _ _ _ _ ka kb => lv_icmp_ge (tgt := 41) X.1.1 X.1.2.1 dX6_inState_11 (by decide) ka kb) (fun c11 => ?_) (fun c11 => ?_)
      · refine J.pu (fun _ _ _ _ k => lv_iload_n X.1.1 X.1.2.1 dX6_inState_41 rfl (lv_at hl 2 rfl) k) ?_
        exact J.iret (vr := jrI) (fin := fun _ : Int32 => (mH mo A σ M)) (t := t) X hr (by rfl) (by rfl) dX6_inState_42
      · refine J.pu (fun _ _ _ _ k => lv_iload_n X.1.1 X.1.2.1 dX6_inState_14 rfl (lv_at hl 2 rfl) k) ?_
        refine J.pu (fun _ _ _ _ k => lv_aload_n X.1.1 X.1.2.1 dX6_inState_15 rfl (lv_at hl 0 rfl) k) ?_
        refine J.pu (fun _ _ _ _ k => lv_iload_n X.1.1 X.1.2.1 dX6_inState_16 rfl (lv_at hl 3 rfl) k) ?_
        refine J.pu (fun _ _ _ _ k => lv_iconst (v := 3) X.1.1 X.1.2.1 dX6_inState_17 (by decide) k) ?_
        refine J.bind (fun v18 h18 => ?_)
        refine J.cV (q := (RX6, TX6, 26)) (ci := 5) (As := [.int x3_4, .int 3]) (rest := [.int x2_4]) (s2 := [.int v18, .int x2_4]) X ⟨rfl, rfl⟩ (ct_X6_of l hm σ n M x3_4 3) (jrd_of h18) (fun _ _ => cwV 2 X.1.2.2.2.2 (lw_V q2964 q2966 qs88 q174 q2967) rfl rfl rfl (by decide +kernel) ⟨(Nat.le_of_ble_eq_true rfl), (Nat.le_of_ble_eq_true rfl)⟩) mH_rc rfl rfl hl.1 rfl rfl (Nat.le_of_ble_eq_true rfl) dX6_inState_18 ?_
        refine J.pu (fun _ _ _ _ k => lv_iload_n X.1.1 X.1.2.1 dX6_inState_21 rfl (lv_at hl 1 rfl) k) ?_
        refine J.br (fun _ _ _ _ ka kb => lv_icmp_ne (tgt := 29) X.1.1 X.1.2.1 dX6_inState_22 (by decide) kb ka) (fun c22 => ?_) (fun c22 => ?_)
        · refine J.pu (fun _ _ _ _ k => lv_iconst (v := 1) X.1.1 X.1.2.1 dX6_inState_25 (by decide) k) ?_
          refine J.pu (fun _ _ _ _ k => lv_goto (tgt := 30) X.1.1 X.1.2.1 dX6_inState_26 (by decide) k) ?_
          exact j30 x3_4 x2_4 1 ls (lv_sub hl [0, 1, 3] rfl)
        · refine J.pu (fun _ _ _ _ k => lv_iconst (v := 0) X.1.1 X.1.2.1 dX6_inState_29 (by decide) k) ?_
          exact j30 x3_4 x2_4 0 ls (lv_sub hl [0, 1, 3] rfl)
  unfold X6_inState
  refine J.pu (fun _ _ _ _ k => lv_iconst (v := 0) X.1.1 X.1.2.1 dX6_inState_0 (by decide) k) ?_
  refine J.istore_n (i := 2) (lv' := [(2, .int 0), (0, .ref mo), (1, .int a1)]) X.1.1 X.1.2.1 dX6_inState_1 rfl hl (by decide) (by first | rfl | simp [va_rf_cat, jcI, jcA, jcJ, jcD, jcF]) (fun ls hl => ?_)
  refine J.pu (fun _ _ _ _ k => lv_iconst (v := 0) X.1.1 X.1.2.1 dX6_inState_2 (by decide) k) ?_
  refine J.istore_n (i := 3) (lv' := [(3, .int 0), (2, .int 0), (0, .ref mo), (1, .int a1)]) X.1.1 X.1.2.1 dX6_inState_3 rfl hl (by decide) (by first | rfl | simp [va_rf_cat, jcI, jcA, jcJ, jcD, jcF]) (fun ls hl => ?_)
  exact L4 n 0 0 ls (lv_sub hl [2, 3, 1, 0] rfl)
noncomputable def X6_leaves (n : Nat) (M : jM) (a1 : Int32) (a2 : Int32) : Option (Unit × jM) :=
  bd (X6_puts n M a1 3 a2) fun v4 M4 => (mA M4 0 5).bind fun v16 => bd (X6_puts n M4 a1 8 v16) fun v17 M17 => some ((), M17)
set_option maxHeartbeats 4000000 in
set_option maxRecDepth 100000 in
theorem ct_X6_leaves (l : Launch) {G : jG} {mo : Nat} {A : Nat → Nat} (hm : mOK G mo A) (σ : jH) (n : Nat) (M : jM) (a1 : Int32) (a2 : Int32) : jCt l G yX6_leaves (ws_ yX6_leaves cX6_leaves 3 none) 1 23 jrV [.ref mo, .int a1, .int a2] (mH mo A σ M) (mup mo A σ (X6_leaves n M a1 a2)) := by
  refine jCt.wm (lv := [(0, .ref mo), (1, .int a1), (2, .int a2)]) (plainFor_of_name (by decide)) (Nat.le_of_ble_eq_true rfl) rfl ?_
  intro t p e s m args below meth c ls X hr hnm hl
  have X : jCx p c cX6_leaves 3 s m args RX6 G meth := X
  unfold X6_leaves
  refine J.pu (fun _ _ _ _ k => lv_aload_n X.1.1 X.1.2.1 dX6_leaves_0 rfl (lv_at hl 0 rfl) k) ?_
  refine J.pu (fun _ _ _ _ k => lv_iload_n X.1.1 X.1.2.1 dX6_leaves_1 rfl (lv_at hl 1 rfl) k) ?_
  refine J.pu (fun _ _ _ _ k => lv_iconst (v := 3) X.1.1 X.1.2.1 dX6_leaves_2 (by decide) k) ?_
  refine J.pu (fun _ _ _ _ k => lv_iload_n X.1.1 X.1.2.1 dX6_leaves_3 rfl (lv_at hl 2 rfl) k) ?_
  refine J.bd' (fun v4 M4 h4 => ?_)
  refine J.cV (q := (RX6, TX6, 26)) (ci := 5) (As := [.int a1, .int 3, .int a2]) (rest := []) (s2 := []) X ⟨rfl, rfl⟩ (ct_X6_puts l hm σ n M a1 3 a2) (mup_of h4) (fun _ _ => cwV 3 X.1.2.2.2.2 (lw_V q2972 q2974 qs90 q174 q2975) rfl rfl rfl (by decide +kernel) ⟨(Nat.le_of_ble_eq_true rfl), (Nat.le_of_ble_eq_true rfl)⟩) mH_rc rfl rfl hl.1 rfl rfl (Nat.le_of_ble_eq_true rfl) dX6_leaves_4 ?_
  refine J.pu (fun _ _ _ _ k => lv_aload_n X.1.1 X.1.2.1 dX6_leaves_7 rfl (lv_at hl 0 rfl) k) ?_
  refine J.pu (fun _ _ _ _ k => lv_iload_n X.1.1 X.1.2.1 dX6_leaves_8 rfl (lv_at hl 1 rfl) k) ?_
  refine J.pu (fun _ _ _ _ k => lv_bipush (v := 8) X.1.1 X.1.2.1 dX6_leaves_9 (by decide) k) ?_
  refine J.pu (fun _ _ _ _ k => lv_aload_n X.1.1 X.1.2.1 dX6_leaves_11 rfl (lv_at hl 0 rfl) k) ?_
  refine J.mgA (k := 0) X (by decide) q2730 rfl rfl dX6_leaves_12 ?_
  refine J.pu (fun _ _ _ _ k => lv_iconst (v := 5) X.1.1 X.1.2.1 dX6_leaves_15 (by decide) k) ?_
  refine J.mld X hm (by decide) dX6_leaves_16 (fun v16 h16 => ?_)
  refine J.bd' (fun v17 M17 h17 => ?_)
  refine J.cV (q := (RX6, TX6, 26)) (ci := 5) (As := [.int a1, .int 8, .int v16]) (rest := []) (s2 := []) X ⟨rfl, rfl⟩ (ct_X6_puts l hm σ n M4 a1 8 v16) (mup_of h17) (fun _ _ => cwV 3 X.1.2.2.2.2 (lw_V q2972 q2974 qs90 q174 q2975) rfl rfl rfl (by decide +kernel) ⟨(Nat.le_of_ble_eq_true rfl), (Nat.le_of_ble_eq_true rfl)⟩) mH_rc rfl rfl hl.1 rfl rfl (Nat.le_of_ble_eq_true rfl) dX6_leaves_17 ?_
  exact J.vret (vr := fun t : Unit × jM => jrV t.1) (fin := fun r : Unit × jM => mH mo A σ r.2) (t := t) X hr (by rfl) (by rfl) dX6_leaves_20
noncomputable def X6_goes (n : Nat) (M : jM) (a1 : Int32) : Option (Unit × jM) :=
  (X6_of n M a1 4).bind fun v3 => (mA M 0 0).bind fun v13 => jnz v13 fun _ => bd (X6_puts n M a1 4 ((v3 + 1) - (v3 + 1) / v13 * v13)) fun v20 M20 => (X6_of n M20 a1 6).bind fun v31 => (mA M20 0 0).bind fun v41 => jnz v41 fun _ => bd (X6_puts n M20 a1 6 ((v31 + 1) - (v31 + 1) / v41 * v41)) fun v43 M43 => if ((v3 + 1) - (v3 + 1) / v13 * v13) ≤ 0 then ((X6_of n M43 a1 2).bind fun v57 => bd (X6_puts n M43 a1 2 (v57 + 1)) fun v62 M62 => (X6_of n M62 a1 2).bind fun v68 => (mA M62 0 6).bind fun v77 => if v77 < v68 then (bd (X6_leaves n M62 a1 3) fun v85 M85 => bd (X6_counts n M85 7 1) fun v92 M92 => some ((), M92)) else (some ((), M62))) else (some ((), M43))
set_option maxHeartbeats 4000000 in
set_option maxRecDepth 100000 in
theorem ct_X6_goes (l : Launch) {G : jG} {mo : Nat} {A : Nat → Nat} (hm : mOK G mo A) (σ : jH) (n : Nat) (M : jM) (a1 : Int32) : jCt l G yX6_goes (ws_ yX6_goes cX6_goes 3 none) 2 45 jrV [.ref mo, .int a1] (mH mo A σ M) (mup mo A σ (X6_goes n M a1)) := by
  refine jCt.wm (lv := [(0, .ref mo), (1, .int a1)]) (plainFor_of_name (by decide)) (Nat.le_of_ble_eq_true rfl) rfl ?_
  intro t p e s m args below meth c ls X hr hnm hl
  have X : jCx p c cX6_goes 3 s m args RX6 G meth := X
  unfold X6_goes
  refine J.pu (fun _ _ _ _ k => lv_aload_n X.1.1 X.1.2.1 dX6_goes_0 rfl (lv_at hl 0 rfl) k) ?_
  refine J.pu (fun _ _ _ _ k => lv_iload_n X.1.1 X.1.2.1 dX6_goes_1 rfl (lv_at hl 1 rfl) k) ?_
  refine J.pu (fun _ _ _ _ k => lv_iconst (v := 4) X.1.1 X.1.2.1 dX6_goes_2 (by decide) k) ?_
  refine J.bind (fun v3 h3 => ?_)
  refine J.cV (q := (RX6, TX6, 26)) (ci := 5) (As := [.int a1, .int 4]) (rest := []) (s2 := [.int v3]) X ⟨rfl, rfl⟩ (ct_X6_of l hm σ n M a1 4) (jrd_of h3) (fun _ _ => cwV 2 X.1.2.2.2.2 (lw_V q2964 q2966 qs88 q174 q2967) rfl rfl rfl (by decide +kernel) ⟨(Nat.le_of_ble_eq_true rfl), (Nat.le_of_ble_eq_true rfl)⟩) mH_rc rfl rfl hl.1 rfl rfl (Nat.le_of_ble_eq_true rfl) dX6_goes_3 ?_
  refine J.pu (fun _ _ _ _ k => lv_iconst (v := 1) X.1.1 X.1.2.1 dX6_goes_6 (by decide) k) ?_
  refine J.pu (fun _ _ _ _ k => lv_iadd X.1.1 X.1.2.1 dX6_goes_7 k) ?_
  refine J.pu (fun _ _ _ _ k => lv_aload_n X.1.1 X.1.2.1 dX6_goes_8 rfl (lv_at hl 0 rfl) k) ?_
  refine J.mgA (k := 0) X (by decide) q2730 rfl rfl dX6_goes_9 ?_
  refine J.pu (fun _ _ _ _ k => lv_iconst (v := 0) X.1.1 X.1.2.1 dX6_goes_12 (by decide) k) ?_
  refine J.mld X hm (by decide) dX6_goes_13 (fun v13 h13 => ?_)
  refine J.nz (fun z14 => ?_)
  refine J.pu (fun _ _ _ _ k => lv_irem X.1.1 X.1.2.1 dX6_goes_14 z14 k) ?_
  refine J.istore_n (i := 2) (lv' := [(2, .int ((v3 + 1) - (v3 + 1) / v13 * v13)), (0, .ref mo), (1, .int a1)]) X.1.1 X.1.2.1 dX6_goes_15 rfl hl (by decide) (by first | rfl | simp [va_rf_cat, jcI, jcA, jcJ, jcD, jcF]) (fun ls hl => ?_)
  refine J.pu (fun _ _ _ _ k => lv_aload_n X.1.1 X.1.2.1 dX6_goes_16 rfl (lv_at hl 1 rfl) k) ?_
  refine J.pu (fun _ _ _ _ k => lv_iload_n X.1.1 X.1.2.1 dX6_goes_17 rfl (lv_at hl 2 rfl) k) ?_
  refine J.pu (fun _ _ _ _ k => lv_iconst (v := 4) X.1.1 X.1.2.1 dX6_goes_18 (by decide) k) ?_
  refine J.pu (fun _ _ _ _ k => lv_iload_n X.1.1 X.1.2.1 dX6_goes_19 rfl (lv_at hl 0 rfl) k) ?_
  refine J.bd' (fun v20 M20 h20 => ?_)
  refine J.cV (q := (RX6, TX6, 26)) (ci := 5) (As := [.int a1, .int 4, .int ((v3 + 1) - (v3 + 1) / v13 * v13)]) (rest := []) (s2 := []) X ⟨rfl, rfl⟩ (ct_X6_puts l hm σ n M a1 4 ((v3 + 1) - (v3 + 1) / v13 * v13)) (mup_of h20) (fun _ _ => cwV 3 X.1.2.2.2.2 (lw_V q2972 q2974 qs90 q174 q2975) rfl rfl rfl (by decide +kernel) ⟨(Nat.le_of_ble_eq_true rfl), (Nat.le_of_ble_eq_true rfl)⟩) mH_rc rfl rfl hl.1 rfl rfl (Nat.le_of_ble_eq_true rfl) dX6_goes_20 ?_
  refine J.pu (fun _ _ _ _ k => lv_aload_n X.1.1 X.1.2.1 dX6_goes_23 rfl (lv_at hl 1 rfl) k) ?_
  refine J.pu (fun _ _ _ _ k => lv_iload_n X.1.1 X.1.2.1 dX6_goes_24 rfl (lv_at hl 2 rfl) k) ?_
  refine J.pu (fun _ _ _ _ k => lv_bipush (v := 6) X.1.1 X.1.2.1 dX6_goes_25 (by decide) k) ?_
  refine J.pu (fun _ _ _ _ k => lv_aload_n X.1.1 X.1.2.1 dX6_goes_27 rfl (lv_at hl 1 rfl) k) ?_
  refine J.pu (fun _ _ _ _ k => lv_iload_n X.1.1 X.1.2.1 dX6_goes_28 rfl (lv_at hl 2 rfl) k) ?_
  refine J.pu (fun _ _ _ _ k => lv_bipush (v := 6) X.1.1 X.1.2.1 dX6_goes_29 (by decide) k) ?_
  refine J.bind (fun v31 h31 => ?_)
  refine J.cV (q := (RX6, TX6, 26)) (ci := 5) (As := [.int a1, .int 6]) (rest := [.int 6, .int a1, .ref mo]) (s2 := [.int v31, .int 6, .int a1, .ref mo]) X ⟨rfl, rfl⟩ (ct_X6_of l hm σ n M20 a1 6) (jrd_of h31) (fun _ _ => cwV 2 X.1.2.2.2.2 (lw_V q2964 q2966 qs88 q174 q2967) rfl rfl rfl (by decide +kernel) ⟨(Nat.le_of_ble_eq_true rfl), (Nat.le_of_ble_eq_true rfl)⟩) mH_rc rfl rfl hl.1 rfl rfl (Nat.le_of_ble_eq_true rfl) dX6_goes_31 ?_
  refine J.pu (fun _ _ _ _ k => lv_iconst (v := 1) X.1.1 X.1.2.1 dX6_goes_34 (by decide) k) ?_
  refine J.pu (fun _ _ _ _ k => lv_iadd X.1.1 X.1.2.1 dX6_goes_35 k) ?_
  refine J.pu (fun _ _ _ _ k => lv_aload_n X.1.1 X.1.2.1 dX6_goes_36 rfl (lv_at hl 1 rfl) k) ?_
  refine J.mgA (k := 0) X (by decide) q2730 rfl rfl dX6_goes_37 ?_
  refine J.pu (fun _ _ _ _ k => lv_iconst (v := 0) X.1.1 X.1.2.1 dX6_goes_40 (by decide) k) ?_
  refine J.mld X hm (by decide) dX6_goes_41 (fun v41 h41 => ?_)
  refine J.nz (fun z42 => ?_)
  refine J.pu (fun _ _ _ _ k => lv_irem X.1.1 X.1.2.1 dX6_goes_42 z42 k) ?_
  refine J.bd' (fun v43 M43 h43 => ?_)
  refine J.cV (q := (RX6, TX6, 26)) (ci := 5) (As := [.int a1, .int 6, .int ((v31 + 1) - (v31 + 1) / v41 * v41)]) (rest := []) (s2 := []) X ⟨rfl, rfl⟩ (ct_X6_puts l hm σ n M20 a1 6 ((v31 + 1) - (v31 + 1) / v41 * v41)) (mup_of h43) (fun _ _ => cwV 3 X.1.2.2.2.2 (lw_V q2972 q2974 qs90 q174 q2975) rfl rfl rfl (by decide +kernel) ⟨(Nat.le_of_ble_eq_true rfl), (Nat.le_of_ble_eq_true rfl)⟩) mH_rc rfl rfl hl.1 rfl rfl (Nat.le_of_ble_eq_true rfl) dX6_goes_43 ?_
  refine J.pu (fun _ _ _ _ k => lv_iload_n X.1.1 X.1.2.1 dX6_goes_46 rfl (lv_at hl 0 rfl) k) ?_
  refine J.br (fun _ _ _ _ ka kb => lv_if_le (tgt := 51) X.1.1 X.1.2.1 dX6_goes_47 (by decide) ka kb) (fun c47 => ?_) (fun c47 => ?_)
  · refine J.pu (fun _ _ _ _ k => lv_aload_n X.1.1 X.1.2.1 dX6_goes_51 rfl (lv_at hl 1 rfl) k) ?_
    refine J.pu (fun _ _ _ _ k => lv_iload_n X.1.1 X.1.2.1 dX6_goes_52 rfl (lv_at hl 2 rfl) k) ?_
    refine J.pu (fun _ _ _ _ k => lv_iconst (v := 2) X.1.1 X.1.2.1 dX6_goes_53 (by decide) k) ?_
    refine J.pu (fun _ _ _ _ k => lv_aload_n X.1.1 X.1.2.1 dX6_goes_54 rfl (lv_at hl 1 rfl) k) ?_
    refine J.pu (fun _ _ _ _ k => lv_iload_n X.1.1 X.1.2.1 dX6_goes_55 rfl (lv_at hl 2 rfl) k) ?_
    refine J.pu (fun _ _ _ _ k => lv_iconst (v := 2) X.1.1 X.1.2.1 dX6_goes_56 (by decide) k) ?_
    refine J.bind (fun v57 h57 => ?_)
    refine J.cV (q := (RX6, TX6, 26)) (ci := 5) (As := [.int a1, .int 2]) (rest := [.int 2, .int a1, .ref mo]) (s2 := [.int v57, .int 2, .int a1, .ref mo]) X ⟨rfl, rfl⟩ (ct_X6_of l hm σ n M43 a1 2) (jrd_of h57) (fun _ _ => cwV 2 X.1.2.2.2.2 (lw_V q2964 q2966 qs88 q174 q2967) rfl rfl rfl (by decide +kernel) ⟨(Nat.le_of_ble_eq_true rfl), (Nat.le_of_ble_eq_true rfl)⟩) mH_rc rfl rfl hl.1 rfl rfl (Nat.le_of_ble_eq_true rfl) dX6_goes_57 ?_
    refine J.pu (fun _ _ _ _ k => lv_iconst (v := 1) X.1.1 X.1.2.1 dX6_goes_60 (by decide) k) ?_
    refine J.pu (fun _ _ _ _ k => lv_iadd X.1.1 X.1.2.1 dX6_goes_61 k) ?_
    refine J.bd' (fun v62 M62 h62 => ?_)
    refine J.cV (q := (RX6, TX6, 26)) (ci := 5) (As := [.int a1, .int 2, .int (v57 + 1)]) (rest := []) (s2 := []) X ⟨rfl, rfl⟩ (ct_X6_puts l hm σ n M43 a1 2 (v57 + 1)) (mup_of h62) (fun _ _ => cwV 3 X.1.2.2.2.2 (lw_V q2972 q2974 qs90 q174 q2975) rfl rfl rfl (by decide +kernel) ⟨(Nat.le_of_ble_eq_true rfl), (Nat.le_of_ble_eq_true rfl)⟩) mH_rc rfl rfl hl.1 rfl rfl (Nat.le_of_ble_eq_true rfl) dX6_goes_62 ?_
    refine J.pu (fun _ _ _ _ k => lv_aload_n X.1.1 X.1.2.1 dX6_goes_65 rfl (lv_at hl 1 rfl) k) ?_
    refine J.pu (fun _ _ _ _ k => lv_iload_n X.1.1 X.1.2.1 dX6_goes_66 rfl (lv_at hl 2 rfl) k) ?_
    refine J.pu (fun _ _ _ _ k => lv_iconst (v := 2) X.1.1 X.1.2.1 dX6_goes_67 (by decide) k) ?_
    refine J.bind (fun v68 h68 => ?_)
    refine J.cV (q := (RX6, TX6, 26)) (ci := 5) (As := [.int a1, .int 2]) (rest := []) (s2 := [.int v68]) X ⟨rfl, rfl⟩ (ct_X6_of l hm σ n M62 a1 2) (jrd_of h68) (fun _ _ => cwV 2 X.1.2.2.2.2 (lw_V q2964 q2966 qs88 q174 q2967) rfl rfl rfl (by decide +kernel) ⟨(Nat.le_of_ble_eq_true rfl), (Nat.le_of_ble_eq_true rfl)⟩) mH_rc rfl rfl hl.1 rfl rfl (Nat.le_of_ble_eq_true rfl) dX6_goes_68 ?_
    refine J.pu (fun _ _ _ _ k => lv_aload_n X.1.1 X.1.2.1 dX6_goes_71 rfl (lv_at hl 1 rfl) k) ?_
    refine J.mgA (k := 0) X (by decide) q2730 rfl rfl dX6_goes_72 ?_
    refine J.pu (fun _ _ _ _ k => lv_bipush (v := 6) X.1.1 X.1.2.1 dX6_goes_75 (by decide) k) ?_
    refine J.mld X hm (by decide) dX6_goes_77 (fun v77 h77 => ?_)
    refine J.br (fun _ _ _ _ ka kb => lv_icmp_gt (tgt := 82) X.1.1 X.1.2.1 dX6_goes_78 (by decide) ka kb) (fun c78 => ?_) (fun c78 => ?_)
    · refine J.pu (fun _ _ _ _ k => lv_aload_n X.1.1 X.1.2.1 dX6_goes_82 rfl (lv_at hl 1 rfl) k) ?_
      refine J.pu (fun _ _ _ _ k => lv_iload_n X.1.1 X.1.2.1 dX6_goes_83 rfl (lv_at hl 2 rfl) k) ?_
      refine J.pu (fun _ _ _ _ k => lv_iconst (v := 3) X.1.1 X.1.2.1 dX6_goes_84 (by decide) k) ?_
      refine J.bd' (fun v85 M85 h85 => ?_)
      refine J.cV (q := (RX6, TX6, 26)) (ci := 5) (As := [.int a1, .int 3]) (rest := []) (s2 := []) X ⟨rfl, rfl⟩ (ct_X6_leaves l hm σ n M62 a1 3) (mup_of h85) (fun _ _ => cwV 2 X.1.2.2.2.2 (lw_V q3000 q3002 qs96 q174 q3003) rfl rfl rfl (by decide +kernel) ⟨(Nat.le_of_ble_eq_true rfl), (Nat.le_of_ble_eq_true rfl)⟩) mH_rc rfl rfl hl.1 rfl rfl (Nat.le_of_ble_eq_true rfl) dX6_goes_85 ?_
      refine J.pu (fun _ _ _ _ k => lv_aload_n X.1.1 X.1.2.1 dX6_goes_88 rfl (lv_at hl 1 rfl) k) ?_
      refine J.pu (fun _ _ _ _ k => lv_bipush (v := 7) X.1.1 X.1.2.1 dX6_goes_89 (by decide) k) ?_
      refine J.pu (fun _ _ _ _ k => lv_iconst (v := 1) X.1.1 X.1.2.1 dX6_goes_91 (by decide) k) ?_
      refine J.bd' (fun v92 M92 h92 => ?_)
      refine J.cV (q := (RX6, TX6, 26)) (ci := 5) (As := [.int 7, .int 1]) (rest := []) (s2 := []) X ⟨rfl, rfl⟩ (ct_X6_counts l hm σ n M85 7 1) (mup_of h92) (fun _ _ => cwV 2 X.1.2.2.2.2 (lw_V q2976 q2978 qs91 q174 q2979) rfl rfl rfl (by decide +kernel) ⟨(Nat.le_of_ble_eq_true rfl), (Nat.le_of_ble_eq_true rfl)⟩) mH_rc rfl rfl hl.1 rfl rfl (Nat.le_of_ble_eq_true rfl) dX6_goes_92 ?_
      exact J.vret (vr := fun t : Unit × jM => jrV t.1) (fin := fun r : Unit × jM => mH mo A σ r.2) (t := t) X hr (by rfl) (by rfl) dX6_goes_95
    · exact J.vret (vr := fun t : Unit × jM => jrV t.1) (fin := fun r : Unit × jM => mH mo A σ r.2) (t := t) X hr (by rfl) (by rfl) dX6_goes_81
  · exact J.vret (vr := fun t : Unit × jM => jrV t.1) (fin := fun r : Unit × jM => mH mo A σ r.2) (t := t) X hr (by rfl) (by rfl) dX6_goes_50
noncomputable def X6_isTracked (n : Nat) (M : jM) (a1 : Int32) : Option (Int32) :=
  (X6_isOn n M a1).bind fun v2 => if v2 = 0 then (some 0) else ((X6_of n M a1 5).bind fun v11 => if v11 = 1 then (some 1) else (some 0))
set_option maxHeartbeats 4000000 in
set_option maxRecDepth 100000 in
theorem ct_X6_isTracked (l : Launch) {G : jG} {mo : Nat} {A : Nat → Nat} (hm : mOK G mo A) (σ : jH) (n : Nat) (M : jM) (a1 : Int32) : jCt l G yX6_isTracked (ws_ yX6_isTracked cX6_isTracked 2 (some .boolean)) 2 43 jrI [.ref mo, .int a1] (mH mo A σ M) (jrd (mH mo A σ M) (X6_isTracked n M a1)) := by
  refine jCt.rd (lv := [(0, .ref mo), (1, .int a1)]) (plainFor_of_name (by decide)) (Nat.le_of_ble_eq_true rfl) rfl ?_
  intro t p e s m args below meth c ls X hr hnm hl
  have X : jCx p c cX6_isTracked 2 s m args RX6 G meth := X
  unfold X6_isTracked
  refine J.pu (fun _ _ _ _ k => lv_aload_n X.1.1 X.1.2.1 dX6_isTracked_0 rfl (lv_at hl 0 rfl) k) ?_
  refine J.pu (fun _ _ _ _ k => lv_iload_n X.1.1 X.1.2.1 dX6_isTracked_1 rfl (lv_at hl 1 rfl) k) ?_
  refine J.bind (fun v2 h2 => ?_)
  refine J.cV (q := (RX6, TX6, 26)) (ci := 5) (As := [.int a1]) (rest := []) (s2 := [.int v2]) X ⟨rfl, rfl⟩ (ct_X6_isOn l hm σ n M a1) (jrd_of h2) (fun _ _ => cwV 1 X.1.2.2.2.2 (lw_V q2960 q2962 qs87 q174 q2963) rfl rfl rfl (by decide +kernel) ⟨(Nat.le_of_ble_eq_true rfl), (Nat.le_of_ble_eq_true rfl)⟩) mH_rc rfl rfl hl.1 rfl rfl (Nat.le_of_ble_eq_true rfl) dX6_isTracked_2 ?_
  refine J.br (fun _ _ _ _ ka kb => lv_if_eq (tgt := 22) X.1.1 X.1.2.1 dX6_isTracked_5 (by decide) ka kb) (fun c5 => ?_) (fun c5 => ?_)
  · refine J.pu (fun _ _ _ _ k => lv_iconst (v := 0) X.1.1 X.1.2.1 dX6_isTracked_22 (by decide) k) ?_
    exact J.zret (vr := jrI) (fin := fun _ : Int32 => (mH mo A σ M)) (t := t) X hr (by decide) (by rfl) (by rfl) dX6_isTracked_23
  · refine J.pu (fun _ _ _ _ k => lv_aload_n X.1.1 X.1.2.1 dX6_isTracked_8 rfl (lv_at hl 0 rfl) k) ?_
    refine J.pu (fun _ _ _ _ k => lv_iload_n X.1.1 X.1.2.1 dX6_isTracked_9 rfl (lv_at hl 1 rfl) k) ?_
    refine J.pu (fun _ _ _ _ k => lv_iconst (v := 5) X.1.1 X.1.2.1 dX6_isTracked_10 (by decide) k) ?_
    refine J.bind (fun v11 h11 => ?_)
    refine J.cV (q := (RX6, TX6, 26)) (ci := 5) (As := [.int a1, .int 5]) (rest := []) (s2 := [.int v11]) X ⟨rfl, rfl⟩ (ct_X6_of l hm σ n M a1 5) (jrd_of h11) (fun _ _ => cwV 2 X.1.2.2.2.2 (lw_V q2964 q2966 qs88 q174 q2967) rfl rfl rfl (by decide +kernel) ⟨(Nat.le_of_ble_eq_true rfl), (Nat.le_of_ble_eq_true rfl)⟩) mH_rc rfl rfl hl.1 rfl rfl (Nat.le_of_ble_eq_true rfl) dX6_isTracked_11 ?_
    refine J.pu (fun _ _ _ _ k => lv_iconst (v := 1) X.1.1 X.1.2.1 dX6_isTracked_14 (by decide) k) ?_
    refine J.br (fun _ _ _ _ ka kb => lv_icmp_ne (tgt := 22) X.1.1 X.1.2.1 dX6_isTracked_15 (by decide) kb ka) (fun c15 => ?_) (fun c15 => ?_)
    · refine J.pu (fun _ _ _ _ k => lv_iconst (v := 1) X.1.1 X.1.2.1 dX6_isTracked_18 (by decide) k) ?_
      refine J.pu (fun _ _ _ _ k => lv_goto (tgt := 23) X.1.1 X.1.2.1 dX6_isTracked_19 (by decide) k) ?_
      exact J.zret (vr := jrI) (fin := fun _ : Int32 => (mH mo A σ M)) (t := t) X hr (by decide) (by rfl) (by rfl) dX6_isTracked_23
    · refine J.pu (fun _ _ _ _ k => lv_iconst (v := 0) X.1.1 X.1.2.1 dX6_isTracked_22 (by decide) k) ?_
      exact J.zret (vr := jrI) (fin := fun _ : Int32 => (mH mo A σ M)) (t := t) X hr (by decide) (by rfl) (by rfl) dX6_isTracked_23
noncomputable def X6_isLooked (n : Nat) (M : jM) (a1 : Int32) (a2 : Int32) : Option (Int32) :=
  (X6_isTracked n M a1).bind fun v2 => if v2 = 0 then (some 0) else ((X6_of n M a1 1).bind fun v11 => if v11 = 0 then ((X6_of n M a1 0).bind fun v20 => if v20 = a2 then ((X6_of n M a1 6).bind fun v31 => (X6_ofChute n M a2 0).bind fun v37 => if v31 = v37 then (some 1) else (some 0)) else (some 0)) else (some 0))
set_option maxHeartbeats 4000000 in
set_option maxRecDepth 100000 in
theorem ct_X6_isLooked (l : Launch) {G : jG} {mo : Nat} {A : Nat → Nat} (hm : mOK G mo A) (σ : jH) (n : Nat) (M : jM) (a1 : Int32) (a2 : Int32) : jCt l G yX6_isLooked (ws_ yX6_isLooked cX6_isLooked 3 (some .boolean)) 3 64 jrI [.ref mo, .int a1, .int a2] (mH mo A σ M) (jrd (mH mo A σ M) (X6_isLooked n M a1 a2)) := by
  refine jCt.rd (lv := [(0, .ref mo), (1, .int a1), (2, .int a2)]) (plainFor_of_name (by decide)) (Nat.le_of_ble_eq_true rfl) rfl ?_
  intro t p e s m args below meth c ls X hr hnm hl
  have X : jCx p c cX6_isLooked 3 s m args RX6 G meth := X
  unfold X6_isLooked
  refine J.pu (fun _ _ _ _ k => lv_aload_n X.1.1 X.1.2.1 dX6_isLooked_0 rfl (lv_at hl 0 rfl) k) ?_
  refine J.pu (fun _ _ _ _ k => lv_iload_n X.1.1 X.1.2.1 dX6_isLooked_1 rfl (lv_at hl 1 rfl) k) ?_
  refine J.bind (fun v2 h2 => ?_)
  refine J.cV (q := (RX6, TX6, 26)) (ci := 5) (As := [.int a1]) (rest := []) (s2 := [.int v2]) X ⟨rfl, rfl⟩ (ct_X6_isTracked l hm σ n M a1) (jrd_of h2) (fun _ _ => cwV 1 X.1.2.2.2.2 (lw_V q3023 q3025 qs101 q174 q3026) rfl rfl rfl (by decide +kernel) ⟨(Nat.le_of_ble_eq_true rfl), (Nat.le_of_ble_eq_true rfl)⟩) mH_rc rfl rfl hl.1 rfl rfl (Nat.le_of_ble_eq_true rfl) dX6_isLooked_2 ?_
  refine J.br (fun _ _ _ _ ka kb => lv_if_eq (tgt := 47) X.1.1 X.1.2.1 dX6_isLooked_5 (by decide) ka kb) (fun c5 => ?_) (fun c5 => ?_)
  · refine J.pu (fun _ _ _ _ k => lv_iconst (v := 0) X.1.1 X.1.2.1 dX6_isLooked_47 (by decide) k) ?_
    exact J.zret (vr := jrI) (fin := fun _ : Int32 => (mH mo A σ M)) (t := t) X hr (by decide) (by rfl) (by rfl) dX6_isLooked_48
  · refine J.pu (fun _ _ _ _ k => lv_aload_n X.1.1 X.1.2.1 dX6_isLooked_8 rfl (lv_at hl 0 rfl) k) ?_
    refine J.pu (fun _ _ _ _ k => lv_iload_n X.1.1 X.1.2.1 dX6_isLooked_9 rfl (lv_at hl 1 rfl) k) ?_
    refine J.pu (fun _ _ _ _ k => lv_iconst (v := 1) X.1.1 X.1.2.1 dX6_isLooked_10 (by decide) k) ?_
    refine J.bind (fun v11 h11 => ?_)
    refine J.cV (q := (RX6, TX6, 26)) (ci := 5) (As := [.int a1, .int 1]) (rest := []) (s2 := [.int v11]) X ⟨rfl, rfl⟩ (ct_X6_of l hm σ n M a1 1) (jrd_of h11) (fun _ _ => cwV 2 X.1.2.2.2.2 (lw_V q2964 q2966 qs88 q174 q2967) rfl rfl rfl (by decide +kernel) ⟨(Nat.le_of_ble_eq_true rfl), (Nat.le_of_ble_eq_true rfl)⟩) mH_rc rfl rfl hl.1 rfl rfl (Nat.le_of_ble_eq_true rfl) dX6_isLooked_11 ?_
    refine J.br (fun _ _ _ _ ka kb => lv_if_ne (tgt := 47) X.1.1 X.1.2.1 dX6_isLooked_14 (by decide) kb ka) (fun c14 => ?_) (fun c14 => ?_)
    · refine J.pu (fun _ _ _ _ k => lv_aload_n X.1.1 X.1.2.1 dX6_isLooked_17 rfl (lv_at hl 0 rfl) k) ?_
      refine J.pu (fun _ _ _ _ k => lv_iload_n X.1.1 X.1.2.1 dX6_isLooked_18 rfl (lv_at hl 1 rfl) k) ?_
      refine J.pu (fun _ _ _ _ k => lv_iconst (v := 0) X.1.1 X.1.2.1 dX6_isLooked_19 (by decide) k) ?_
      refine J.bind (fun v20 h20 => ?_)
      refine J.cV (q := (RX6, TX6, 26)) (ci := 5) (As := [.int a1, .int 0]) (rest := []) (s2 := [.int v20]) X ⟨rfl, rfl⟩ (ct_X6_of l hm σ n M a1 0) (jrd_of h20) (fun _ _ => cwV 2 X.1.2.2.2.2 (lw_V q2964 q2966 qs88 q174 q2967) rfl rfl rfl (by decide +kernel) ⟨(Nat.le_of_ble_eq_true rfl), (Nat.le_of_ble_eq_true rfl)⟩) mH_rc rfl rfl hl.1 rfl rfl (Nat.le_of_ble_eq_true rfl) dX6_isLooked_20 ?_
      refine J.pu (fun _ _ _ _ k => lv_iload_n X.1.1 X.1.2.1 dX6_isLooked_23 rfl (lv_at hl 2 rfl) k) ?_
      refine J.br (fun _ _ _ _ ka kb => lv_icmp_ne (tgt := 47) X.1.1 X.1.2.1 dX6_isLooked_24 (by decide) kb ka) (fun c24 => ?_) (fun c24 => ?_)
      · refine J.pu (fun _ _ _ _ k => lv_aload_n X.1.1 X.1.2.1 dX6_isLooked_27 rfl (lv_at hl 0 rfl) k) ?_
        refine J.pu (fun _ _ _ _ k => lv_iload_n X.1.1 X.1.2.1 dX6_isLooked_28 rfl (lv_at hl 1 rfl) k) ?_
        refine J.pu (fun _ _ _ _ k => lv_bipush (v := 6) X.1.1 X.1.2.1 dX6_isLooked_29 (by decide) k) ?_
        refine J.bind (fun v31 h31 => ?_)
        refine J.cV (q := (RX6, TX6, 26)) (ci := 5) (As := [.int a1, .int 6]) (rest := []) (s2 := [.int v31]) X ⟨rfl, rfl⟩ (ct_X6_of l hm σ n M a1 6) (jrd_of h31) (fun _ _ => cwV 2 X.1.2.2.2.2 (lw_V q2964 q2966 qs88 q174 q2967) rfl rfl rfl (by decide +kernel) ⟨(Nat.le_of_ble_eq_true rfl), (Nat.le_of_ble_eq_true rfl)⟩) mH_rc rfl rfl hl.1 rfl rfl (Nat.le_of_ble_eq_true rfl) dX6_isLooked_31 ?_
        refine J.pu (fun _ _ _ _ k => lv_aload_n X.1.1 X.1.2.1 dX6_isLooked_34 rfl (lv_at hl 0 rfl) k) ?_
        refine J.pu (fun _ _ _ _ k => lv_iload_n X.1.1 X.1.2.1 dX6_isLooked_35 rfl (lv_at hl 2 rfl) k) ?_
        refine J.pu (fun _ _ _ _ k => lv_iconst (v := 0) X.1.1 X.1.2.1 dX6_isLooked_36 (by decide) k) ?_
        refine J.bind (fun v37 h37 => ?_)
        refine J.cV (q := (RX6, TX6, 26)) (ci := 5) (As := [.int a2, .int 0]) (rest := [.int v31]) (s2 := [.int v37, .int v31]) X ⟨rfl, rfl⟩ (ct_X6_ofChute l hm σ n M a2 0) (jrd_of h37) (fun _ _ => cwV 2 X.1.2.2.2.2 (lw_V q2908 q2910 qs77 q174 q2911) rfl rfl rfl (by decide +kernel) ⟨(Nat.le_of_ble_eq_true rfl), (Nat.le_of_ble_eq_true rfl)⟩) mH_rc rfl rfl hl.1 rfl rfl (Nat.le_of_ble_eq_true rfl) dX6_isLooked_37 ?_
        refine J.br (fun _ _ _ _ ka kb => lv_icmp_ne (tgt := 47) X.1.1 X.1.2.1 dX6_isLooked_40 (by decide) kb ka) (fun c40 => ?_) (fun c40 => ?_)
        · refine J.pu (fun _ _ _ _ k => lv_iconst (v := 1) X.1.1 X.1.2.1 dX6_isLooked_43 (by decide) k) ?_
          refine J.pu (fun _ _ _ _ k => lv_goto (tgt := 48) X.1.1 X.1.2.1 dX6_isLooked_44 (by decide) k) ?_
          exact J.zret (vr := jrI) (fin := fun _ : Int32 => (mH mo A σ M)) (t := t) X hr (by decide) (by rfl) (by rfl) dX6_isLooked_48
        · refine J.pu (fun _ _ _ _ k => lv_iconst (v := 0) X.1.1 X.1.2.1 dX6_isLooked_47 (by decide) k) ?_
          exact J.zret (vr := jrI) (fin := fun _ : Int32 => (mH mo A σ M)) (t := t) X hr (by decide) (by rfl) (by rfl) dX6_isLooked_48
      · refine J.pu (fun _ _ _ _ k => lv_iconst (v := 0) X.1.1 X.1.2.1 dX6_isLooked_47 (by decide) k) ?_
        exact J.zret (vr := jrI) (fin := fun _ : Int32 => (mH mo A σ M)) (t := t) X hr (by decide) (by rfl) (by rfl) dX6_isLooked_48
    · refine J.pu (fun _ _ _ _ k => lv_iconst (v := 0) X.1.1 X.1.2.1 dX6_isLooked_47 (by decide) k) ?_
      exact J.zret (vr := jrI) (fin := fun _ : Int32 => (mH mo A σ M)) (t := t) X hr (by decide) (by rfl) (by rfl) dX6_isLooked_48
noncomputable def X6_comesInto (n : Nat) (M : jM) (a1 : Int32) (a2 : Int32) : Option (Unit × jM) :=
  bd (X6_leaves n M a1 1) fun v3 M3 => bd (X6_puts n M3 a1 7 a2) fun v11 M11 => (X6_ofChute n M11 a2 6).bind fun v22 => bd (X6_putsChute n M11 a2 (8 + v22) a1) fun v27 M27 => (X6_ofChute n M27 a2 6).bind fun v38 => bd (X6_putsChute n M27 a2 6 (v38 + 1)) fun v43 M43 => (X6_ofChute n M43 a2 7).bind fun v54 => bd (X6_putsChute n M43 a2 7 (v54 + 1)) fun v59 M59 => (X6_of n M59 a1 0).bind fun v66 => if v66 = a2 then (bd (X6_counts n M59 2 1) fun v79 M79 => some ((), M79)) else (bd (X6_counts n M59 3 1) fun v79 M79 => some ((), M79))
set_option maxHeartbeats 4000000 in
set_option maxRecDepth 100000 in
theorem ct_X6_comesInto (l : Launch) {G : jG} {mo : Nat} {A : Nat → Nat} (hm : mOK G mo A) (σ : jH) (n : Nat) (M : jM) (a1 : Int32) (a2 : Int32) : jCt l G yX6_comesInto (ws_ yX6_comesInto cX6_comesInto 3 none) 2 45 jrV [.ref mo, .int a1, .int a2] (mH mo A σ M) (mup mo A σ (X6_comesInto n M a1 a2)) := by
  refine jCt.wm (lv := [(0, .ref mo), (1, .int a1), (2, .int a2)]) (plainFor_of_name (by decide)) (Nat.le_of_ble_eq_true rfl) rfl ?_
  intro t p e s m args below meth c ls X hr hnm hl
  have X : jCx p c cX6_comesInto 3 s m args RX6 G meth := X
  unfold X6_comesInto
  refine J.pu (fun _ _ _ _ k => lv_aload_n X.1.1 X.1.2.1 dX6_comesInto_0 rfl (lv_at hl 0 rfl) k) ?_
  refine J.pu (fun _ _ _ _ k => lv_iload_n X.1.1 X.1.2.1 dX6_comesInto_1 rfl (lv_at hl 1 rfl) k) ?_
  refine J.pu (fun _ _ _ _ k => lv_iconst (v := 1) X.1.1 X.1.2.1 dX6_comesInto_2 (by decide) k) ?_
  refine J.bd' (fun v3 M3 h3 => ?_)
  refine J.cV (q := (RX6, TX6, 26)) (ci := 5) (As := [.int a1, .int 1]) (rest := []) (s2 := []) X ⟨rfl, rfl⟩ (ct_X6_leaves l hm σ n M a1 1) (mup_of h3) (fun _ _ => cwV 2 X.1.2.2.2.2 (lw_V q3000 q3002 qs96 q174 q3003) rfl rfl rfl (by decide +kernel) ⟨(Nat.le_of_ble_eq_true rfl), (Nat.le_of_ble_eq_true rfl)⟩) mH_rc rfl rfl hl.1 rfl rfl (Nat.le_of_ble_eq_true rfl) dX6_comesInto_3 ?_
  refine J.pu (fun _ _ _ _ k => lv_aload_n X.1.1 X.1.2.1 dX6_comesInto_6 rfl (lv_at hl 0 rfl) k) ?_
  refine J.pu (fun _ _ _ _ k => lv_iload_n X.1.1 X.1.2.1 dX6_comesInto_7 rfl (lv_at hl 1 rfl) k) ?_
  refine J.pu (fun _ _ _ _ k => lv_bipush (v := 7) X.1.1 X.1.2.1 dX6_comesInto_8 (by decide) k) ?_
  refine J.pu (fun _ _ _ _ k => lv_iload_n X.1.1 X.1.2.1 dX6_comesInto_10 rfl (lv_at hl 2 rfl) k) ?_
  refine J.bd' (fun v11 M11 h11 => ?_)
  refine J.cV (q := (RX6, TX6, 26)) (ci := 5) (As := [.int a1, .int 7, .int a2]) (rest := []) (s2 := []) X ⟨rfl, rfl⟩ (ct_X6_puts l hm σ n M3 a1 7 a2) (mup_of h11) (fun _ _ => cwV 3 X.1.2.2.2.2 (lw_V q2972 q2974 qs90 q174 q2975) rfl rfl rfl (by decide +kernel) ⟨(Nat.le_of_ble_eq_true rfl), (Nat.le_of_ble_eq_true rfl)⟩) mH_rc rfl rfl hl.1 rfl rfl (Nat.le_of_ble_eq_true rfl) dX6_comesInto_11 ?_
  refine J.pu (fun _ _ _ _ k => lv_aload_n X.1.1 X.1.2.1 dX6_comesInto_14 rfl (lv_at hl 0 rfl) k) ?_
  refine J.pu (fun _ _ _ _ k => lv_iload_n X.1.1 X.1.2.1 dX6_comesInto_15 rfl (lv_at hl 2 rfl) k) ?_
  refine J.pu (fun _ _ _ _ k => lv_bipush (v := 8) X.1.1 X.1.2.1 dX6_comesInto_16 (by decide) k) ?_
  refine J.pu (fun _ _ _ _ k => lv_aload_n X.1.1 X.1.2.1 dX6_comesInto_18 rfl (lv_at hl 0 rfl) k) ?_
  refine J.pu (fun _ _ _ _ k => lv_iload_n X.1.1 X.1.2.1 dX6_comesInto_19 rfl (lv_at hl 2 rfl) k) ?_
  refine J.pu (fun _ _ _ _ k => lv_bipush (v := 6) X.1.1 X.1.2.1 dX6_comesInto_20 (by decide) k) ?_
  refine J.bind (fun v22 h22 => ?_)
  refine J.cV (q := (RX6, TX6, 26)) (ci := 5) (As := [.int a2, .int 6]) (rest := [.int 8, .int a2, .ref mo]) (s2 := [.int v22, .int 8, .int a2, .ref mo]) X ⟨rfl, rfl⟩ (ct_X6_ofChute l hm σ n M11 a2 6) (jrd_of h22) (fun _ _ => cwV 2 X.1.2.2.2.2 (lw_V q2908 q2910 qs77 q174 q2911) rfl rfl rfl (by decide +kernel) ⟨(Nat.le_of_ble_eq_true rfl), (Nat.le_of_ble_eq_true rfl)⟩) mH_rc rfl rfl hl.1 rfl rfl (Nat.le_of_ble_eq_true rfl) dX6_comesInto_22 ?_
  refine J.pu (fun _ _ _ _ k => lv_iadd X.1.1 X.1.2.1 dX6_comesInto_25 k) ?_
  refine J.pu (fun _ _ _ _ k => lv_iload_n X.1.1 X.1.2.1 dX6_comesInto_26 rfl (lv_at hl 1 rfl) k) ?_
  refine J.bd' (fun v27 M27 h27 => ?_)
  refine J.cV (q := (RX6, TX6, 26)) (ci := 5) (As := [.int a2, .int (8 + v22), .int a1]) (rest := []) (s2 := []) X ⟨rfl, rfl⟩ (ct_X6_putsChute l hm σ n M11 a2 (8 + v22) a1) (mup_of h27) (fun _ _ => cwV 3 X.1.2.2.2.2 (lw_V q2726 q2728 qs58 q174 q2729) rfl rfl rfl (by decide +kernel) ⟨(Nat.le_of_ble_eq_true rfl), (Nat.le_of_ble_eq_true rfl)⟩) mH_rc rfl rfl hl.1 rfl rfl (Nat.le_of_ble_eq_true rfl) dX6_comesInto_27 ?_
  refine J.pu (fun _ _ _ _ k => lv_aload_n X.1.1 X.1.2.1 dX6_comesInto_30 rfl (lv_at hl 0 rfl) k) ?_
  refine J.pu (fun _ _ _ _ k => lv_iload_n X.1.1 X.1.2.1 dX6_comesInto_31 rfl (lv_at hl 2 rfl) k) ?_
  refine J.pu (fun _ _ _ _ k => lv_bipush (v := 6) X.1.1 X.1.2.1 dX6_comesInto_32 (by decide) k) ?_
  refine J.pu (fun _ _ _ _ k => lv_aload_n X.1.1 X.1.2.1 dX6_comesInto_34 rfl (lv_at hl 0 rfl) k) ?_
  refine J.pu (fun _ _ _ _ k => lv_iload_n X.1.1 X.1.2.1 dX6_comesInto_35 rfl (lv_at hl 2 rfl) k) ?_
  refine J.pu (fun _ _ _ _ k => lv_bipush (v := 6) X.1.1 X.1.2.1 dX6_comesInto_36 (by decide) k) ?_
  refine J.bind (fun v38 h38 => ?_)
  refine J.cV (q := (RX6, TX6, 26)) (ci := 5) (As := [.int a2, .int 6]) (rest := [.int 6, .int a2, .ref mo]) (s2 := [.int v38, .int 6, .int a2, .ref mo]) X ⟨rfl, rfl⟩ (ct_X6_ofChute l hm σ n M27 a2 6) (jrd_of h38) (fun _ _ => cwV 2 X.1.2.2.2.2 (lw_V q2908 q2910 qs77 q174 q2911) rfl rfl rfl (by decide +kernel) ⟨(Nat.le_of_ble_eq_true rfl), (Nat.le_of_ble_eq_true rfl)⟩) mH_rc rfl rfl hl.1 rfl rfl (Nat.le_of_ble_eq_true rfl) dX6_comesInto_38 ?_
  refine J.pu (fun _ _ _ _ k => lv_iconst (v := 1) X.1.1 X.1.2.1 dX6_comesInto_41 (by decide) k) ?_
  refine J.pu (fun _ _ _ _ k => lv_iadd X.1.1 X.1.2.1 dX6_comesInto_42 k) ?_
  refine J.bd' (fun v43 M43 h43 => ?_)
  refine J.cV (q := (RX6, TX6, 26)) (ci := 5) (As := [.int a2, .int 6, .int (v38 + 1)]) (rest := []) (s2 := []) X ⟨rfl, rfl⟩ (ct_X6_putsChute l hm σ n M27 a2 6 (v38 + 1)) (mup_of h43) (fun _ _ => cwV 3 X.1.2.2.2.2 (lw_V q2726 q2728 qs58 q174 q2729) rfl rfl rfl (by decide +kernel) ⟨(Nat.le_of_ble_eq_true rfl), (Nat.le_of_ble_eq_true rfl)⟩) mH_rc rfl rfl hl.1 rfl rfl (Nat.le_of_ble_eq_true rfl) dX6_comesInto_43 ?_
  refine J.pu (fun _ _ _ _ k => lv_aload_n X.1.1 X.1.2.1 dX6_comesInto_46 rfl (lv_at hl 0 rfl) k) ?_
  refine J.pu (fun _ _ _ _ k => lv_iload_n X.1.1 X.1.2.1 dX6_comesInto_47 rfl (lv_at hl 2 rfl) k) ?_
  refine J.pu (fun _ _ _ _ k => lv_bipush (v := 7) X.1.1 X.1.2.1 dX6_comesInto_48 (by decide) k) ?_
  refine J.pu (fun _ _ _ _ k => lv_aload_n X.1.1 X.1.2.1 dX6_comesInto_50 rfl (lv_at hl 0 rfl) k) ?_
  refine J.pu (fun _ _ _ _ k => lv_iload_n X.1.1 X.1.2.1 dX6_comesInto_51 rfl (lv_at hl 2 rfl) k) ?_
  refine J.pu (fun _ _ _ _ k => lv_bipush (v := 7) X.1.1 X.1.2.1 dX6_comesInto_52 (by decide) k) ?_
  refine J.bind (fun v54 h54 => ?_)
  refine J.cV (q := (RX6, TX6, 26)) (ci := 5) (As := [.int a2, .int 7]) (rest := [.int 7, .int a2, .ref mo]) (s2 := [.int v54, .int 7, .int a2, .ref mo]) X ⟨rfl, rfl⟩ (ct_X6_ofChute l hm σ n M43 a2 7) (jrd_of h54) (fun _ _ => cwV 2 X.1.2.2.2.2 (lw_V q2908 q2910 qs77 q174 q2911) rfl rfl rfl (by decide +kernel) ⟨(Nat.le_of_ble_eq_true rfl), (Nat.le_of_ble_eq_true rfl)⟩) mH_rc rfl rfl hl.1 rfl rfl (Nat.le_of_ble_eq_true rfl) dX6_comesInto_54 ?_
  refine J.pu (fun _ _ _ _ k => lv_iconst (v := 1) X.1.1 X.1.2.1 dX6_comesInto_57 (by decide) k) ?_
  refine J.pu (fun _ _ _ _ k => lv_iadd X.1.1 X.1.2.1 dX6_comesInto_58 k) ?_
  refine J.bd' (fun v59 M59 h59 => ?_)
  refine J.cV (q := (RX6, TX6, 26)) (ci := 5) (As := [.int a2, .int 7, .int (v54 + 1)]) (rest := []) (s2 := []) X ⟨rfl, rfl⟩ (ct_X6_putsChute l hm σ n M43 a2 7 (v54 + 1)) (mup_of h59) (fun _ _ => cwV 3 X.1.2.2.2.2 (lw_V q2726 q2728 qs58 q174 q2729) rfl rfl rfl (by decide +kernel) ⟨(Nat.le_of_ble_eq_true rfl), (Nat.le_of_ble_eq_true rfl)⟩) mH_rc rfl rfl hl.1 rfl rfl (Nat.le_of_ble_eq_true rfl) dX6_comesInto_59 ?_
  refine J.pu (fun _ _ _ _ k => lv_aload_n X.1.1 X.1.2.1 dX6_comesInto_62 rfl (lv_at hl 0 rfl) k) ?_
  refine J.pu (fun _ _ _ _ k => lv_aload_n X.1.1 X.1.2.1 dX6_comesInto_63 rfl (lv_at hl 0 rfl) k) ?_
  refine J.pu (fun _ _ _ _ k => lv_iload_n X.1.1 X.1.2.1 dX6_comesInto_64 rfl (lv_at hl 1 rfl) k) ?_
  refine J.pu (fun _ _ _ _ k => lv_iconst (v := 0) X.1.1 X.1.2.1 dX6_comesInto_65 (by decide) k) ?_
  refine J.bind (fun v66 h66 => ?_)
  refine J.cV (q := (RX6, TX6, 26)) (ci := 5) (As := [.int a1, .int 0]) (rest := [.ref mo]) (s2 := [.int v66, .ref mo]) X ⟨rfl, rfl⟩ (ct_X6_of l hm σ n M59 a1 0) (jrd_of h66) (fun _ _ => cwV 2 X.1.2.2.2.2 (lw_V q2964 q2966 qs88 q174 q2967) rfl rfl rfl (by decide +kernel) ⟨(Nat.le_of_ble_eq_true rfl), (Nat.le_of_ble_eq_true rfl)⟩) mH_rc rfl rfl hl.1 rfl rfl (Nat.le_of_ble_eq_true rfl) dX6_comesInto_66 ?_
  refine J.pu (fun _ _ _ _ k => lv_iload_n X.1.1 X.1.2.1 dX6_comesInto_69 rfl (lv_at hl 2 rfl) k) ?_
  refine J.br (fun _ _ _ _ ka kb => lv_icmp_ne (tgt := 77) X.1.1 X.1.2.1 dX6_comesInto_70 (by decide) kb ka) (fun c70 => ?_) (fun c70 => ?_)
  · refine J.pu (fun _ _ _ _ k => lv_iconst (v := 2) X.1.1 X.1.2.1 dX6_comesInto_73 (by decide) k) ?_
    refine J.pu (fun _ _ _ _ k => lv_goto (tgt := 78) X.1.1 X.1.2.1 dX6_comesInto_74 (by decide) k) ?_
    refine J.pu (fun _ _ _ _ k => lv_iconst (v := 1) X.1.1 X.1.2.1 dX6_comesInto_78 (by decide) k) ?_
    refine J.bd' (fun v79 M79 h79 => ?_)
    refine J.cV (q := (RX6, TX6, 26)) (ci := 5) (As := [.int 2, .int 1]) (rest := []) (s2 := []) X ⟨rfl, rfl⟩ (ct_X6_counts l hm σ n M59 2 1) (mup_of h79) (fun _ _ => cwV 2 X.1.2.2.2.2 (lw_V q2976 q2978 qs91 q174 q2979) rfl rfl rfl (by decide +kernel) ⟨(Nat.le_of_ble_eq_true rfl), (Nat.le_of_ble_eq_true rfl)⟩) mH_rc rfl rfl hl.1 rfl rfl (Nat.le_of_ble_eq_true rfl) dX6_comesInto_79 ?_
    exact J.vret (vr := fun t : Unit × jM => jrV t.1) (fin := fun r : Unit × jM => mH mo A σ r.2) (t := t) X hr (by rfl) (by rfl) dX6_comesInto_82
  · refine J.pu (fun _ _ _ _ k => lv_iconst (v := 3) X.1.1 X.1.2.1 dX6_comesInto_77 (by decide) k) ?_
    refine J.pu (fun _ _ _ _ k => lv_iconst (v := 1) X.1.1 X.1.2.1 dX6_comesInto_78 (by decide) k) ?_
    refine J.bd' (fun v79 M79 h79 => ?_)
    refine J.cV (q := (RX6, TX6, 26)) (ci := 5) (As := [.int 3, .int 1]) (rest := []) (s2 := []) X ⟨rfl, rfl⟩ (ct_X6_counts l hm σ n M59 3 1) (mup_of h79) (fun _ _ => cwV 2 X.1.2.2.2.2 (lw_V q2976 q2978 qs91 q174 q2979) rfl rfl rfl (by decide +kernel) ⟨(Nat.le_of_ble_eq_true rfl), (Nat.le_of_ble_eq_true rfl)⟩) mH_rc rfl rfl hl.1 rfl rfl (Nat.le_of_ble_eq_true rfl) dX6_comesInto_79 ?_
    exact J.vret (vr := fun t : Unit × jM => jrV t.1) (fin := fun r : Unit × jM => mH mo A σ r.2) (t := t) X hr (by rfl) (by rfl) dX6_comesInto_82
noncomputable def X6_stepsFrom (n : Nat) (M : jM) (a1 : Int32) (a2 : Int32) : Option (Int32) :=
  (mA M 0 0).bind fun v8 => (J12_floorMod n (a2 - a1) v8).bind fun v9 => some v9
set_option maxHeartbeats 4000000 in
set_option maxRecDepth 100000 in
theorem ct_X6_stepsFrom (l : Launch) {G : jG} {mo : Nat} {A : Nat → Nat} (hm : mOK G mo A) (σ : jH) (n : Nat) (M : jM) (a1 : Int32) (a2 : Int32) : jCt l G yX6_stepsFrom (ws_ yX6_stepsFrom cX6_stepsFrom 3 (some .int)) 1 22 jrI [.ref mo, .int a1, .int a2] (mH mo A σ M) (jrd (mH mo A σ M) (X6_stepsFrom n M a1 a2)) := by
  refine jCt.rd (lv := [(0, .ref mo), (1, .int a1), (2, .int a2)]) (plainFor_of_name (by decide)) (Nat.le_of_ble_eq_true rfl) rfl ?_
  intro t p e s m args below meth c ls X hr hnm hl
  have X : jCx p c cX6_stepsFrom 3 s m args RX6 G meth := X
  unfold X6_stepsFrom
  refine J.pu (fun _ _ _ _ k => lv_iload_n X.1.1 X.1.2.1 dX6_stepsFrom_0 rfl (lv_at hl 2 rfl) k) ?_
  refine J.pu (fun _ _ _ _ k => lv_iload_n X.1.1 X.1.2.1 dX6_stepsFrom_1 rfl (lv_at hl 1 rfl) k) ?_
  refine J.pu (fun _ _ _ _ k => lv_isub X.1.1 X.1.2.1 dX6_stepsFrom_2 k) ?_
  refine J.pu (fun _ _ _ _ k => lv_aload_n X.1.1 X.1.2.1 dX6_stepsFrom_3 rfl (lv_at hl 0 rfl) k) ?_
  refine J.mgA (k := 0) X (by decide) q2730 rfl rfl dX6_stepsFrom_4 ?_
  refine J.pu (fun _ _ _ _ k => lv_iconst (v := 0) X.1.1 X.1.2.1 dX6_stepsFrom_7 (by decide) k) ?_
  refine J.mld X hm (by decide) dX6_stepsFrom_8 (fun v8 h8 => ?_)
  refine J.bind (fun v9 h9 => ?_)
  refine J.cS (As := [.int (a2 - a1), .int v8]) (rest := []) (s2 := [.int v9]) X ⟨rfl, rfl⟩ (ct_J12_floorMod l G (mH mo A σ M) n (a2 - a1) v8) (jrd_of h9) (fun _ _ => va_cwS 2 X.1.2.2.2.2 (lw_S q3016 q3017 q152 q3018) rfl rfl rfl (by decide +kernel) ⟨(Nat.le_of_ble_eq_true rfl), (Nat.le_of_ble_eq_true rfl)⟩) rfl hl.1 rfl rfl (Nat.le_of_ble_eq_true rfl) dX6_stepsFrom_9 ?_
  exact J.iret (vr := jrI) (fin := fun _ : Int32 => (mH mo A σ M)) (t := t) X hr (by rfl) (by rfl) dX6_stepsFrom_12
noncomputable def X6_lagOf (n : Nat) (M : jM) (a1 : Int32) : Option (Int32) :=
  (X6_of n M a1 4).bind fun v4 => (X6_of n M a1 6).bind fun v11 => (X6_stepsFrom n M v4 v11).bind fun v14 => some v14
set_option maxHeartbeats 4000000 in
set_option maxRecDepth 100000 in
theorem ct_X6_lagOf (l : Launch) {G : jG} {mo : Nat} {A : Nat → Nat} (hm : mOK G mo A) (σ : jH) (n : Nat) (M : jM) (a1 : Int32) : jCt l G yX6_lagOf (ws_ yX6_lagOf cX6_lagOf 2 (some .int)) 2 44 jrI [.ref mo, .int a1] (mH mo A σ M) (jrd (mH mo A σ M) (X6_lagOf n M a1)) := by
  refine jCt.rd (lv := [(0, .ref mo), (1, .int a1)]) (plainFor_of_name (by decide)) (Nat.le_of_ble_eq_true rfl) rfl ?_
  intro t p e s m args below meth c ls X hr hnm hl
  have X : jCx p c cX6_lagOf 2 s m args RX6 G meth := X
  unfold X6_lagOf
  refine J.pu (fun _ _ _ _ k => lv_aload_n X.1.1 X.1.2.1 dX6_lagOf_0 rfl (lv_at hl 0 rfl) k) ?_
  refine J.pu (fun _ _ _ _ k => lv_aload_n X.1.1 X.1.2.1 dX6_lagOf_1 rfl (lv_at hl 0 rfl) k) ?_
  refine J.pu (fun _ _ _ _ k => lv_iload_n X.1.1 X.1.2.1 dX6_lagOf_2 rfl (lv_at hl 1 rfl) k) ?_
  refine J.pu (fun _ _ _ _ k => lv_iconst (v := 4) X.1.1 X.1.2.1 dX6_lagOf_3 (by decide) k) ?_
  refine J.bind (fun v4 h4 => ?_)
  refine J.cV (q := (RX6, TX6, 26)) (ci := 5) (As := [.int a1, .int 4]) (rest := [.ref mo]) (s2 := [.int v4, .ref mo]) X ⟨rfl, rfl⟩ (ct_X6_of l hm σ n M a1 4) (jrd_of h4) (fun _ _ => cwV 2 X.1.2.2.2.2 (lw_V q2964 q2966 qs88 q174 q2967) rfl rfl rfl (by decide +kernel) ⟨(Nat.le_of_ble_eq_true rfl), (Nat.le_of_ble_eq_true rfl)⟩) mH_rc rfl rfl hl.1 rfl rfl (Nat.le_of_ble_eq_true rfl) dX6_lagOf_4 ?_
  refine J.pu (fun _ _ _ _ k => lv_aload_n X.1.1 X.1.2.1 dX6_lagOf_7 rfl (lv_at hl 0 rfl) k) ?_
  refine J.pu (fun _ _ _ _ k => lv_iload_n X.1.1 X.1.2.1 dX6_lagOf_8 rfl (lv_at hl 1 rfl) k) ?_
  refine J.pu (fun _ _ _ _ k => lv_bipush (v := 6) X.1.1 X.1.2.1 dX6_lagOf_9 (by decide) k) ?_
  refine J.bind (fun v11 h11 => ?_)
  refine J.cV (q := (RX6, TX6, 26)) (ci := 5) (As := [.int a1, .int 6]) (rest := [.int v4, .ref mo]) (s2 := [.int v11, .int v4, .ref mo]) X ⟨rfl, rfl⟩ (ct_X6_of l hm σ n M a1 6) (jrd_of h11) (fun _ _ => cwV 2 X.1.2.2.2.2 (lw_V q2964 q2966 qs88 q174 q2967) rfl rfl rfl (by decide +kernel) ⟨(Nat.le_of_ble_eq_true rfl), (Nat.le_of_ble_eq_true rfl)⟩) mH_rc rfl rfl hl.1 rfl rfl (Nat.le_of_ble_eq_true rfl) dX6_lagOf_11 ?_
  refine J.bind (fun v14 h14 => ?_)
  refine J.cV (q := (RX6, TX6, 26)) (ci := 5) (As := [.int v4, .int v11]) (rest := []) (s2 := [.int v14]) X ⟨rfl, rfl⟩ (ct_X6_stepsFrom l hm σ n M v4 v11) (jrd_of h14) (fun _ _ => cwV 2 X.1.2.2.2.2 (lw_V q3012 q3014 qs99 q174 q3015) rfl rfl rfl (by decide +kernel) ⟨(Nat.le_of_ble_eq_true rfl), (Nat.le_of_ble_eq_true rfl)⟩) mH_rc rfl rfl hl.1 rfl rfl (Nat.le_of_ble_eq_true rfl) dX6_lagOf_14 ?_
  exact J.iret (vr := jrI) (fin := fun _ : Int32 => (mH mo A σ M)) (t := t) X hr (by rfl) (by rfl) dX6_lagOf_17
noncomputable def X6_fires_j76 (n : Nat) (a1 : Int32) (a2 : Int32) (B76 : jM) : Option (Unit × jM) :=
  bd (X6_puts n B76 a2 5 0) fun v80 M80 => some ((), M80)
noncomputable def X6_fires_j59 (n : Nat) (a1 : Int32) (a2 : Int32) (x3_59 : Int32) (s1_59 : Int32) (s2_59 : Int32) (B59 : jM) : Option (Unit × jM) :=
  (X6_one n B59 s2_59).bind fun v59 => bd (X6_counts n B59 s1_59 v59) fun v62 M62 => if x3_59 = (-1) then (X6_fires_j76 n a1 a2 M62) else (bd (X6_comesInto n M62 x3_59 a1) fun v73 M73 => X6_fires_j76 n a1 a2 M73)
noncomputable def X6_fires (n : Nat) (M : jM) (a1 : Int32) (a2 : Int32) : Option (Unit × jM) :=
  (X6_ofChute n M a1 3).bind fun v6 => bd (X6_putsChute n M a1 4 (v6 + 1)) fun v11 M11 => (X6_lagOf n M11 a2).bind fun v16 => (X6_ofChute n M11 a1 2).bind fun v22 => if v22 < v16 then ((X6_ofChute n M11 a1 0).bind fun v39 => (X6_parcelIn n M11 v39).bind fun v42 => if v42 = (-1) then (X6_fires_j59 n a1 a2 v42 6 1 M11) else (X6_fires_j59 n a1 a2 v42 6 0 M11)) else (bd (X6_comesInto n M11 a2 a1) fun v31 M31 => some ((), M31))
set_option maxHeartbeats 4000000 in
set_option maxRecDepth 100000 in
theorem ct_X6_fires (l : Launch) {G : jG} {mo : Nat} {A : Nat → Nat} (hm : mOK G mo A) (σ : jH) (n : Nat) (M : jM) (a1 : Int32) (a2 : Int32) : jCt l G yX6_fires (ws_ yX6_fires cX6_fires 4 none) 3 67 jrV [.ref mo, .int a1, .int a2] (mH mo A σ M) (mup mo A σ (X6_fires n M a1 a2)) := by
  refine jCt.wm (lv := [(0, .ref mo), (1, .int a1), (2, .int a2)]) (plainFor_of_name (by decide)) (Nat.le_of_ble_eq_true rfl) rfl ?_
  intro t p e s m args below meth c ls X hr hnm hl
  have X : jCx p c cX6_fires 4 s m args RX6 G meth := X
  have j76 : ∀ (B76 : jM) (ls : Array Slot), lv_has ls 4 [(0, .ref mo), (2, .int a2)] → jGo l G 3 67 (mH mo A σ M) (fun r : Unit × jM => mH mo A σ r.2) (fun t => jrV t.1) t p e s m args below meth c (X6_fires_j76 n a1 a2 B76) (mH mo A σ B76) (F0 m 76 ls []) := by
    intro B76 ls hl
    unfold X6_fires_j76
    refine J.pu (fun _ _ _ _ k => lv_aload_n X.1.1 X.1.2.1 dX6_fires_76 rfl (lv_at hl 0 rfl) k) ?_
    refine J.pu (fun _ _ _ _ k => lv_iload_n X.1.1 X.1.2.1 dX6_fires_77 rfl (lv_at hl 1 rfl) k) ?_
    refine J.pu (fun _ _ _ _ k => lv_iconst (v := 5) X.1.1 X.1.2.1 dX6_fires_78 (by decide) k) ?_
    refine J.pu (fun _ _ _ _ k => lv_iconst (v := 0) X.1.1 X.1.2.1 dX6_fires_79 (by decide) k) ?_
    refine J.bd' (fun v80 M80 h80 => ?_)
    refine J.cV (q := (RX6, TX6, 26)) (ci := 5) (As := [.int a2, .int 5, .int 0]) (rest := []) (s2 := []) X ⟨rfl, rfl⟩ (ct_X6_puts l hm σ n B76 a2 5 0) (mup_of h80) (fun _ _ => cwV 3 X.1.2.2.2.2 (lw_V q2972 q2974 qs90 q174 q2975) rfl rfl rfl (by decide +kernel) ⟨(Nat.le_of_ble_eq_true rfl), (Nat.le_of_ble_eq_true rfl)⟩) mH_rc rfl rfl hl.1 rfl rfl (Nat.le_of_ble_eq_true rfl) dX6_fires_80 ?_
    exact J.vret (vr := fun t : Unit × jM => jrV t.1) (fin := fun r : Unit × jM => mH mo A σ r.2) (t := t) X hr (by rfl) (by rfl) dX6_fires_83
  have j59 : ∀ (x3_59 : Int32) (s1_59 : Int32) (s2_59 : Int32) (B59 : jM) (ls : Array Slot), lv_has ls 4 [(0, .ref mo), (1, .int a1), (2, .int a2), (3, .int x3_59)] → jGo l G 3 67 (mH mo A σ M) (fun r : Unit × jM => mH mo A σ r.2) (fun t => jrV t.1) t p e s m args below meth c (X6_fires_j59 n a1 a2 x3_59 s1_59 s2_59 B59) (mH mo A σ B59) (F0 m 59 ls [.int s2_59, .int s1_59, .ref mo]) := by
    intro x3_59 s1_59 s2_59 B59 ls hl
    unfold X6_fires_j59
    refine J.bind (fun v59 h59 => ?_)
    refine J.cS (As := [.int s2_59]) (rest := [.int s1_59, .ref mo]) (s2 := [.int v59, .int s1_59, .ref mo]) X ⟨rfl, rfl⟩ (ct_X6_one l hm σ n B59 s2_59) (jrd_of h59) (fun _ _ => va_cwS 1 X.1.2.2.2.2 (lw_S q2988 q2989 q174 q2990) rfl rfl rfl (by decide +kernel) ⟨(Nat.le_of_ble_eq_true rfl), (Nat.le_of_ble_eq_true rfl)⟩) rfl hl.1 rfl rfl (Nat.le_of_ble_eq_true rfl) dX6_fires_59 ?_
    refine J.bd' (fun v62 M62 h62 => ?_)
    refine J.cV (q := (RX6, TX6, 26)) (ci := 5) (As := [.int s1_59, .int v59]) (rest := []) (s2 := []) X ⟨rfl, rfl⟩ (ct_X6_counts l hm σ n B59 s1_59 v59) (mup_of h62) (fun _ _ => cwV 2 X.1.2.2.2.2 (lw_V q2976 q2978 qs91 q174 q2979) rfl rfl rfl (by decide +kernel) ⟨(Nat.le_of_ble_eq_true rfl), (Nat.le_of_ble_eq_true rfl)⟩) mH_rc rfl rfl hl.1 rfl rfl (Nat.le_of_ble_eq_true rfl) dX6_fires_62 ?_
    refine J.pu (fun _ _ _ _ k => lv_iload_n X.1.1 X.1.2.1 dX6_fires_65 rfl (lv_at hl 3 rfl) k) ?_
    refine J.pu (fun _ _ _ _ k => lv_iconst (v := (-1)) X.1.1 X.1.2.1 dX6_fires_66 (by decide) k) ?_
    refine J.br (fun _ _ _ _ ka kb => lv_icmp_eq (tgt := 76) X.1.1 X.1.2.1 dX6_fires_67 (by decide) ka kb) (fun c67 => ?_) (fun c67 => ?_)
    · exact j76 M62 ls (lv_sub hl [0, 2] rfl)
    · refine J.pu (fun _ _ _ _ k => lv_aload_n X.1.1 X.1.2.1 dX6_fires_70 rfl (lv_at hl 0 rfl) k) ?_
      refine J.pu (fun _ _ _ _ k => lv_iload_n X.1.1 X.1.2.1 dX6_fires_71 rfl (lv_at hl 3 rfl) k) ?_
      refine J.pu (fun _ _ _ _ k => lv_iload_n X.1.1 X.1.2.1 dX6_fires_72 rfl (lv_at hl 1 rfl) k) ?_
      refine J.bd' (fun v73 M73 h73 => ?_)
      refine J.cV (q := (RX6, TX6, 26)) (ci := 5) (As := [.int x3_59, .int a1]) (rest := []) (s2 := []) X ⟨rfl, rfl⟩ (ct_X6_comesInto l hm σ n M62 x3_59 a1) (mup_of h73) (fun _ _ => cwV 2 X.1.2.2.2.2 (lw_V q3039 q3041 qs105 q174 q3042) rfl rfl rfl (by decide +kernel) ⟨(Nat.le_of_ble_eq_true rfl), (Nat.le_of_ble_eq_true rfl)⟩) mH_rc rfl rfl hl.1 rfl rfl (Nat.le_of_ble_eq_true rfl) dX6_fires_73 ?_
      exact j76 M73 ls (lv_sub hl [0, 2] rfl)
  unfold X6_fires
  refine J.pu (fun _ _ _ _ k => lv_aload_n X.1.1 X.1.2.1 dX6_fires_0 rfl (lv_at hl 0 rfl) k) ?_
  refine J.pu (fun _ _ _ _ k => lv_iload_n X.1.1 X.1.2.1 dX6_fires_1 rfl (lv_at hl 1 rfl) k) ?_
  refine J.pu (fun _ _ _ _ k => lv_iconst (v := 4) X.1.1 X.1.2.1 dX6_fires_2 (by decide) k) ?_
  refine J.pu (fun _ _ _ _ k => lv_aload_n X.1.1 X.1.2.1 dX6_fires_3 rfl (lv_at hl 0 rfl) k) ?_
  refine J.pu (fun _ _ _ _ k => lv_iload_n X.1.1 X.1.2.1 dX6_fires_4 rfl (lv_at hl 1 rfl) k) ?_
  refine J.pu (fun _ _ _ _ k => lv_iconst (v := 3) X.1.1 X.1.2.1 dX6_fires_5 (by decide) k) ?_
  refine J.bind (fun v6 h6 => ?_)
  refine J.cV (q := (RX6, TX6, 26)) (ci := 5) (As := [.int a1, .int 3]) (rest := [.int 4, .int a1, .ref mo]) (s2 := [.int v6, .int 4, .int a1, .ref mo]) X ⟨rfl, rfl⟩ (ct_X6_ofChute l hm σ n M a1 3) (jrd_of h6) (fun _ _ => cwV 2 X.1.2.2.2.2 (lw_V q2908 q2910 qs77 q174 q2911) rfl rfl rfl (by decide +kernel) ⟨(Nat.le_of_ble_eq_true rfl), (Nat.le_of_ble_eq_true rfl)⟩) mH_rc rfl rfl hl.1 rfl rfl (Nat.le_of_ble_eq_true rfl) dX6_fires_6 ?_
  refine J.pu (fun _ _ _ _ k => lv_iconst (v := 1) X.1.1 X.1.2.1 dX6_fires_9 (by decide) k) ?_
  refine J.pu (fun _ _ _ _ k => lv_iadd X.1.1 X.1.2.1 dX6_fires_10 k) ?_
  refine J.bd' (fun v11 M11 h11 => ?_)
  refine J.cV (q := (RX6, TX6, 26)) (ci := 5) (As := [.int a1, .int 4, .int (v6 + 1)]) (rest := []) (s2 := []) X ⟨rfl, rfl⟩ (ct_X6_putsChute l hm σ n M a1 4 (v6 + 1)) (mup_of h11) (fun _ _ => cwV 3 X.1.2.2.2.2 (lw_V q2726 q2728 qs58 q174 q2729) rfl rfl rfl (by decide +kernel) ⟨(Nat.le_of_ble_eq_true rfl), (Nat.le_of_ble_eq_true rfl)⟩) mH_rc rfl rfl hl.1 rfl rfl (Nat.le_of_ble_eq_true rfl) dX6_fires_11 ?_
  refine J.pu (fun _ _ _ _ k => lv_aload_n X.1.1 X.1.2.1 dX6_fires_14 rfl (lv_at hl 0 rfl) k) ?_
  refine J.pu (fun _ _ _ _ k => lv_iload_n X.1.1 X.1.2.1 dX6_fires_15 rfl (lv_at hl 2 rfl) k) ?_
  refine J.bind (fun v16 h16 => ?_)
  refine J.cV (q := (RX6, TX6, 26)) (ci := 5) (As := [.int a2]) (rest := []) (s2 := [.int v16]) X ⟨rfl, rfl⟩ (ct_X6_lagOf l hm σ n M11 a2) (jrd_of h16) (fun _ _ => cwV 1 X.1.2.2.2.2 (lw_V q3008 q3010 qs98 q174 q3011) rfl rfl rfl (by decide +kernel) ⟨(Nat.le_of_ble_eq_true rfl), (Nat.le_of_ble_eq_true rfl)⟩) mH_rc rfl rfl hl.1 rfl rfl (Nat.le_of_ble_eq_true rfl) dX6_fires_16 ?_
  refine J.pu (fun _ _ _ _ k => lv_aload_n X.1.1 X.1.2.1 dX6_fires_19 rfl (lv_at hl 0 rfl) k) ?_
  refine J.pu (fun _ _ _ _ k => lv_iload_n X.1.1 X.1.2.1 dX6_fires_20 rfl (lv_at hl 1 rfl) k) ?_
  refine J.pu (fun _ _ _ _ k => lv_iconst (v := 2) X.1.1 X.1.2.1 dX6_fires_21 (by decide) k) ?_
  refine J.bind (fun v22 h22 => ?_)
  refine J.cV (q := (RX6, TX6, 26)) (ci := 5) (As := [.int a1, .int 2]) (rest := [.int v16]) (s2 := [.int v22, .int v16]) X ⟨rfl, rfl⟩ (ct_X6_ofChute l hm σ n M11 a1 2) (jrd_of h22) (fun _ _ => cwV 2 X.1.2.2.2.2 (lw_V q2908 q2910 qs77 q174 q2911) rfl rfl rfl (by decide +kernel) ⟨(Nat.le_of_ble_eq_true rfl), (Nat.le_of_ble_eq_true rfl)⟩) mH_rc rfl rfl hl.1 rfl rfl (Nat.le_of_ble_eq_true rfl) dX6_fires_22 ?_
  refine J.br (fun _ _ _ _ ka kb => lv_icmp_gt (tgt := 35) X.1.1 X.1.2.1 dX6_fires_25 (by decide) ka kb) (fun c25 => ?_) (fun c25 => ?_)
  · refine J.pu (fun _ _ _ _ k => lv_aload_n X.1.1 X.1.2.1 dX6_fires_35 rfl (lv_at hl 0 rfl) k) ?_
    refine J.pu (fun _ _ _ _ k => lv_aload_n X.1.1 X.1.2.1 dX6_fires_36 rfl (lv_at hl 0 rfl) k) ?_
    refine J.pu (fun _ _ _ _ k => lv_iload_n X.1.1 X.1.2.1 dX6_fires_37 rfl (lv_at hl 1 rfl) k) ?_
    refine J.pu (fun _ _ _ _ k => lv_iconst (v := 0) X.1.1 X.1.2.1 dX6_fires_38 (by decide) k) ?_
    refine J.bind (fun v39 h39 => ?_)
    refine J.cV (q := (RX6, TX6, 26)) (ci := 5) (As := [.int a1, .int 0]) (rest := [.ref mo]) (s2 := [.int v39, .ref mo]) X ⟨rfl, rfl⟩ (ct_X6_ofChute l hm σ n M11 a1 0) (jrd_of h39) (fun _ _ => cwV 2 X.1.2.2.2.2 (lw_V q2908 q2910 qs77 q174 q2911) rfl rfl rfl (by decide +kernel) ⟨(Nat.le_of_ble_eq_true rfl), (Nat.le_of_ble_eq_true rfl)⟩) mH_rc rfl rfl hl.1 rfl rfl (Nat.le_of_ble_eq_true rfl) dX6_fires_39 ?_
    refine J.bind (fun v42 h42 => ?_)
    refine J.cV (q := (RX6, TX6, 26)) (ci := 5) (As := [.int v39]) (rest := []) (s2 := [.int v42]) X ⟨rfl, rfl⟩ (ct_X6_parcelIn l hm σ n M11 v39) (jrd_of h42) (fun _ _ => cwV 1 X.1.2.2.2.2 (lw_V q2956 q2958 qs86 q174 q2959) rfl rfl rfl (by decide +kernel) ⟨(Nat.le_of_ble_eq_true rfl), (Nat.le_of_ble_eq_true rfl)⟩) mH_rc rfl rfl hl.1 rfl rfl (Nat.le_of_ble_eq_true rfl) dX6_fires_42 ?_
    refine J.istore_n (i := 3) (lv' := [(3, .int v42), (0, .ref mo), (1, .int a1), (2, .int a2)]) X.1.1 X.1.2.1 dX6_fires_45 rfl hl (by decide) (by first | rfl | simp [va_rf_cat, jcI, jcA, jcJ, jcD, jcF]) (fun ls hl => ?_)
    refine J.pu (fun _ _ _ _ k => lv_aload_n X.1.1 X.1.2.1 dX6_fires_46 rfl (lv_at hl 1 rfl) k) ?_
    refine J.pu (fun _ _ _ _ k => lv_bipush (v := 6) X.1.1 X.1.2.1 dX6_fires_47 (by decide) k) ?_
    refine J.pu (fun _ _ _ _ k => lv_iload_n X.1.1 X.1.2.1 dX6_fires_49 rfl (lv_at hl 0 rfl) k) ?_
    refine J.pu (fun _ _ _ _ k => lv_iconst (v := (-1)) X.1.1 X.1.2.1 dX6_fires_50 (by decide) k) ?_
    refine J.br (fun _ _ _ _ ka kb => lv_icmp_ne (tgt := 58) X.1.1 X.1.2.1 dX6_fires_51 (by decide) kb ka) (fun c51 => ?_) (fun c51 => ?_)
    · refine J.pu (fun _ _ _ _ k => lv_iconst (v := 1) X.1.1 X.1.2.1 dX6_fires_54 (by decide) k) ?_
      refine J.pu (fun _ _ _ _ k => lv_goto (tgt := 59) X.1.1 X.1.2.1 dX6_fires_55 (by decide) k) ?_
      exact j59 v42 6 1 M11 ls (lv_sub hl [1, 2, 3, 0] rfl)
    · refine J.pu (fun _ _ _ _ k => lv_iconst (v := 0) X.1.1 X.1.2.1 dX6_fires_58 (by decide) k) ?_
      exact j59 v42 6 0 M11 ls (lv_sub hl [1, 2, 3, 0] rfl)
  · refine J.pu (fun _ _ _ _ k => lv_aload_n X.1.1 X.1.2.1 dX6_fires_28 rfl (lv_at hl 0 rfl) k) ?_
    refine J.pu (fun _ _ _ _ k => lv_iload_n X.1.1 X.1.2.1 dX6_fires_29 rfl (lv_at hl 2 rfl) k) ?_
    refine J.pu (fun _ _ _ _ k => lv_iload_n X.1.1 X.1.2.1 dX6_fires_30 rfl (lv_at hl 1 rfl) k) ?_
    refine J.bd' (fun v31 M31 h31 => ?_)
    refine J.cV (q := (RX6, TX6, 26)) (ci := 5) (As := [.int a2, .int a1]) (rest := []) (s2 := []) X ⟨rfl, rfl⟩ (ct_X6_comesInto l hm σ n M11 a2 a1) (mup_of h31) (fun _ _ => cwV 2 X.1.2.2.2.2 (lw_V q3039 q3041 qs105 q174 q3042) rfl rfl rfl (by decide +kernel) ⟨(Nat.le_of_ble_eq_true rfl), (Nat.le_of_ble_eq_true rfl)⟩) mH_rc rfl rfl hl.1 rfl rfl (Nat.le_of_ble_eq_true rfl) dX6_fires_31 ?_
    exact J.vret (vr := fun t : Unit × jM => jrV t.1) (fin := fun r : Unit × jM => mH mo A σ r.2) (t := t) X hr (by rfl) (by rfl) dX6_fires_34
noncomputable def X6_isClosed (n : Nat) (M : jM) (a1 : Int32) : Option (Int32) :=
  (X6_ofChute n M a1 5).bind fun v3 => if v3 = 0 then (some 1) else ((X6_ofChute n M a1 6).bind fun v13 => (X6_ofChute n M a1 1).bind fun v19 => if v13 = v19 then (some 1) else (some 0))
set_option maxHeartbeats 4000000 in
set_option maxRecDepth 100000 in
theorem ct_X6_isClosed (l : Launch) {G : jG} {mo : Nat} {A : Nat → Nat} (hm : mOK G mo A) (σ : jH) (n : Nat) (M : jM) (a1 : Int32) : jCt l G yX6_isClosed (ws_ yX6_isClosed cX6_isClosed 2 (some .boolean)) 1 22 jrI [.ref mo, .int a1] (mH mo A σ M) (jrd (mH mo A σ M) (X6_isClosed n M a1)) := by
  refine jCt.rd (lv := [(0, .ref mo), (1, .int a1)]) (plainFor_of_name (by decide)) (Nat.le_of_ble_eq_true rfl) rfl ?_
  intro t p e s m args below meth c ls X hr hnm hl
  have X : jCx p c cX6_isClosed 2 s m args RX6 G meth := X
  unfold X6_isClosed
  refine J.pu (fun _ _ _ _ k => lv_aload_n X.1.1 X.1.2.1 dX6_isClosed_0 rfl (lv_at hl 0 rfl) k) ?_
  refine J.pu (fun _ _ _ _ k => lv_iload_n X.1.1 X.1.2.1 dX6_isClosed_1 rfl (lv_at hl 1 rfl) k) ?_
  refine J.pu (fun _ _ _ _ k => lv_iconst (v := 5) X.1.1 X.1.2.1 dX6_isClosed_2 (by decide) k) ?_
  refine J.bind (fun v3 h3 => ?_)
  refine J.cV (q := (RX6, TX6, 26)) (ci := 5) (As := [.int a1, .int 5]) (rest := []) (s2 := [.int v3]) X ⟨rfl, rfl⟩ (ct_X6_ofChute l hm σ n M a1 5) (jrd_of h3) (fun _ _ => cwV 2 X.1.2.2.2.2 (lw_V q2908 q2910 qs77 q174 q2911) rfl rfl rfl (by decide +kernel) ⟨(Nat.le_of_ble_eq_true rfl), (Nat.le_of_ble_eq_true rfl)⟩) mH_rc rfl rfl hl.1 rfl rfl (Nat.le_of_ble_eq_true rfl) dX6_isClosed_3 ?_
  refine J.br (fun _ _ _ _ ka kb => lv_if_eq (tgt := 25) X.1.1 X.1.2.1 dX6_isClosed_6 (by decide) ka kb) (fun c6 => ?_) (fun c6 => ?_)
  · refine J.pu (fun _ _ _ _ k => lv_iconst (v := 1) X.1.1 X.1.2.1 dX6_isClosed_25 (by decide) k) ?_
    refine J.pu (fun _ _ _ _ k => lv_goto (tgt := 30) X.1.1 X.1.2.1 dX6_isClosed_26 (by decide) k) ?_
    exact J.zret (vr := jrI) (fin := fun _ : Int32 => (mH mo A σ M)) (t := t) X hr (by decide) (by rfl) (by rfl) dX6_isClosed_30
  · refine J.pu (fun _ _ _ _ k => lv_aload_n X.1.1 X.1.2.1 dX6_isClosed_9 rfl (lv_at hl 0 rfl) k) ?_
    refine J.pu (fun _ _ _ _ k => lv_iload_n X.1.1 X.1.2.1 dX6_isClosed_10 rfl (lv_at hl 1 rfl) k) ?_
    refine J.pu (fun _ _ _ _ k => lv_bipush (v := 6) X.1.1 X.1.2.1 dX6_isClosed_11 (by decide) k) ?_
    refine J.bind (fun v13 h13 => ?_)
    refine J.cV (q := (RX6, TX6, 26)) (ci := 5) (As := [.int a1, .int 6]) (rest := []) (s2 := [.int v13]) X ⟨rfl, rfl⟩ (ct_X6_ofChute l hm σ n M a1 6) (jrd_of h13) (fun _ _ => cwV 2 X.1.2.2.2.2 (lw_V q2908 q2910 qs77 q174 q2911) rfl rfl rfl (by decide +kernel) ⟨(Nat.le_of_ble_eq_true rfl), (Nat.le_of_ble_eq_true rfl)⟩) mH_rc rfl rfl hl.1 rfl rfl (Nat.le_of_ble_eq_true rfl) dX6_isClosed_13 ?_
    refine J.pu (fun _ _ _ _ k => lv_aload_n X.1.1 X.1.2.1 dX6_isClosed_16 rfl (lv_at hl 0 rfl) k) ?_
    refine J.pu (fun _ _ _ _ k => lv_iload_n X.1.1 X.1.2.1 dX6_isClosed_17 rfl (lv_at hl 1 rfl) k) ?_
    refine J.pu (fun _ _ _ _ k => lv_iconst (v := 1) X.1.1 X.1.2.1 dX6_isClosed_18 (by decide) k) ?_
    refine J.bind (fun v19 h19 => ?_)
    refine J.cV (q := (RX6, TX6, 26)) (ci := 5) (As := [.int a1, .int 1]) (rest := [.int v13]) (s2 := [.int v19, .int v13]) X ⟨rfl, rfl⟩ (ct_X6_ofChute l hm σ n M a1 1) (jrd_of h19) (fun _ _ => cwV 2 X.1.2.2.2.2 (lw_V q2908 q2910 qs77 q174 q2911) rfl rfl rfl (by decide +kernel) ⟨(Nat.le_of_ble_eq_true rfl), (Nat.le_of_ble_eq_true rfl)⟩) mH_rc rfl rfl hl.1 rfl rfl (Nat.le_of_ble_eq_true rfl) dX6_isClosed_19 ?_
    refine J.br (fun _ _ _ _ ka kb => lv_icmp_ne (tgt := 29) X.1.1 X.1.2.1 dX6_isClosed_22 (by decide) kb ka) (fun c22 => ?_) (fun c22 => ?_)
    · refine J.pu (fun _ _ _ _ k => lv_iconst (v := 1) X.1.1 X.1.2.1 dX6_isClosed_25 (by decide) k) ?_
      refine J.pu (fun _ _ _ _ k => lv_goto (tgt := 30) X.1.1 X.1.2.1 dX6_isClosed_26 (by decide) k) ?_
      exact J.zret (vr := jrI) (fin := fun _ : Int32 => (mH mo A σ M)) (t := t) X hr (by decide) (by rfl) (by rfl) dX6_isClosed_30
    · refine J.pu (fun _ _ _ _ k => lv_iconst (v := 0) X.1.1 X.1.2.1 dX6_isClosed_29 (by decide) k) ?_
      exact J.zret (vr := jrI) (fin := fun _ : Int32 => (mH mo A σ M)) (t := t) X hr (by decide) (by rfl) (by rfl) dX6_isClosed_30
noncomputable def X6_looks (n : Nat) (M : jM) (a1 : Int32) (a2 : Int32) : Option (Unit × jM) :=
  (X6_isClosed n M a1).bind fun v2 => if v2 = 0 then ((X6_ofChute n M a1 4).bind fun v18 => if v18 ≤ 0 then (bd (X6_fires n M a1 a2) fun v34 M34 => some ((), M34)) else (bd (X6_counts n M 5 1) fun v27 M27 => some ((), M27))) else (bd (X6_counts n M 4 1) fun v11 M11 => some ((), M11))
set_option maxHeartbeats 4000000 in
set_option maxRecDepth 100000 in
theorem ct_X6_looks (l : Launch) {G : jG} {mo : Nat} {A : Nat → Nat} (hm : mOK G mo A) (σ : jH) (n : Nat) (M : jM) (a1 : Int32) (a2 : Int32) : jCt l G yX6_looks (ws_ yX6_looks cX6_looks 3 none) 4 90 jrV [.ref mo, .int a1, .int a2] (mH mo A σ M) (mup mo A σ (X6_looks n M a1 a2)) := by
  refine jCt.wm (lv := [(0, .ref mo), (1, .int a1), (2, .int a2)]) (plainFor_of_name (by decide)) (Nat.le_of_ble_eq_true rfl) rfl ?_
  intro t p e s m args below meth c ls X hr hnm hl
  have X : jCx p c cX6_looks 3 s m args RX6 G meth := X
  unfold X6_looks
  refine J.pu (fun _ _ _ _ k => lv_aload_n X.1.1 X.1.2.1 dX6_looks_0 rfl (lv_at hl 0 rfl) k) ?_
  refine J.pu (fun _ _ _ _ k => lv_iload_n X.1.1 X.1.2.1 dX6_looks_1 rfl (lv_at hl 1 rfl) k) ?_
  refine J.bind (fun v2 h2 => ?_)
  refine J.cV (q := (RX6, TX6, 26)) (ci := 5) (As := [.int a1]) (rest := []) (s2 := [.int v2]) X ⟨rfl, rfl⟩ (ct_X6_isClosed l hm σ n M a1) (jrd_of h2) (fun _ _ => cwV 1 X.1.2.2.2.2 (lw_V q3031 q3033 qs103 q174 q3034) rfl rfl rfl (by decide +kernel) ⟨(Nat.le_of_ble_eq_true rfl), (Nat.le_of_ble_eq_true rfl)⟩) mH_rc rfl rfl hl.1 rfl rfl (Nat.le_of_ble_eq_true rfl) dX6_looks_2 ?_
  refine J.br (fun _ _ _ _ ka kb => lv_if_eq (tgt := 15) X.1.1 X.1.2.1 dX6_looks_5 (by decide) ka kb) (fun c5 => ?_) (fun c5 => ?_)
  · refine J.pu (fun _ _ _ _ k => lv_aload_n X.1.1 X.1.2.1 dX6_looks_15 rfl (lv_at hl 0 rfl) k) ?_
    refine J.pu (fun _ _ _ _ k => lv_iload_n X.1.1 X.1.2.1 dX6_looks_16 rfl (lv_at hl 1 rfl) k) ?_
    refine J.pu (fun _ _ _ _ k => lv_iconst (v := 4) X.1.1 X.1.2.1 dX6_looks_17 (by decide) k) ?_
    refine J.bind (fun v18 h18 => ?_)
    refine J.cV (q := (RX6, TX6, 26)) (ci := 5) (As := [.int a1, .int 4]) (rest := []) (s2 := [.int v18]) X ⟨rfl, rfl⟩ (ct_X6_ofChute l hm σ n M a1 4) (jrd_of h18) (fun _ _ => cwV 2 X.1.2.2.2.2 (lw_V q2908 q2910 qs77 q174 q2911) rfl rfl rfl (by decide +kernel) ⟨(Nat.le_of_ble_eq_true rfl), (Nat.le_of_ble_eq_true rfl)⟩) mH_rc rfl rfl hl.1 rfl rfl (Nat.le_of_ble_eq_true rfl) dX6_looks_18 ?_
    refine J.br (fun _ _ _ _ ka kb => lv_if_le (tgt := 31) X.1.1 X.1.2.1 dX6_looks_21 (by decide) ka kb) (fun c21 => ?_) (fun c21 => ?_)
    · refine J.pu (fun _ _ _ _ k => lv_aload_n X.1.1 X.1.2.1 dX6_looks_31 rfl (lv_at hl 0 rfl) k) ?_
      refine J.pu (fun _ _ _ _ k => lv_iload_n X.1.1 X.1.2.1 dX6_looks_32 rfl (lv_at hl 1 rfl) k) ?_
      refine J.pu (fun _ _ _ _ k => lv_iload_n X.1.1 X.1.2.1 dX6_looks_33 rfl (lv_at hl 2 rfl) k) ?_
      refine J.bd' (fun v34 M34 h34 => ?_)
      refine J.cV (q := (RX6, TX6, 26)) (ci := 5) (As := [.int a1, .int a2]) (rest := []) (s2 := []) X ⟨rfl, rfl⟩ (ct_X6_fires l hm σ n M a1 a2) (mup_of h34) (fun _ _ => cwV 2 X.1.2.2.2.2 (lw_V q3035 q3037 qs104 q174 q3038) rfl rfl rfl (by decide +kernel) ⟨(Nat.le_of_ble_eq_true rfl), (Nat.le_of_ble_eq_true rfl)⟩) mH_rc rfl rfl hl.1 rfl rfl (Nat.le_of_ble_eq_true rfl) dX6_looks_34 ?_
      exact J.vret (vr := fun t : Unit × jM => jrV t.1) (fin := fun r : Unit × jM => mH mo A σ r.2) (t := t) X hr (by rfl) (by rfl) dX6_looks_37
    · refine J.pu (fun _ _ _ _ k => lv_aload_n X.1.1 X.1.2.1 dX6_looks_24 rfl (lv_at hl 0 rfl) k) ?_
      refine J.pu (fun _ _ _ _ k => lv_iconst (v := 5) X.1.1 X.1.2.1 dX6_looks_25 (by decide) k) ?_
      refine J.pu (fun _ _ _ _ k => lv_iconst (v := 1) X.1.1 X.1.2.1 dX6_looks_26 (by decide) k) ?_
      refine J.bd' (fun v27 M27 h27 => ?_)
      refine J.cV (q := (RX6, TX6, 26)) (ci := 5) (As := [.int 5, .int 1]) (rest := []) (s2 := []) X ⟨rfl, rfl⟩ (ct_X6_counts l hm σ n M 5 1) (mup_of h27) (fun _ _ => cwV 2 X.1.2.2.2.2 (lw_V q2976 q2978 qs91 q174 q2979) rfl rfl rfl (by decide +kernel) ⟨(Nat.le_of_ble_eq_true rfl), (Nat.le_of_ble_eq_true rfl)⟩) mH_rc rfl rfl hl.1 rfl rfl (Nat.le_of_ble_eq_true rfl) dX6_looks_27 ?_
      exact J.vret (vr := fun t : Unit × jM => jrV t.1) (fin := fun r : Unit × jM => mH mo A σ r.2) (t := t) X hr (by rfl) (by rfl) dX6_looks_30
  · refine J.pu (fun _ _ _ _ k => lv_aload_n X.1.1 X.1.2.1 dX6_looks_8 rfl (lv_at hl 0 rfl) k) ?_
    refine J.pu (fun _ _ _ _ k => lv_iconst (v := 4) X.1.1 X.1.2.1 dX6_looks_9 (by decide) k) ?_
    refine J.pu (fun _ _ _ _ k => lv_iconst (v := 1) X.1.1 X.1.2.1 dX6_looks_10 (by decide) k) ?_
    refine J.bd' (fun v11 M11 h11 => ?_)
    refine J.cV (q := (RX6, TX6, 26)) (ci := 5) (As := [.int 4, .int 1]) (rest := []) (s2 := []) X ⟨rfl, rfl⟩ (ct_X6_counts l hm σ n M 4 1) (mup_of h11) (fun _ _ => cwV 2 X.1.2.2.2.2 (lw_V q2976 q2978 qs91 q174 q2979) rfl rfl rfl (by decide +kernel) ⟨(Nat.le_of_ble_eq_true rfl), (Nat.le_of_ble_eq_true rfl)⟩) mH_rc rfl rfl hl.1 rfl rfl (Nat.le_of_ble_eq_true rfl) dX6_looks_11 ?_
    exact J.vret (vr := fun t : Unit × jM => jrV t.1) (fin := fun r : Unit × jM => mH mo A σ r.2) (t := t) X hr (by rfl) (by rfl) dX6_looks_14
noncomputable def X6_reads_j56 (n : Nat) (a1 : Int32) (s1_56 : Int32) (s2_56 : Int32) (B56 : jM) : Option (Unit × jM) :=
  (X6_one n B56 s2_56).bind fun v56 => bd (X6_counts n B56 s1_56 v56) fun v59 M59 => bd (X6_puts n M59 a1 5 1) fun v66 M66 => (X6_of n M66 a1 4).bind fun v76 => bd (X6_puts n M66 a1 6 v76) fun v79 M79 => some ((), M79)
noncomputable def X6_reads_j51 (n : Nat) (a1 : Int32) (s1_51 : Int32) (B51 : jM) : Option (Unit × jM) :=
  X6_reads_j56 n a1 s1_51 1 B51
noncomputable def X6_reads (n : Nat) (M : jM) (a1 : Int32) : Option (Unit × jM) :=
  (X6_of n M a1 1).bind fun v3 => if v3 ≤ 0 then ((X6_of n M a1 5).bind fun v37 => if v37 = 0 then (X6_reads_j51 n a1 8 M) else ((X6_lagOf n M a1).bind fun v45 => if v45 ≤ 0 then (X6_reads_j56 n a1 8 0 M) else (X6_reads_j51 n a1 8 M))) else ((X6_of n M a1 1).bind fun v15 => bd (X6_puts n M a1 1 (v15 - 1)) fun v20 M20 => bd (X6_counts n M20 9 1) fun v27 M27 => some ((), M27))
set_option maxHeartbeats 4000000 in
set_option maxRecDepth 100000 in
theorem ct_X6_reads (l : Launch) {G : jG} {mo : Nat} {A : Nat → Nat} (hm : mOK G mo A) (σ : jH) (n : Nat) (M : jM) (a1 : Int32) : jCt l G yX6_reads (ws_ yX6_reads cX6_reads 2 none) 3 65 jrV [.ref mo, .int a1] (mH mo A σ M) (mup mo A σ (X6_reads n M a1)) := by
  refine jCt.wm (lv := [(0, .ref mo), (1, .int a1)]) (plainFor_of_name (by decide)) (Nat.le_of_ble_eq_true rfl) rfl ?_
  intro t p e s m args below meth c ls X hr hnm hl
  have X : jCx p c cX6_reads 2 s m args RX6 G meth := X
  have j56 : ∀ (s1_56 : Int32) (s2_56 : Int32) (B56 : jM) (ls : Array Slot), lv_has ls 2 [(0, .ref mo), (1, .int a1)] → jGo l G 3 65 (mH mo A σ M) (fun r : Unit × jM => mH mo A σ r.2) (fun t => jrV t.1) t p e s m args below meth c (X6_reads_j56 n a1 s1_56 s2_56 B56) (mH mo A σ B56) (F0 m 56 ls [.int s2_56, .int s1_56, .ref mo]) := by
    intro s1_56 s2_56 B56 ls hl
    unfold X6_reads_j56
    refine J.bind (fun v56 h56 => ?_)
    refine J.cS (As := [.int s2_56]) (rest := [.int s1_56, .ref mo]) (s2 := [.int v56, .int s1_56, .ref mo]) X ⟨rfl, rfl⟩ (ct_X6_one l hm σ n B56 s2_56) (jrd_of h56) (fun _ _ => va_cwS 1 X.1.2.2.2.2 (lw_S q2988 q2989 q174 q2990) rfl rfl rfl (by decide +kernel) ⟨(Nat.le_of_ble_eq_true rfl), (Nat.le_of_ble_eq_true rfl)⟩) rfl hl.1 rfl rfl (Nat.le_of_ble_eq_true rfl) dX6_reads_56 ?_
    refine J.bd' (fun v59 M59 h59 => ?_)
    refine J.cV (q := (RX6, TX6, 26)) (ci := 5) (As := [.int s1_56, .int v56]) (rest := []) (s2 := []) X ⟨rfl, rfl⟩ (ct_X6_counts l hm σ n B56 s1_56 v56) (mup_of h59) (fun _ _ => cwV 2 X.1.2.2.2.2 (lw_V q2976 q2978 qs91 q174 q2979) rfl rfl rfl (by decide +kernel) ⟨(Nat.le_of_ble_eq_true rfl), (Nat.le_of_ble_eq_true rfl)⟩) mH_rc rfl rfl hl.1 rfl rfl (Nat.le_of_ble_eq_true rfl) dX6_reads_59 ?_
    refine J.pu (fun _ _ _ _ k => lv_aload_n X.1.1 X.1.2.1 dX6_reads_62 rfl (lv_at hl 0 rfl) k) ?_
    refine J.pu (fun _ _ _ _ k => lv_iload_n X.1.1 X.1.2.1 dX6_reads_63 rfl (lv_at hl 1 rfl) k) ?_
    refine J.pu (fun _ _ _ _ k => lv_iconst (v := 5) X.1.1 X.1.2.1 dX6_reads_64 (by decide) k) ?_
    refine J.pu (fun _ _ _ _ k => lv_iconst (v := 1) X.1.1 X.1.2.1 dX6_reads_65 (by decide) k) ?_
    refine J.bd' (fun v66 M66 h66 => ?_)
    refine J.cV (q := (RX6, TX6, 26)) (ci := 5) (As := [.int a1, .int 5, .int 1]) (rest := []) (s2 := []) X ⟨rfl, rfl⟩ (ct_X6_puts l hm σ n M59 a1 5 1) (mup_of h66) (fun _ _ => cwV 3 X.1.2.2.2.2 (lw_V q2972 q2974 qs90 q174 q2975) rfl rfl rfl (by decide +kernel) ⟨(Nat.le_of_ble_eq_true rfl), (Nat.le_of_ble_eq_true rfl)⟩) mH_rc rfl rfl hl.1 rfl rfl (Nat.le_of_ble_eq_true rfl) dX6_reads_66 ?_
    refine J.pu (fun _ _ _ _ k => lv_aload_n X.1.1 X.1.2.1 dX6_reads_69 rfl (lv_at hl 0 rfl) k) ?_
    refine J.pu (fun _ _ _ _ k => lv_iload_n X.1.1 X.1.2.1 dX6_reads_70 rfl (lv_at hl 1 rfl) k) ?_
    refine J.pu (fun _ _ _ _ k => lv_bipush (v := 6) X.1.1 X.1.2.1 dX6_reads_71 (by decide) k) ?_
    refine J.pu (fun _ _ _ _ k => lv_aload_n X.1.1 X.1.2.1 dX6_reads_73 rfl (lv_at hl 0 rfl) k) ?_
    refine J.pu (fun _ _ _ _ k => lv_iload_n X.1.1 X.1.2.1 dX6_reads_74 rfl (lv_at hl 1 rfl) k) ?_
    refine J.pu (fun _ _ _ _ k => lv_iconst (v := 4) X.1.1 X.1.2.1 dX6_reads_75 (by decide) k) ?_
    refine J.bind (fun v76 h76 => ?_)
    refine J.cV (q := (RX6, TX6, 26)) (ci := 5) (As := [.int a1, .int 4]) (rest := [.int 6, .int a1, .ref mo]) (s2 := [.int v76, .int 6, .int a1, .ref mo]) X ⟨rfl, rfl⟩ (ct_X6_of l hm σ n M66 a1 4) (jrd_of h76) (fun _ _ => cwV 2 X.1.2.2.2.2 (lw_V q2964 q2966 qs88 q174 q2967) rfl rfl rfl (by decide +kernel) ⟨(Nat.le_of_ble_eq_true rfl), (Nat.le_of_ble_eq_true rfl)⟩) mH_rc rfl rfl hl.1 rfl rfl (Nat.le_of_ble_eq_true rfl) dX6_reads_76 ?_
    refine J.bd' (fun v79 M79 h79 => ?_)
    refine J.cV (q := (RX6, TX6, 26)) (ci := 5) (As := [.int a1, .int 6, .int v76]) (rest := []) (s2 := []) X ⟨rfl, rfl⟩ (ct_X6_puts l hm σ n M66 a1 6 v76) (mup_of h79) (fun _ _ => cwV 3 X.1.2.2.2.2 (lw_V q2972 q2974 qs90 q174 q2975) rfl rfl rfl (by decide +kernel) ⟨(Nat.le_of_ble_eq_true rfl), (Nat.le_of_ble_eq_true rfl)⟩) mH_rc rfl rfl hl.1 rfl rfl (Nat.le_of_ble_eq_true rfl) dX6_reads_79 ?_
    exact J.vret (vr := fun t : Unit × jM => jrV t.1) (fin := fun r : Unit × jM => mH mo A σ r.2) (t := t) X hr (by rfl) (by rfl) dX6_reads_82
  have j51 : ∀ (s1_51 : Int32) (B51 : jM) (ls : Array Slot), lv_has ls 2 [(0, .ref mo), (1, .int a1)] → jGo l G 3 65 (mH mo A σ M) (fun r : Unit × jM => mH mo A σ r.2) (fun t => jrV t.1) t p e s m args below meth c (X6_reads_j51 n a1 s1_51 B51) (mH mo A σ B51) (F0 m 51 ls [.int s1_51, .ref mo]) := by
    intro s1_51 B51 ls hl
    unfold X6_reads_j51
    refine J.pu (fun _ _ _ _ k => lv_iconst (v := 1) X.1.1 X.1.2.1 dX6_reads_51 (by decide) k) ?_
    refine J.pu (fun _ _ _ _ k => lv_goto (tgt := 56) X.1.1 X.1.2.1 dX6_reads_52 (by decide) k) ?_
    exact j56 s1_51 1 B51 ls (lv_sub hl [0, 1] rfl)
  unfold X6_reads
  refine J.pu (fun _ _ _ _ k => lv_aload_n X.1.1 X.1.2.1 dX6_reads_0 rfl (lv_at hl 0 rfl) k) ?_
  refine J.pu (fun _ _ _ _ k => lv_iload_n X.1.1 X.1.2.1 dX6_reads_1 rfl (lv_at hl 1 rfl) k) ?_
  refine J.pu (fun _ _ _ _ k => lv_iconst (v := 1) X.1.1 X.1.2.1 dX6_reads_2 (by decide) k) ?_
  refine J.bind (fun v3 h3 => ?_)
  refine J.cV (q := (RX6, TX6, 26)) (ci := 5) (As := [.int a1, .int 1]) (rest := []) (s2 := [.int v3]) X ⟨rfl, rfl⟩ (ct_X6_of l hm σ n M a1 1) (jrd_of h3) (fun _ _ => cwV 2 X.1.2.2.2.2 (lw_V q2964 q2966 qs88 q174 q2967) rfl rfl rfl (by decide +kernel) ⟨(Nat.le_of_ble_eq_true rfl), (Nat.le_of_ble_eq_true rfl)⟩) mH_rc rfl rfl hl.1 rfl rfl (Nat.le_of_ble_eq_true rfl) dX6_reads_3 ?_
  refine J.br (fun _ _ _ _ ka kb => lv_if_le (tgt := 31) X.1.1 X.1.2.1 dX6_reads_6 (by decide) ka kb) (fun c6 => ?_) (fun c6 => ?_)
  · refine J.pu (fun _ _ _ _ k => lv_aload_n X.1.1 X.1.2.1 dX6_reads_31 rfl (lv_at hl 0 rfl) k) ?_
    refine J.pu (fun _ _ _ _ k => lv_bipush (v := 8) X.1.1 X.1.2.1 dX6_reads_32 (by decide) k) ?_
    refine J.pu (fun _ _ _ _ k => lv_aload_n X.1.1 X.1.2.1 dX6_reads_34 rfl (lv_at hl 0 rfl) k) ?_
    refine J.pu (fun _ _ _ _ k => lv_iload_n X.1.1 X.1.2.1 dX6_reads_35 rfl (lv_at hl 1 rfl) k) ?_
    refine J.pu (fun _ _ _ _ k => lv_iconst (v := 5) X.1.1 X.1.2.1 dX6_reads_36 (by decide) k) ?_
    refine J.bind (fun v37 h37 => ?_)
    refine J.cV (q := (RX6, TX6, 26)) (ci := 5) (As := [.int a1, .int 5]) (rest := [.int 8, .ref mo]) (s2 := [.int v37, .int 8, .ref mo]) X ⟨rfl, rfl⟩ (ct_X6_of l hm σ n M a1 5) (jrd_of h37) (fun _ _ => cwV 2 X.1.2.2.2.2 (lw_V q2964 q2966 qs88 q174 q2967) rfl rfl rfl (by decide +kernel) ⟨(Nat.le_of_ble_eq_true rfl), (Nat.le_of_ble_eq_true rfl)⟩) mH_rc rfl rfl hl.1 rfl rfl (Nat.le_of_ble_eq_true rfl) dX6_reads_37 ?_
    refine J.br (fun _ _ _ _ ka kb => lv_if_eq (tgt := 51) X.1.1 X.1.2.1 dX6_reads_40 (by decide) ka kb) (fun c40 => ?_) (fun c40 => ?_)
    · exact j51 8 M ls (lv_sub hl [0, 1] rfl)
    · refine J.pu (fun _ _ _ _ k => lv_aload_n X.1.1 X.1.2.1 dX6_reads_43 rfl (lv_at hl 0 rfl) k) ?_
      refine J.pu (fun _ _ _ _ k => lv_iload_n X.1.1 X.1.2.1 dX6_reads_44 rfl (lv_at hl 1 rfl) k) ?_
      refine J.bind (fun v45 h45 => ?_)
      refine J.cV (q := (RX6, TX6, 26)) (ci := 5) (As := [.int a1]) (rest := [.int 8, .ref mo]) (s2 := [.int v45, .int 8, .ref mo]) X ⟨rfl, rfl⟩ (ct_X6_lagOf l hm σ n M a1) (jrd_of h45) (fun _ _ => cwV 1 X.1.2.2.2.2 (lw_V q3008 q3010 qs98 q174 q3011) rfl rfl rfl (by decide +kernel) ⟨(Nat.le_of_ble_eq_true rfl), (Nat.le_of_ble_eq_true rfl)⟩) mH_rc rfl rfl hl.1 rfl rfl (Nat.le_of_ble_eq_true rfl) dX6_reads_45 ?_
      refine J.br (fun _ _ _ _ ka kb => lv_if_le (tgt := 55) X.1.1 X.1.2.1 dX6_reads_48 (by decide) ka kb) (fun c48 => ?_) (fun c48 => ?_)
      · refine J.pu (fun _ _ _ _ k => lv_iconst (v := 0) X.1.1 X.1.2.1 dX6_reads_55 (by decide) k) ?_
        exact j56 8 0 M ls (lv_sub hl [0, 1] rfl)
      · exact j51 8 M ls (lv_sub hl [0, 1] rfl)
  · refine J.pu (fun _ _ _ _ k => lv_aload_n X.1.1 X.1.2.1 dX6_reads_9 rfl (lv_at hl 0 rfl) k) ?_
    refine J.pu (fun _ _ _ _ k => lv_iload_n X.1.1 X.1.2.1 dX6_reads_10 rfl (lv_at hl 1 rfl) k) ?_
    refine J.pu (fun _ _ _ _ k => lv_iconst (v := 1) X.1.1 X.1.2.1 dX6_reads_11 (by decide) k) ?_
    refine J.pu (fun _ _ _ _ k => lv_aload_n X.1.1 X.1.2.1 dX6_reads_12 rfl (lv_at hl 0 rfl) k) ?_
    refine J.pu (fun _ _ _ _ k => lv_iload_n X.1.1 X.1.2.1 dX6_reads_13 rfl (lv_at hl 1 rfl) k) ?_
    refine J.pu (fun _ _ _ _ k => lv_iconst (v := 1) X.1.1 X.1.2.1 dX6_reads_14 (by decide) k) ?_
    refine J.bind (fun v15 h15 => ?_)
    refine J.cV (q := (RX6, TX6, 26)) (ci := 5) (As := [.int a1, .int 1]) (rest := [.int 1, .int a1, .ref mo]) (s2 := [.int v15, .int 1, .int a1, .ref mo]) X ⟨rfl, rfl⟩ (ct_X6_of l hm σ n M a1 1) (jrd_of h15) (fun _ _ => cwV 2 X.1.2.2.2.2 (lw_V q2964 q2966 qs88 q174 q2967) rfl rfl rfl (by decide +kernel) ⟨(Nat.le_of_ble_eq_true rfl), (Nat.le_of_ble_eq_true rfl)⟩) mH_rc rfl rfl hl.1 rfl rfl (Nat.le_of_ble_eq_true rfl) dX6_reads_15 ?_
    refine J.pu (fun _ _ _ _ k => lv_iconst (v := 1) X.1.1 X.1.2.1 dX6_reads_18 (by decide) k) ?_
    refine J.pu (fun _ _ _ _ k => lv_isub X.1.1 X.1.2.1 dX6_reads_19 k) ?_
    refine J.bd' (fun v20 M20 h20 => ?_)
    refine J.cV (q := (RX6, TX6, 26)) (ci := 5) (As := [.int a1, .int 1, .int (v15 - 1)]) (rest := []) (s2 := []) X ⟨rfl, rfl⟩ (ct_X6_puts l hm σ n M a1 1 (v15 - 1)) (mup_of h20) (fun _ _ => cwV 3 X.1.2.2.2.2 (lw_V q2972 q2974 qs90 q174 q2975) rfl rfl rfl (by decide +kernel) ⟨(Nat.le_of_ble_eq_true rfl), (Nat.le_of_ble_eq_true rfl)⟩) mH_rc rfl rfl hl.1 rfl rfl (Nat.le_of_ble_eq_true rfl) dX6_reads_20 ?_
    refine J.pu (fun _ _ _ _ k => lv_aload_n X.1.1 X.1.2.1 dX6_reads_23 rfl (lv_at hl 0 rfl) k) ?_
    refine J.pu (fun _ _ _ _ k => lv_bipush (v := 9) X.1.1 X.1.2.1 dX6_reads_24 (by decide) k) ?_
    refine J.pu (fun _ _ _ _ k => lv_iconst (v := 1) X.1.1 X.1.2.1 dX6_reads_26 (by decide) k) ?_
    refine J.bd' (fun v27 M27 h27 => ?_)
    refine J.cV (q := (RX6, TX6, 26)) (ci := 5) (As := [.int 9, .int 1]) (rest := []) (s2 := []) X ⟨rfl, rfl⟩ (ct_X6_counts l hm σ n M20 9 1) (mup_of h27) (fun _ _ => cwV 2 X.1.2.2.2.2 (lw_V q2976 q2978 qs91 q174 q2979) rfl rfl rfl (by decide +kernel) ⟨(Nat.le_of_ble_eq_true rfl), (Nat.le_of_ble_eq_true rfl)⟩) mH_rc rfl rfl hl.1 rfl rfl (Nat.le_of_ble_eq_true rfl) dX6_reads_27 ?_
    exact J.vret (vr := fun t : Unit × jM => jrV t.1) (fin := fun r : Unit × jM => mH mo A σ r.2) (t := t) X hr (by rfl) (by rfl) dX6_reads_30
noncomputable def X6_ticksOne_j166 (n : Nat) (rec129 : Int32 × jM → Option (Unit × jM)) (rec141 : Int32 × jM → Option (Unit × jM)) (x1_141 : Int32) (x2_166 : Int32) (B166 : jM) : Option (Unit × jM) :=
  rec141 ((x2_166 + 1), B166)
noncomputable def X6_ticksOne_h141 (n : Nat) (rec129 : Int32 × jM → Option (Unit × jM)) (x1_141 : Int32) (rec141 : Int32 × jM → Option (Unit × jM)) (q141 : Int32 × jM) : Option (Unit × jM) :=
  let x2_141 := q141.1; let B141 := q141.2; (mA B141 0 4).bind fun v147 => if v147 ≤ x2_141 then (rec129 ((x1_141 + 1), B141)) else ((X6_isLooked n B141 x2_141 x1_141).bind fun v154 => if v154 = 0 then (X6_ticksOne_j166 n rec129 rec141 x1_141 x2_141 B141) else (bd (X6_looks n B141 x1_141 x2_141) fun v163 M163 => X6_ticksOne_j166 n rec129 rec141 x1_141 x2_141 M163))
noncomputable def X6_ticksOne_h129 (n : Nat) (rec129 : Int32 × jM → Option (Unit × jM)) (q129 : Int32 × jM) : Option (Unit × jM) :=
  let x1_129 := q129.1; let B129 := q129.2; (mA B129 0 3).bind fun v135 => if v135 ≤ x1_129 then (some ((), B129)) else (jloop (X6_ticksOne_h141 n rec129 x1_129) n (0, B129))
noncomputable def X6_ticksOne_j121 (n : Nat) (rec85 : Int32 × jM → Option (Unit × jM)) (x1_121 : Int32) (B121 : jM) : Option (Unit × jM) :=
  rec85 ((x1_121 + 1), B121)
noncomputable def X6_ticksOne_h85 (n : Nat) (rec85 : Int32 × jM → Option (Unit × jM)) (q85 : Int32 × jM) : Option (Unit × jM) :=
  let x1_85 := q85.1; let B85 := q85.2; (mA B85 0 4).bind fun v91 => if v91 ≤ x1_85 then (jloop (X6_ticksOne_h129 n) n (0, B85)) else ((X6_isOn n B85 x1_85).bind fun v97 => if v97 = 0 then (X6_ticksOne_j121 n rec85 x1_85 B85) else ((X6_of n B85 x1_85 4).bind fun v107 => (X6_hasScanner n B85 v107).bind fun v110 => if v110 = 0 then (X6_ticksOne_j121 n rec85 x1_85 B85) else (bd (X6_reads n B85 x1_85) fun v118 M118 => X6_ticksOne_j121 n rec85 x1_85 M118)))
noncomputable def X6_ticksOne_j77 (n : Nat) (rec54 : Int32 × jM → Option (Unit × jM)) (x1_77 : Int32) (B77 : jM) : Option (Unit × jM) :=
  rec54 ((x1_77 + 1), B77)
noncomputable def X6_ticksOne_h54 (n : Nat) (rec54 : Int32 × jM → Option (Unit × jM)) (q54 : Int32 × jM) : Option (Unit × jM) :=
  let x1_54 := q54.1; let B54 := q54.2; (mA B54 0 4).bind fun v60 => if v60 ≤ x1_54 then (jloop (X6_ticksOne_h85 n) n (0, B54)) else ((X6_isOn n B54 x1_54).bind fun v66 => if v66 = 0 then (X6_ticksOne_j77 n rec54 x1_54 B54) else (bd (X6_goes n B54 x1_54) fun v74 M74 => X6_ticksOne_j77 n rec54 x1_54 M74))
noncomputable def X6_ticksOne_h18 (n : Nat) (rec18 : Int32 × jM → Option (Unit × jM)) (q18 : Int32 × jM) : Option (Unit × jM) :=
  let x1_18 := q18.1; let B18 := q18.2; (mA B18 0 3).bind fun v24 => if v24 ≤ x1_18 then (jloop (X6_ticksOne_h54 n) n (0, B18)) else ((X6_ofChute n B18 x1_18 4).bind fun v35 => (J12_max n 0 (v35 - 1)).bind fun v40 => bd (X6_putsChute n B18 x1_18 4 v40) fun v43 M43 => rec18 ((x1_18 + 1), M43))
noncomputable def X6_ticksOne (n : Nat) (M : jM) : Option (Unit × jM) :=
  (mA M 0 5).bind fun v6 => (mS M 0 5 (v6 + 1)).bind fun M9 => bd (X6_counts n M9 0 1) fun v13 M13 => jloop (X6_ticksOne_h18 n) n (0, M13)
set_option maxHeartbeats 4000000 in
set_option maxRecDepth 100000 in
theorem ct_X6_ticksOne (l : Launch) {G : jG} {mo : Nat} {A : Nat → Nat} (hm : mOK G mo A) (σ : jH) (n : Nat) (M : jM) : jCt l G yX6_ticksOne (ws_ yX6_ticksOne cX6_ticksOne 3 none) 5 112 jrV [.ref mo] (mH mo A σ M) (mup mo A σ (X6_ticksOne n M)) := by
  refine jCt.wm (lv := [(0, .ref mo)]) (plainFor_of_name (by decide)) (Nat.le_of_ble_eq_true rfl) rfl ?_
  intro t p e s m args below meth c ls X hr hnm hl
  have X : jCx p c cX6_ticksOne 3 s m args RX6 G meth := X
  have L129 : ∀ (n129 : Nat) (x1_129 : Int32) (B129 : jM) (ls : Array Slot), lv_has ls 3 [(0, .ref mo), (1, .int x1_129)] → jGo l G 5 112 (mH mo A σ M) (fun r : Unit × jM => mH mo A σ r.2) (fun t => jrV t.1) t p e s m args below meth c (jloop (X6_ticksOne_h129 n) n129 (x1_129, B129)) (mH mo A σ B129) (F0 m 129 ls []) := by
    intro n129
    induction n129 with
    | zero => intro x1_129 B129 ls hl; exact J.nil_
    | succ n129 ih129 =>
      have L141 : ∀ (x1_141 : Int32) (n141 : Nat) (x2_141 : Int32) (B141 : jM) (ls : Array Slot), lv_has ls 3 [(0, .ref mo), (1, .int x1_141), (2, .int x2_141)] → jGo l G 5 112 (mH mo A σ M) (fun r : Unit × jM => mH mo A σ r.2) (fun t => jrV t.1) t p e s m args below meth c (jloop (X6_ticksOne_h141 n (jloop (X6_ticksOne_h129 n) n129) x1_141) n141 (x2_141, B141)) (mH mo A σ B141) (F0 m 141 ls []) := by
        intro x1_141
        intro n141
        induction n141 with
        | zero => intro x2_141 B141 ls hl; exact J.nil_
        | succ n141 ih141 =>
          have j166 : ∀ (x2_166 : Int32) (B166 : jM) (ls : Array Slot), lv_has ls 3 [(0, .ref mo), (1, .int x1_141), (2, .int x2_166)] → jGo l G 5 112 (mH mo A σ M) (fun r : Unit × jM => mH mo A σ r.2) (fun t => jrV t.1) t p e s m args below meth c (X6_ticksOne_j166 n (jloop (X6_ticksOne_h129 n) n129) (jloop (X6_ticksOne_h141 n (jloop (X6_ticksOne_h129 n) n129) x1_141) n141) x1_141 x2_166 B166) (mH mo A σ B166) (F0 m 166 ls []) := by
            intro x2_166 B166 ls hl
            unfold X6_ticksOne_j166
            refine J.iinc (k := 2) (lv' := [(2, .int (x2_166 + 1)), (0, .ref mo), (1, .int x1_141)]) (w := (x2_166 + 1)) X.1.1 X.1.2.1 dX6_ticksOne_166 hl rfl rfl (by decide) (by first | rfl | simp [va_rf_cat, jcI, jcA, jcJ, jcD, jcF]) (fun ls hl => ?_)
            refine J.pu (fun _ _ _ _ k => lv_goto (tgt := 141) X.1.1 X.1.2.1 dX6_ticksOne_169 (by decide) k) ?_
            exact ih141 (x2_166 + 1) B166 ls (lv_sub hl [1, 2, 0] rfl)
          intro x2_141 B141 ls hl
          refine J.eq (jloop_s _ _ _) ?_
          dsimp only [X6_ticksOne_h141]
          refine J.pu (fun _ _ _ _ k => lv_iload_n X.1.1 X.1.2.1 dX6_ticksOne_141 rfl (lv_at hl 2 rfl) k) ?_
          refine J.pu (fun _ _ _ _ k => lv_aload_n X.1.1 X.1.2.1 dX6_ticksOne_142 rfl (lv_at hl 0 rfl) k) ?_
          refine J.mgA (k := 0) X (by decide) q2730 rfl rfl dX6_ticksOne_143 ?_
          refine J.pu (fun _ _ _ _ k => lv_iconst (v := 4) X.1.1 X.1.2.1 dX6_ticksOne_146 (by decide) k) ?_
          refine J.mld X hm (by decide) dX6_ticksOne_147 (fun v147 h147 => ?_)
          refine J.br (fun _ _ _ _ ka kb => lv_icmp_ge (tgt := 172) X.1.1 X.1.2.1 dX6_ticksOne_148 (by decide) ka kb) (fun c148 => ?_) (fun c148 => ?_)
          · refine J.iinc (k := 1) (lv' := [(1, .int (x1_141 + 1)), (0, .ref mo), (2, .int x2_141)]) (w := (x1_141 + 1)) X.1.1 X.1.2.1 dX6_ticksOne_172 hl rfl rfl (by decide) (by first | rfl | simp [va_rf_cat, jcI, jcA, jcJ, jcD, jcF]) (fun ls hl => ?_)
            refine J.pu (fun _ _ _ _ k => lv_goto (tgt := 129) X.1.1 X.1.2.1 dX6_ticksOne_175 (by decide) k) ?_
            exact ih129 (x1_141 + 1) B141 ls (lv_sub hl [1, 0] rfl)
          · refine J.pu (fun _ _ _ _ k => lv_aload_n X.1.1 X.1.2.1 dX6_ticksOne_151 rfl (lv_at hl 0 rfl) k) ?_
            refine J.pu (fun _ _ _ _ k => lv_iload_n X.1.1 X.1.2.1 dX6_ticksOne_152 rfl (lv_at hl 2 rfl) k) ?_
            refine J.pu (fun _ _ _ _ k => lv_iload_n X.1.1 X.1.2.1 dX6_ticksOne_153 rfl (lv_at hl 1 rfl) k) ?_
            refine J.bind (fun v154 h154 => ?_)
            refine J.cV (q := (RX6, TX6, 26)) (ci := 5) (As := [.int x2_141, .int x1_141]) (rest := []) (s2 := [.int v154]) X ⟨rfl, rfl⟩ (ct_X6_isLooked l hm σ n B141 x2_141 x1_141) (jrd_of h154) (fun _ _ => cwV 2 X.1.2.2.2.2 (lw_V q3019 q3021 qs100 q174 q3022) rfl rfl rfl (by decide +kernel) ⟨(Nat.le_of_ble_eq_true rfl), (Nat.le_of_ble_eq_true rfl)⟩) mH_rc rfl rfl hl.1 rfl rfl (Nat.le_of_ble_eq_true rfl) dX6_ticksOne_154 ?_
            refine J.br (fun _ _ _ _ ka kb => lv_if_eq (tgt := 166) X.1.1 X.1.2.1 dX6_ticksOne_157 (by decide) ka kb) (fun c157 => ?_) (fun c157 => ?_)
            · exact j166 x2_141 B141 ls (lv_sub hl [0, 1, 2] rfl)
            · refine J.pu (fun _ _ _ _ k => lv_aload_n X.1.1 X.1.2.1 dX6_ticksOne_160 rfl (lv_at hl 0 rfl) k) ?_
              refine J.pu (fun _ _ _ _ k => lv_iload_n X.1.1 X.1.2.1 dX6_ticksOne_161 rfl (lv_at hl 1 rfl) k) ?_
              refine J.pu (fun _ _ _ _ k => lv_iload_n X.1.1 X.1.2.1 dX6_ticksOne_162 rfl (lv_at hl 2 rfl) k) ?_
              refine J.bd' (fun v163 M163 h163 => ?_)
              refine J.cV (q := (RX6, TX6, 26)) (ci := 5) (As := [.int x1_141, .int x2_141]) (rest := []) (s2 := []) X ⟨rfl, rfl⟩ (ct_X6_looks l hm σ n B141 x1_141 x2_141) (mup_of h163) (fun _ _ => cwV 2 X.1.2.2.2.2 (lw_V q3027 q3029 qs102 q174 q3030) rfl rfl rfl (by decide +kernel) ⟨(Nat.le_of_ble_eq_true rfl), (Nat.le_of_ble_eq_true rfl)⟩) mH_rc rfl rfl hl.1 rfl rfl (Nat.le_of_ble_eq_true rfl) dX6_ticksOne_163 ?_
              exact j166 x2_141 M163 ls (lv_sub hl [0, 1, 2] rfl)
      intro x1_129 B129 ls hl
      refine J.eq (jloop_s _ _ _) ?_
      dsimp only [X6_ticksOne_h129]
      refine J.pu (fun _ _ _ _ k => lv_iload_n X.1.1 X.1.2.1 dX6_ticksOne_129 rfl (lv_at hl 1 rfl) k) ?_
      refine J.pu (fun _ _ _ _ k => lv_aload_n X.1.1 X.1.2.1 dX6_ticksOne_130 rfl (lv_at hl 0 rfl) k) ?_
      refine J.mgA (k := 0) X (by decide) q2730 rfl rfl dX6_ticksOne_131 ?_
      refine J.pu (fun _ _ _ _ k => lv_iconst (v := 3) X.1.1 X.1.2.1 dX6_ticksOne_134 (by decide) k) ?_
      refine J.mld X hm (by decide) dX6_ticksOne_135 (fun v135 h135 => ?_)
      refine J.br (fun _ _ _ _ ka kb => lv_icmp_ge (tgt := 178) X.1.1 X.1.2.1 dX6_ticksOne_136 (by decide) ka kb) (fun c136 => ?_) (fun c136 => ?_)
      · exact J.vret (vr := fun t : Unit × jM => jrV t.1) (fin := fun r : Unit × jM => mH mo A σ r.2) (t := t) X hr (by rfl) (by rfl) dX6_ticksOne_178
      · refine J.pu (fun _ _ _ _ k => lv_iconst (v := 0) X.1.1 X.1.2.1 dX6_ticksOne_139 (by decide) k) ?_
        refine J.istore_n (i := 2) (lv' := [(2, .int 0), (0, .ref mo), (1, .int x1_129)]) X.1.1 X.1.2.1 dX6_ticksOne_140 rfl hl (by decide) (by first | rfl | simp [va_rf_cat, jcI, jcA, jcJ, jcD, jcF]) (fun ls hl => ?_)
        exact L141 x1_129 n 0 B129 ls (lv_sub hl [1, 2, 0] rfl)
  have L85 : ∀ (n85 : Nat) (x1_85 : Int32) (B85 : jM) (ls : Array Slot), lv_has ls 3 [(0, .ref mo), (1, .int x1_85)] → jGo l G 5 112 (mH mo A σ M) (fun r : Unit × jM => mH mo A σ r.2) (fun t => jrV t.1) t p e s m args below meth c (jloop (X6_ticksOne_h85 n) n85 (x1_85, B85)) (mH mo A σ B85) (F0 m 85 ls []) := by
    intro n85
    induction n85 with
    | zero => intro x1_85 B85 ls hl; exact J.nil_
    | succ n85 ih85 =>
      have j121 : ∀ (x1_121 : Int32) (B121 : jM) (ls : Array Slot), lv_has ls 3 [(0, .ref mo), (1, .int x1_121)] → jGo l G 5 112 (mH mo A σ M) (fun r : Unit × jM => mH mo A σ r.2) (fun t => jrV t.1) t p e s m args below meth c (X6_ticksOne_j121 n (jloop (X6_ticksOne_h85 n) n85) x1_121 B121) (mH mo A σ B121) (F0 m 121 ls []) := by
        intro x1_121 B121 ls hl
        unfold X6_ticksOne_j121
        refine J.iinc (k := 1) (lv' := [(1, .int (x1_121 + 1)), (0, .ref mo)]) (w := (x1_121 + 1)) X.1.1 X.1.2.1 dX6_ticksOne_121 hl rfl rfl (by decide) (by first | rfl | simp [va_rf_cat, jcI, jcA, jcJ, jcD, jcF]) (fun ls hl => ?_)
        refine J.pu (fun _ _ _ _ k => lv_goto (tgt := 85) X.1.1 X.1.2.1 dX6_ticksOne_124 (by decide) k) ?_
        exact ih85 (x1_121 + 1) B121 ls (lv_sub hl [1, 0] rfl)
      intro x1_85 B85 ls hl
      refine J.eq (jloop_s _ _ _) ?_
      dsimp only [X6_ticksOne_h85]
      refine J.pu (fun _ _ _ _ k => lv_iload_n X.1.1 X.1.2.1 dX6_ticksOne_85 rfl (lv_at hl 1 rfl) k) ?_
      refine J.pu (fun _ _ _ _ k => lv_aload_n X.1.1 X.1.2.1 dX6_ticksOne_86 rfl (lv_at hl 0 rfl) k) ?_
      refine J.mgA (k := 0) X (by decide) q2730 rfl rfl dX6_ticksOne_87 ?_
      refine J.pu (fun _ _ _ _ k => lv_iconst (v := 4) X.1.1 X.1.2.1 dX6_ticksOne_90 (by decide) k) ?_
      refine J.mld X hm (by decide) dX6_ticksOne_91 (fun v91 h91 => ?_)
      refine J.br (fun _ _ _ _ ka kb => lv_icmp_ge (tgt := 127) X.1.1 X.1.2.1 dX6_ticksOne_92 (by decide) ka kb) (fun c92 => ?_) (fun c92 => ?_)
      · refine J.pu (fun _ _ _ _ k => lv_iconst (v := 0) X.1.1 X.1.2.1 dX6_ticksOne_127 (by decide) k) ?_
        refine J.istore_n (i := 1) (lv' := [(1, .int 0), (0, .ref mo)]) X.1.1 X.1.2.1 dX6_ticksOne_128 rfl hl (by decide) (by first | rfl | simp [va_rf_cat, jcI, jcA, jcJ, jcD, jcF]) (fun ls hl => ?_)
        exact L129 n 0 B85 ls (lv_sub hl [1, 0] rfl)
      · refine J.pu (fun _ _ _ _ k => lv_aload_n X.1.1 X.1.2.1 dX6_ticksOne_95 rfl (lv_at hl 0 rfl) k) ?_
        refine J.pu (fun _ _ _ _ k => lv_iload_n X.1.1 X.1.2.1 dX6_ticksOne_96 rfl (lv_at hl 1 rfl) k) ?_
        refine J.bind (fun v97 h97 => ?_)
        refine J.cV (q := (RX6, TX6, 26)) (ci := 5) (As := [.int x1_85]) (rest := []) (s2 := [.int v97]) X ⟨rfl, rfl⟩ (ct_X6_isOn l hm σ n B85 x1_85) (jrd_of h97) (fun _ _ => cwV 1 X.1.2.2.2.2 (lw_V q2960 q2962 qs87 q174 q2963) rfl rfl rfl (by decide +kernel) ⟨(Nat.le_of_ble_eq_true rfl), (Nat.le_of_ble_eq_true rfl)⟩) mH_rc rfl rfl hl.1 rfl rfl (Nat.le_of_ble_eq_true rfl) dX6_ticksOne_97 ?_
        refine J.br (fun _ _ _ _ ka kb => lv_if_eq (tgt := 121) X.1.1 X.1.2.1 dX6_ticksOne_100 (by decide) ka kb) (fun c100 => ?_) (fun c100 => ?_)
        · exact j121 x1_85 B85 ls (lv_sub hl [0, 1] rfl)
        · refine J.pu (fun _ _ _ _ k => lv_aload_n X.1.1 X.1.2.1 dX6_ticksOne_103 rfl (lv_at hl 0 rfl) k) ?_
          refine J.pu (fun _ _ _ _ k => lv_aload_n X.1.1 X.1.2.1 dX6_ticksOne_104 rfl (lv_at hl 0 rfl) k) ?_
          refine J.pu (fun _ _ _ _ k => lv_iload_n X.1.1 X.1.2.1 dX6_ticksOne_105 rfl (lv_at hl 1 rfl) k) ?_
          refine J.pu (fun _ _ _ _ k => lv_iconst (v := 4) X.1.1 X.1.2.1 dX6_ticksOne_106 (by decide) k) ?_
          refine J.bind (fun v107 h107 => ?_)
          refine J.cV (q := (RX6, TX6, 26)) (ci := 5) (As := [.int x1_85, .int 4]) (rest := [.ref mo]) (s2 := [.int v107, .ref mo]) X ⟨rfl, rfl⟩ (ct_X6_of l hm σ n B85 x1_85 4) (jrd_of h107) (fun _ _ => cwV 2 X.1.2.2.2.2 (lw_V q2964 q2966 qs88 q174 q2967) rfl rfl rfl (by decide +kernel) ⟨(Nat.le_of_ble_eq_true rfl), (Nat.le_of_ble_eq_true rfl)⟩) mH_rc rfl rfl hl.1 rfl rfl (Nat.le_of_ble_eq_true rfl) dX6_ticksOne_107 ?_
          refine J.bind (fun v110 h110 => ?_)
          refine J.cV (q := (RX6, TX6, 26)) (ci := 5) (As := [.int v107]) (rest := []) (s2 := [.int v110]) X ⟨rfl, rfl⟩ (ct_X6_hasScanner l hm σ n B85 v107) (jrd_of h110) (fun _ _ => cwV 1 X.1.2.2.2.2 (lw_V q2895 q2897 qs74 q174 q2898) rfl rfl rfl (by decide +kernel) ⟨(Nat.le_of_ble_eq_true rfl), (Nat.le_of_ble_eq_true rfl)⟩) mH_rc rfl rfl hl.1 rfl rfl (Nat.le_of_ble_eq_true rfl) dX6_ticksOne_110 ?_
          refine J.br (fun _ _ _ _ ka kb => lv_if_eq (tgt := 121) X.1.1 X.1.2.1 dX6_ticksOne_113 (by decide) ka kb) (fun c113 => ?_) (fun c113 => ?_)
          · exact j121 x1_85 B85 ls (lv_sub hl [0, 1] rfl)
          · refine J.pu (fun _ _ _ _ k => lv_aload_n X.1.1 X.1.2.1 dX6_ticksOne_116 rfl (lv_at hl 0 rfl) k) ?_
            refine J.pu (fun _ _ _ _ k => lv_iload_n X.1.1 X.1.2.1 dX6_ticksOne_117 rfl (lv_at hl 1 rfl) k) ?_
            refine J.bd' (fun v118 M118 h118 => ?_)
            refine J.cV (q := (RX6, TX6, 26)) (ci := 5) (As := [.int x1_85]) (rest := []) (s2 := []) X ⟨rfl, rfl⟩ (ct_X6_reads l hm σ n B85 x1_85) (mup_of h118) (fun _ _ => cwV 1 X.1.2.2.2.2 (lw_V q3004 q3006 qs97 q174 q3007) rfl rfl rfl (by decide +kernel) ⟨(Nat.le_of_ble_eq_true rfl), (Nat.le_of_ble_eq_true rfl)⟩) mH_rc rfl rfl hl.1 rfl rfl (Nat.le_of_ble_eq_true rfl) dX6_ticksOne_118 ?_
            exact j121 x1_85 M118 ls (lv_sub hl [0, 1] rfl)
  have L54 : ∀ (n54 : Nat) (x1_54 : Int32) (B54 : jM) (ls : Array Slot), lv_has ls 3 [(0, .ref mo), (1, .int x1_54)] → jGo l G 5 112 (mH mo A σ M) (fun r : Unit × jM => mH mo A σ r.2) (fun t => jrV t.1) t p e s m args below meth c (jloop (X6_ticksOne_h54 n) n54 (x1_54, B54)) (mH mo A σ B54) (F0 m 54 ls []) := by
    intro n54
    induction n54 with
    | zero => intro x1_54 B54 ls hl; exact J.nil_
    | succ n54 ih54 =>
      have j77 : ∀ (x1_77 : Int32) (B77 : jM) (ls : Array Slot), lv_has ls 3 [(0, .ref mo), (1, .int x1_77)] → jGo l G 5 112 (mH mo A σ M) (fun r : Unit × jM => mH mo A σ r.2) (fun t => jrV t.1) t p e s m args below meth c (X6_ticksOne_j77 n (jloop (X6_ticksOne_h54 n) n54) x1_77 B77) (mH mo A σ B77) (F0 m 77 ls []) := by
        intro x1_77 B77 ls hl
        unfold X6_ticksOne_j77
        refine J.iinc (k := 1) (lv' := [(1, .int (x1_77 + 1)), (0, .ref mo)]) (w := (x1_77 + 1)) X.1.1 X.1.2.1 dX6_ticksOne_77 hl rfl rfl (by decide) (by first | rfl | simp [va_rf_cat, jcI, jcA, jcJ, jcD, jcF]) (fun ls hl => ?_)
        refine J.pu (fun _ _ _ _ k => lv_goto (tgt := 54) X.1.1 X.1.2.1 dX6_ticksOne_80 (by decide) k) ?_
        exact ih54 (x1_77 + 1) B77 ls (lv_sub hl [1, 0] rfl)
      intro x1_54 B54 ls hl
      refine J.eq (jloop_s _ _ _) ?_
      dsimp only [X6_ticksOne_h54]
      refine J.pu (fun _ _ _ _ k => lv_iload_n X.1.1 X.1.2.1 dX6_ticksOne_54 rfl (lv_at hl 1 rfl) k) ?_
      refine J.pu (fun _ _ _ _ k => lv_aload_n X.1.1 X.1.2.1 dX6_ticksOne_55 rfl (lv_at hl 0 rfl) k) ?_
      refine J.mgA (k := 0) X (by decide) q2730 rfl rfl dX6_ticksOne_56 ?_
      refine J.pu (fun _ _ _ _ k => lv_iconst (v := 4) X.1.1 X.1.2.1 dX6_ticksOne_59 (by decide) k) ?_
      refine J.mld X hm (by decide) dX6_ticksOne_60 (fun v60 h60 => ?_)
      refine J.br (fun _ _ _ _ ka kb => lv_icmp_ge (tgt := 83) X.1.1 X.1.2.1 dX6_ticksOne_61 (by decide) ka kb) (fun c61 => ?_) (fun c61 => ?_)
      · refine J.pu (fun _ _ _ _ k => lv_iconst (v := 0) X.1.1 X.1.2.1 dX6_ticksOne_83 (by decide) k) ?_
        refine J.istore_n (i := 1) (lv' := [(1, .int 0), (0, .ref mo)]) X.1.1 X.1.2.1 dX6_ticksOne_84 rfl hl (by decide) (by first | rfl | simp [va_rf_cat, jcI, jcA, jcJ, jcD, jcF]) (fun ls hl => ?_)
        exact L85 n 0 B54 ls (lv_sub hl [1, 0] rfl)
      · refine J.pu (fun _ _ _ _ k => lv_aload_n X.1.1 X.1.2.1 dX6_ticksOne_64 rfl (lv_at hl 0 rfl) k) ?_
        refine J.pu (fun _ _ _ _ k => lv_iload_n X.1.1 X.1.2.1 dX6_ticksOne_65 rfl (lv_at hl 1 rfl) k) ?_
        refine J.bind (fun v66 h66 => ?_)
        refine J.cV (q := (RX6, TX6, 26)) (ci := 5) (As := [.int x1_54]) (rest := []) (s2 := [.int v66]) X ⟨rfl, rfl⟩ (ct_X6_isOn l hm σ n B54 x1_54) (jrd_of h66) (fun _ _ => cwV 1 X.1.2.2.2.2 (lw_V q2960 q2962 qs87 q174 q2963) rfl rfl rfl (by decide +kernel) ⟨(Nat.le_of_ble_eq_true rfl), (Nat.le_of_ble_eq_true rfl)⟩) mH_rc rfl rfl hl.1 rfl rfl (Nat.le_of_ble_eq_true rfl) dX6_ticksOne_66 ?_
        refine J.br (fun _ _ _ _ ka kb => lv_if_eq (tgt := 77) X.1.1 X.1.2.1 dX6_ticksOne_69 (by decide) ka kb) (fun c69 => ?_) (fun c69 => ?_)
        · exact j77 x1_54 B54 ls (lv_sub hl [0, 1] rfl)
        · refine J.pu (fun _ _ _ _ k => lv_aload_n X.1.1 X.1.2.1 dX6_ticksOne_72 rfl (lv_at hl 0 rfl) k) ?_
          refine J.pu (fun _ _ _ _ k => lv_iload_n X.1.1 X.1.2.1 dX6_ticksOne_73 rfl (lv_at hl 1 rfl) k) ?_
          refine J.bd' (fun v74 M74 h74 => ?_)
          refine J.cV (q := (RX6, TX6, 26)) (ci := 5) (As := [.int x1_54]) (rest := []) (s2 := []) X ⟨rfl, rfl⟩ (ct_X6_goes l hm σ n B54 x1_54) (mup_of h74) (fun _ _ => cwV 1 X.1.2.2.2.2 (lw_V q2996 q2998 qs95 q174 q2999) rfl rfl rfl (by decide +kernel) ⟨(Nat.le_of_ble_eq_true rfl), (Nat.le_of_ble_eq_true rfl)⟩) mH_rc rfl rfl hl.1 rfl rfl (Nat.le_of_ble_eq_true rfl) dX6_ticksOne_74 ?_
          exact j77 x1_54 M74 ls (lv_sub hl [0, 1] rfl)
  have L18 : ∀ (n18 : Nat) (x1_18 : Int32) (B18 : jM) (ls : Array Slot), lv_has ls 3 [(0, .ref mo), (1, .int x1_18)] → jGo l G 5 112 (mH mo A σ M) (fun r : Unit × jM => mH mo A σ r.2) (fun t => jrV t.1) t p e s m args below meth c (jloop (X6_ticksOne_h18 n) n18 (x1_18, B18)) (mH mo A σ B18) (F0 m 18 ls []) := by
    intro n18
    induction n18 with
    | zero => intro x1_18 B18 ls hl; exact J.nil_
    | succ n18 ih18 =>
      intro x1_18 B18 ls hl
      refine J.eq (jloop_s _ _ _) ?_
      dsimp only [X6_ticksOne_h18]
      refine J.pu (fun _ _ _ _ k => lv_iload_n X.1.1 X.1.2.1 dX6_ticksOne_18 rfl (lv_at hl 1 rfl) k) ?_
      refine J.pu (fun _ _ _ _ k => lv_aload_n X.1.1 X.1.2.1 dX6_ticksOne_19 rfl (lv_at hl 0 rfl) k) ?_
      refine J.mgA (k := 0) X (by decide) q2730 rfl rfl dX6_ticksOne_20 ?_
      refine J.pu (fun _ _ _ _ k => lv_iconst (v := 3) X.1.1 X.1.2.1 dX6_ticksOne_23 (by decide) k) ?_
      refine J.mld X hm (by decide) dX6_ticksOne_24 (fun v24 h24 => ?_)
      refine J.br (fun _ _ _ _ ka kb => lv_icmp_ge (tgt := 52) X.1.1 X.1.2.1 dX6_ticksOne_25 (by decide) ka kb) (fun c25 => ?_) (fun c25 => ?_)
      · refine J.pu (fun _ _ _ _ k => lv_iconst (v := 0) X.1.1 X.1.2.1 dX6_ticksOne_52 (by decide) k) ?_
        refine J.istore_n (i := 1) (lv' := [(1, .int 0), (0, .ref mo)]) X.1.1 X.1.2.1 dX6_ticksOne_53 rfl hl (by decide) (by first | rfl | simp [va_rf_cat, jcI, jcA, jcJ, jcD, jcF]) (fun ls hl => ?_)
        exact L54 n 0 B18 ls (lv_sub hl [1, 0] rfl)
      · refine J.pu (fun _ _ _ _ k => lv_aload_n X.1.1 X.1.2.1 dX6_ticksOne_28 rfl (lv_at hl 0 rfl) k) ?_
        refine J.pu (fun _ _ _ _ k => lv_iload_n X.1.1 X.1.2.1 dX6_ticksOne_29 rfl (lv_at hl 1 rfl) k) ?_
        refine J.pu (fun _ _ _ _ k => lv_iconst (v := 4) X.1.1 X.1.2.1 dX6_ticksOne_30 (by decide) k) ?_
        refine J.pu (fun _ _ _ _ k => lv_iconst (v := 0) X.1.1 X.1.2.1 dX6_ticksOne_31 (by decide) k) ?_
        refine J.pu (fun _ _ _ _ k => lv_aload_n X.1.1 X.1.2.1 dX6_ticksOne_32 rfl (lv_at hl 0 rfl) k) ?_
        refine J.pu (fun _ _ _ _ k => lv_iload_n X.1.1 X.1.2.1 dX6_ticksOne_33 rfl (lv_at hl 1 rfl) k) ?_
        refine J.pu (fun _ _ _ _ k => lv_iconst (v := 4) X.1.1 X.1.2.1 dX6_ticksOne_34 (by decide) k) ?_
        refine J.bind (fun v35 h35 => ?_)
        refine J.cV (q := (RX6, TX6, 26)) (ci := 5) (As := [.int x1_18, .int 4]) (rest := [.int 0, .int 4, .int x1_18, .ref mo]) (s2 := [.int v35, .int 0, .int 4, .int x1_18, .ref mo]) X ⟨rfl, rfl⟩ (ct_X6_ofChute l hm σ n B18 x1_18 4) (jrd_of h35) (fun _ _ => cwV 2 X.1.2.2.2.2 (lw_V q2908 q2910 qs77 q174 q2911) rfl rfl rfl (by decide +kernel) ⟨(Nat.le_of_ble_eq_true rfl), (Nat.le_of_ble_eq_true rfl)⟩) mH_rc rfl rfl hl.1 rfl rfl (Nat.le_of_ble_eq_true rfl) dX6_ticksOne_35 ?_
        refine J.pu (fun _ _ _ _ k => lv_iconst (v := 1) X.1.1 X.1.2.1 dX6_ticksOne_38 (by decide) k) ?_
        refine J.pu (fun _ _ _ _ k => lv_isub X.1.1 X.1.2.1 dX6_ticksOne_39 k) ?_
        refine J.bind (fun v40 h40 => ?_)
        refine J.cS (As := [.int 0, .int (v35 - 1)]) (rest := [.int 4, .int x1_18, .ref mo]) (s2 := [.int v40, .int 4, .int x1_18, .ref mo]) X ⟨rfl, rfl⟩ (ct_J12_max l G (mH mo A σ B18) n 0 (v35 - 1)) (jrd_of h40) (fun _ _ => va_cwS 2 X.1.2.2.2.2 (lw_S q2995 q329 q152 q330) rfl rfl rfl (by decide +kernel) ⟨(Nat.le_of_ble_eq_true rfl), (Nat.le_of_ble_eq_true rfl)⟩) rfl hl.1 rfl rfl (Nat.le_of_ble_eq_true rfl) dX6_ticksOne_40 ?_
        refine J.bd' (fun v43 M43 h43 => ?_)
        refine J.cV (q := (RX6, TX6, 26)) (ci := 5) (As := [.int x1_18, .int 4, .int v40]) (rest := []) (s2 := []) X ⟨rfl, rfl⟩ (ct_X6_putsChute l hm σ n B18 x1_18 4 v40) (mup_of h43) (fun _ _ => cwV 3 X.1.2.2.2.2 (lw_V q2726 q2728 qs58 q174 q2729) rfl rfl rfl (by decide +kernel) ⟨(Nat.le_of_ble_eq_true rfl), (Nat.le_of_ble_eq_true rfl)⟩) mH_rc rfl rfl hl.1 rfl rfl (Nat.le_of_ble_eq_true rfl) dX6_ticksOne_43 ?_
        refine J.iinc (k := 1) (lv' := [(1, .int (x1_18 + 1)), (0, .ref mo)]) (w := (x1_18 + 1)) X.1.1 X.1.2.1 dX6_ticksOne_46 hl rfl rfl (by decide) (by first | rfl | simp [va_rf_cat, jcI, jcA, jcJ, jcD, jcF]) (fun ls hl => ?_)
        refine J.pu (fun _ _ _ _ k => lv_goto (tgt := 18) X.1.1 X.1.2.1 dX6_ticksOne_49 (by decide) k) ?_
        exact ih18 (x1_18 + 1) M43 ls (lv_sub hl [1, 0] rfl)
  unfold X6_ticksOne
  refine J.pu (fun _ _ _ _ k => lv_aload_n X.1.1 X.1.2.1 dX6_ticksOne_0 rfl (lv_at hl 0 rfl) k) ?_
  refine J.mgA (k := 0) X (by decide) q2730 rfl rfl dX6_ticksOne_1 ?_
  refine J.pu (fun _ _ _ _ k => lv_iconst (v := 5) X.1.1 X.1.2.1 dX6_ticksOne_4 (by decide) k) ?_
  refine J.pu (fun _ _ _ _ k => lv_dup2_11 X.1.1 X.1.2.1 dX6_ticksOne_5 rfl rfl k) ?_
  refine J.mld X hm (by decide) dX6_ticksOne_6 (fun v6 h6 => ?_)
  refine J.pu (fun _ _ _ _ k => lv_iconst (v := 1) X.1.1 X.1.2.1 dX6_ticksOne_7 (by decide) k) ?_
  refine J.pu (fun _ _ _ _ k => lv_iadd X.1.1 X.1.2.1 dX6_ticksOne_8 k) ?_
  refine J.mst X hm (by decide) dX6_ticksOne_9 (fun M9 h9 => ?_)
  refine J.pu (fun _ _ _ _ k => lv_aload_n X.1.1 X.1.2.1 dX6_ticksOne_10 rfl (lv_at hl 0 rfl) k) ?_
  refine J.pu (fun _ _ _ _ k => lv_iconst (v := 0) X.1.1 X.1.2.1 dX6_ticksOne_11 (by decide) k) ?_
  refine J.pu (fun _ _ _ _ k => lv_iconst (v := 1) X.1.1 X.1.2.1 dX6_ticksOne_12 (by decide) k) ?_
  refine J.bd' (fun v13 M13 h13 => ?_)
  refine J.cV (q := (RX6, TX6, 26)) (ci := 5) (As := [.int 0, .int 1]) (rest := []) (s2 := []) X ⟨rfl, rfl⟩ (ct_X6_counts l hm σ n M9 0 1) (mup_of h13) (fun _ _ => cwV 2 X.1.2.2.2.2 (lw_V q2976 q2978 qs91 q174 q2979) rfl rfl rfl (by decide +kernel) ⟨(Nat.le_of_ble_eq_true rfl), (Nat.le_of_ble_eq_true rfl)⟩) mH_rc rfl rfl hl.1 rfl rfl (Nat.le_of_ble_eq_true rfl) dX6_ticksOne_13 ?_
  refine J.pu (fun _ _ _ _ k => lv_iconst (v := 0) X.1.1 X.1.2.1 dX6_ticksOne_16 (by decide) k) ?_
  refine J.istore_n (i := 1) (lv' := [(1, .int 0), (0, .ref mo)]) X.1.1 X.1.2.1 dX6_ticksOne_17 rfl hl (by decide) (by first | rfl | simp [va_rf_cat, jcI, jcA, jcJ, jcD, jcF]) (fun ls hl => ?_)
  exact L18 n 0 M13 ls (lv_sub hl [1, 0] rfl)
noncomputable def X6_ticksMany_h8 (n : Nat) (a1 : Int32) (x2_8 : Int32) (rec8 : Int32 × jM → Option (Int32 × jM)) (q8 : Int32 × jM) : Option (Int32 × jM) :=
  let x3_8 := q8.1; let B8 := q8.2; if a1 ≤ x3_8 then ((X6_inState n B8 0).bind fun v26 => some ((x2_8 - v26), B8)) else (bd (X6_ticksOne n B8) fun v14 M14 => rec8 ((x3_8 + 1), M14))
noncomputable def X6_ticksMany (n : Nat) (M : jM) (a1 : Int32) : Option (Int32 × jM) :=
  (X6_inState n M 0).bind fun v2 => jloop (X6_ticksMany_h8 n a1 v2) n (0, M)
set_option maxHeartbeats 4000000 in
set_option maxRecDepth 100000 in
theorem ct_X6_ticksMany (l : Launch) {G : jG} {mo : Nat} {A : Nat → Nat} (hm : mOK G mo A) (σ : jH) (n : Nat) (M : jM) (a1 : Int32) : jCt l G yX6_ticksMany (ws_ yX6_ticksMany cX6_ticksMany 4 (some .int)) 6 134 jrI [.ref mo, .int a1] (mH mo A σ M) (mup mo A σ (X6_ticksMany n M a1)) := by
  refine jCt.wm (lv := [(0, .ref mo), (1, .int a1)]) (plainFor_of_name (by decide)) (Nat.le_of_ble_eq_true rfl) rfl ?_
  intro t p e s m args below meth c ls X hr hnm hl
  have X : jCx p c cX6_ticksMany 4 s m args RX6 G meth := X
  have L8 : ∀ (x2_8 : Int32) (n8 : Nat) (x3_8 : Int32) (B8 : jM) (ls : Array Slot), lv_has ls 4 [(0, .ref mo), (1, .int a1), (2, .int x2_8), (3, .int x3_8)] → jGo l G 6 134 (mH mo A σ M) (fun r : Int32 × jM => mH mo A σ r.2) (fun t => jrI t.1) t p e s m args below meth c (jloop (X6_ticksMany_h8 n a1 x2_8) n8 (x3_8, B8)) (mH mo A σ B8) (F0 m 8 ls []) := by
    intro x2_8
    intro n8
    induction n8 with
    | zero => intro x3_8 B8 ls hl; exact J.nil_
    | succ n8 ih8 =>
      intro x3_8 B8 ls hl
      refine J.eq (jloop_s _ _ _) ?_
      dsimp only [X6_ticksMany_h8]
      refine J.pu (fun _ _ _ _ k => lv_iload_n X.1.1 X.1.2.1 dX6_ticksMany_8 rfl (lv_at hl 3 rfl) k) ?_
      refine J.pu (fun _ _ _ _ k => lv_iload_n X.1.1 X.1.2.1 dX6_ticksMany_9 rfl (lv_at hl 1 rfl) k) ?_
      refine J.br (fun _ _ _ _ ka kb => lv_icmp_ge (tgt := 23) X.1.1 X.1.2.1 dX6_ticksMany_10 (by decide) ka kb) (fun c10 => ?_) (fun c10 => ?_)
      · refine J.pu (fun _ _ _ _ k => lv_iload_n X.1.1 X.1.2.1 dX6_ticksMany_23 rfl (lv_at hl 2 rfl) k) ?_
        refine J.pu (fun _ _ _ _ k => lv_aload_n X.1.1 X.1.2.1 dX6_ticksMany_24 rfl (lv_at hl 0 rfl) k) ?_
        refine J.pu (fun _ _ _ _ k => lv_iconst (v := 0) X.1.1 X.1.2.1 dX6_ticksMany_25 (by decide) k) ?_
        refine J.bind (fun v26 h26 => ?_)
        refine J.cV (q := (RX6, TX6, 26)) (ci := 5) (As := [.int 0]) (rest := [.int x2_8]) (s2 := [.int v26, .int x2_8]) X ⟨rfl, rfl⟩ (ct_X6_inState l hm σ n B8 0) (jrd_of h26) (fun _ _ => cwV 1 X.1.2.2.2.2 (lw_V q2984 q2986 qs93 q174 q2987) rfl rfl rfl (by decide +kernel) ⟨(Nat.le_of_ble_eq_true rfl), (Nat.le_of_ble_eq_true rfl)⟩) mH_rc rfl rfl hl.1 rfl rfl (Nat.le_of_ble_eq_true rfl) dX6_ticksMany_26 ?_
        refine J.pu (fun _ _ _ _ k => lv_isub X.1.1 X.1.2.1 dX6_ticksMany_29 k) ?_
        exact J.iret (vr := fun t : Int32 × jM => jrI t.1) (fin := fun r : Int32 × jM => mH mo A σ r.2) (t := t) X hr (by rfl) (by rfl) dX6_ticksMany_30
      · refine J.pu (fun _ _ _ _ k => lv_aload_n X.1.1 X.1.2.1 dX6_ticksMany_13 rfl (lv_at hl 0 rfl) k) ?_
        refine J.bd' (fun v14 M14 h14 => ?_)
        refine J.cV (q := (RX6, TX6, 26)) (ci := 5) (As := []) (rest := []) (s2 := []) X ⟨rfl, rfl⟩ (ct_X6_ticksOne l hm σ n B8) (mup_of h14) (fun _ _ => cwV 0 X.1.2.2.2.2 (lw_V q2991 q2993 qs94 q174 q2994) rfl rfl rfl (by decide +kernel) ⟨(Nat.le_of_ble_eq_true rfl), (Nat.le_of_ble_eq_true rfl)⟩) mH_rc rfl rfl hl.1 rfl rfl (Nat.le_of_ble_eq_true rfl) dX6_ticksMany_14 ?_
        refine J.iinc (k := 3) (lv' := [(3, .int (x3_8 + 1)), (0, .ref mo), (1, .int a1), (2, .int x2_8)]) (w := (x3_8 + 1)) X.1.1 X.1.2.1 dX6_ticksMany_17 hl rfl rfl (by decide) (by first | rfl | simp [va_rf_cat, jcI, jcA, jcJ, jcD, jcF]) (fun ls hl => ?_)
        refine J.pu (fun _ _ _ _ k => lv_goto (tgt := 8) X.1.1 X.1.2.1 dX6_ticksMany_20 (by decide) k) ?_
        exact ih8 (x3_8 + 1) M14 ls (lv_sub hl [1, 2, 3, 0] rfl)
  unfold X6_ticksMany
  refine J.pu (fun _ _ _ _ k => lv_aload_n X.1.1 X.1.2.1 dX6_ticksMany_0 rfl (lv_at hl 0 rfl) k) ?_
  refine J.pu (fun _ _ _ _ k => lv_iconst (v := 0) X.1.1 X.1.2.1 dX6_ticksMany_1 (by decide) k) ?_
  refine J.bind (fun v2 h2 => ?_)
  refine J.cV (q := (RX6, TX6, 26)) (ci := 5) (As := [.int 0]) (rest := []) (s2 := [.int v2]) X ⟨rfl, rfl⟩ (ct_X6_inState l hm σ n M 0) (jrd_of h2) (fun _ _ => cwV 1 X.1.2.2.2.2 (lw_V q2984 q2986 qs93 q174 q2987) rfl rfl rfl (by decide +kernel) ⟨(Nat.le_of_ble_eq_true rfl), (Nat.le_of_ble_eq_true rfl)⟩) mH_rc rfl rfl hl.1 rfl rfl (Nat.le_of_ble_eq_true rfl) dX6_ticksMany_2 ?_
  refine J.istore_n (i := 2) (lv' := [(2, .int v2), (0, .ref mo), (1, .int a1)]) X.1.1 X.1.2.1 dX6_ticksMany_5 rfl hl (by decide) (by first | rfl | simp [va_rf_cat, jcI, jcA, jcJ, jcD, jcF]) (fun ls hl => ?_)
  refine J.pu (fun _ _ _ _ k => lv_iconst (v := 0) X.1.1 X.1.2.1 dX6_ticksMany_6 (by decide) k) ?_
  refine J.istore_n (i := 3) (lv' := [(3, .int 0), (2, .int v2), (0, .ref mo), (1, .int a1)]) X.1.1 X.1.2.1 dX6_ticksMany_7 rfl hl (by decide) (by first | rfl | simp [va_rf_cat, jcI, jcA, jcJ, jcD, jcF]) (fun ls hl => ?_)
  exact L8 v2 n 0 M ls (lv_sub hl [2, 3, 1, 0] rfl)
noncomputable def X6_does (n : Nat) (M : jM) (a1 : Int32) : Option (Int32 × jM) :=
  (mA M 21 a1).bind fun v5 => (mA M 22 a1).bind fun v12 => (mA M 20 a1).bind fun v19 => if v19 = 1 then ((X6_barsPut n M).bind fun v65 => if v65 = 0 then (bd (X6_comes n M v5 v12) fun v74 M74 => if v74 < 0 then (some (0, M74)) else (some (1, M74))) else (some (0, M))) else if v19 = 2 then ((mA M 0 5).bind fun v91 => if 9999 < (v91 + v5) then (some (0, M)) else (bd (X6_ticksMany n M v5) fun v102 M102 => if v102 < 0 then (some (0, M102)) else (some (1, M102)))) else if v19 = 3 then ((mA M 0 4).bind fun v120 => if v120 ≤ v5 then (some (0, M)) else ((X6_barsSlip n M v5).bind fun v126 => if v126 = 0 then (bd (X6_slips n M v5) fun v134 M134 => if v134 < 0 then (some (0, M134)) else (some (1, M134))) else (some (0, M)))) else if v19 = 4 then (bd (X6_empties n M v5) fun v148 M148 => if v148 < 0 then (some (0, M148)) else (some (1, M148))) else if v19 = 5 then (bd (X6_opens n M v5 0) fun v163 M163 => if v163 < 0 then (some (0, M163)) else (some (1, M163))) else if v19 = 6 then (bd (X6_opens n M v5 1) fun v178 M178 => if v178 < 0 then (some (0, M178)) else (some (1, M178))) else if v19 = 7 then (bd (X6_sets n M v5 v12) fun v193 M193 => if v193 < 0 then (some (0, M193)) else (some (1, M193))) else bd (X6_sets n M (-1) v5) fun v208 M208 => if v208 < 0 then (some (0, M208)) else (some (1, M208))
set_option maxHeartbeats 4000000 in
set_option maxRecDepth 100000 in
theorem ct_X6_does (l : Launch) {G : jG} {mo : Nat} {A : Nat → Nat} (hm : mOK G mo A) (σ : jH) (n : Nat) (M : jM) (a1 : Int32) : jCt l G yX6_does (ws_ yX6_does cX6_does 4 (some .boolean)) 7 157 jrI [.ref mo, .int a1] (mH mo A σ M) (mup mo A σ (X6_does n M a1)) := by
  refine jCt.wm (lv := [(0, .ref mo), (1, .int a1)]) (plainFor_of_name (by decide)) (Nat.le_of_ble_eq_true rfl) rfl ?_
  intro t p e s m args below meth c ls X hr hnm hl
  have X : jCx p c cX6_does 4 s m args RX6 G meth := X
  unfold X6_does
  refine J.pu (fun _ _ _ _ k => lv_aload_n X.1.1 X.1.2.1 dX6_does_0 rfl (lv_at hl 0 rfl) k) ?_
  refine J.mgA (k := 21) X (by decide) q2751 rfl rfl dX6_does_1 ?_
  refine J.pu (fun _ _ _ _ k => lv_iload_n X.1.1 X.1.2.1 dX6_does_4 rfl (lv_at hl 1 rfl) k) ?_
  refine J.mld X hm (by decide) dX6_does_5 (fun v5 h5 => ?_)
  refine J.istore_n (i := 2) (lv' := [(2, .int v5), (0, .ref mo), (1, .int a1)]) X.1.1 X.1.2.1 dX6_does_6 rfl hl (by decide) (by first | rfl | simp [va_rf_cat, jcI, jcA, jcJ, jcD, jcF]) (fun ls hl => ?_)
  refine J.pu (fun _ _ _ _ k => lv_aload_n X.1.1 X.1.2.1 dX6_does_7 rfl (lv_at hl 1 rfl) k) ?_
  refine J.mgA (k := 22) X (by decide) q2752 rfl rfl dX6_does_8 ?_
  refine J.pu (fun _ _ _ _ k => lv_iload_n X.1.1 X.1.2.1 dX6_does_11 rfl (lv_at hl 2 rfl) k) ?_
  refine J.mld X hm (by decide) dX6_does_12 (fun v12 h12 => ?_)
  refine J.istore_n (i := 3) (lv' := [(3, .int v12), (2, .int v5), (0, .ref mo), (1, .int a1)]) X.1.1 X.1.2.1 dX6_does_13 rfl hl (by decide) (by first | rfl | simp [va_rf_cat, jcI, jcA, jcJ, jcD, jcF]) (fun ls hl => ?_)
  refine J.pu (fun _ _ _ _ k => lv_aload_n X.1.1 X.1.2.1 dX6_does_14 rfl (lv_at hl 2 rfl) k) ?_
  refine J.mgA (k := 20) X (by decide) q2750 rfl rfl dX6_does_15 ?_
  refine J.pu (fun _ _ _ _ k => lv_iload_n X.1.1 X.1.2.1 dX6_does_18 rfl (lv_at hl 3 rfl) k) ?_
  refine J.mld X hm (by decide) dX6_does_19 (fun v19 h19 => ?_)
  refine J.ite (fun c20_1 => ?_) (fun c20_1 => ?_)
  · refine J.pu (fun _ _ _ _ k => lv_tableIn (tgt := 64) (off := 44) X.1.1 X.1.2.1 dX6_does_20 (by rw [c20_1]; decide) (by rw [c20_1]; decide) (by rw [c20_1]; decide) (by decide) k) ?_
    refine J.pu (fun _ _ _ _ k => lv_aload_n X.1.1 X.1.2.1 dX6_does_64 rfl (lv_at hl 2 rfl) k) ?_
    refine J.bind (fun v65 h65 => ?_)
    refine J.cV (q := (RX6, TX6, 26)) (ci := 5) (As := []) (rest := []) (s2 := [.int v65]) X ⟨rfl, rfl⟩ (ct_X6_barsPut l hm σ n M) (jrd_of h65) (fun _ _ => cwV 0 X.1.2.2.2.2 (lw_V q2952 q2954 qs85 q174 q2955) rfl rfl rfl (by decide +kernel) ⟨(Nat.le_of_ble_eq_true rfl), (Nat.le_of_ble_eq_true rfl)⟩) mH_rc rfl rfl hl.1 rfl rfl (Nat.le_of_ble_eq_true rfl) dX6_does_65 ?_
    refine J.br (fun _ _ _ _ ka kb => lv_if_ne (tgt := 84) X.1.1 X.1.2.1 dX6_does_68 (by decide) kb ka) (fun c68 => ?_) (fun c68 => ?_)
    · refine J.pu (fun _ _ _ _ k => lv_aload_n X.1.1 X.1.2.1 dX6_does_71 rfl (lv_at hl 2 rfl) k) ?_
      refine J.pu (fun _ _ _ _ k => lv_iload_n X.1.1 X.1.2.1 dX6_does_72 rfl (lv_at hl 1 rfl) k) ?_
      refine J.pu (fun _ _ _ _ k => lv_iload_n X.1.1 X.1.2.1 dX6_does_73 rfl (lv_at hl 0 rfl) k) ?_
      refine J.bd' (fun v74 M74 h74 => ?_)
      refine J.cV (q := (RX6, TX6, 26)) (ci := 5) (As := [.int v5, .int v12]) (rest := []) (s2 := [.int v74]) X ⟨rfl, rfl⟩ (ct_X6_comes l hm σ n M v5 v12) (mup_of h74) (fun _ _ => cwV 2 X.1.2.2.2.2 (lw_V q2968 q2970 qs89 q174 q2971) rfl rfl rfl (by decide +kernel) ⟨(Nat.le_of_ble_eq_true rfl), (Nat.le_of_ble_eq_true rfl)⟩) mH_rc rfl rfl hl.1 rfl rfl (Nat.le_of_ble_eq_true rfl) dX6_does_74 ?_
      refine J.br (fun _ _ _ _ ka kb => lv_if_lt (tgt := 84) X.1.1 X.1.2.1 dX6_does_77 (by decide) ka kb) (fun c77 => ?_) (fun c77 => ?_)
      · refine J.pu (fun _ _ _ _ k => lv_iconst (v := 0) X.1.1 X.1.2.1 dX6_does_84 (by decide) k) ?_
        exact J.zret (vr := fun t : Int32 × jM => jrI t.1) (fin := fun r : Int32 × jM => mH mo A σ r.2) (t := t) X hr (by decide) (by rfl) (by rfl) dX6_does_85
      · refine J.pu (fun _ _ _ _ k => lv_iconst (v := 1) X.1.1 X.1.2.1 dX6_does_80 (by decide) k) ?_
        refine J.pu (fun _ _ _ _ k => lv_goto (tgt := 85) X.1.1 X.1.2.1 dX6_does_81 (by decide) k) ?_
        exact J.zret (vr := fun t : Int32 × jM => jrI t.1) (fin := fun r : Int32 × jM => mH mo A σ r.2) (t := t) X hr (by decide) (by rfl) (by rfl) dX6_does_85
    · refine J.pu (fun _ _ _ _ k => lv_iconst (v := 0) X.1.1 X.1.2.1 dX6_does_84 (by decide) k) ?_
      exact J.zret (vr := fun t : Int32 × jM => jrI t.1) (fin := fun r : Int32 × jM => mH mo A σ r.2) (t := t) X hr (by decide) (by rfl) (by rfl) dX6_does_85
  refine J.ite (fun c20_2 => ?_) (fun c20_2 => ?_)
  · refine J.pu (fun _ _ _ _ k => lv_tableIn (tgt := 86) (off := 66) X.1.1 X.1.2.1 dX6_does_20 (by rw [c20_2]; decide) (by rw [c20_2]; decide) (by rw [c20_2]; decide) (by decide) k) ?_
    refine J.pu (fun _ _ _ _ k => lv_aload_n X.1.1 X.1.2.1 dX6_does_86 rfl (lv_at hl 2 rfl) k) ?_
    refine J.mgA (k := 0) X (by decide) q2730 rfl rfl dX6_does_87 ?_
    refine J.pu (fun _ _ _ _ k => lv_iconst (v := 5) X.1.1 X.1.2.1 dX6_does_90 (by decide) k) ?_
    refine J.mld X hm (by decide) dX6_does_91 (fun v91 h91 => ?_)
    refine J.pu (fun _ _ _ _ k => lv_iload_n X.1.1 X.1.2.1 dX6_does_92 rfl (lv_at hl 1 rfl) k) ?_
    refine J.pu (fun _ _ _ _ k => lv_iadd X.1.1 X.1.2.1 dX6_does_93 k) ?_
    refine J.pu (fun _ _ _ _ k => lv_sipush (v := 9999) X.1.1 X.1.2.1 dX6_does_94 (by decide) k) ?_
    refine J.br (fun _ _ _ _ ka kb => lv_icmp_gt (tgt := 112) X.1.1 X.1.2.1 dX6_does_97 (by decide) ka kb) (fun c97 => ?_) (fun c97 => ?_)
    · refine J.pu (fun _ _ _ _ k => lv_iconst (v := 0) X.1.1 X.1.2.1 dX6_does_112 (by decide) k) ?_
      exact J.zret (vr := fun t : Int32 × jM => jrI t.1) (fin := fun r : Int32 × jM => mH mo A σ r.2) (t := t) X hr (by decide) (by rfl) (by rfl) dX6_does_113
    · refine J.pu (fun _ _ _ _ k => lv_aload_n X.1.1 X.1.2.1 dX6_does_100 rfl (lv_at hl 2 rfl) k) ?_
      refine J.pu (fun _ _ _ _ k => lv_iload_n X.1.1 X.1.2.1 dX6_does_101 rfl (lv_at hl 1 rfl) k) ?_
      refine J.bd' (fun v102 M102 h102 => ?_)
      refine J.cV (q := (RX6, TX6, 26)) (ci := 5) (As := [.int v5]) (rest := []) (s2 := [.int v102]) X ⟨rfl, rfl⟩ (ct_X6_ticksMany l hm σ n M v5) (mup_of h102) (fun _ _ => cwV 1 X.1.2.2.2.2 (lw_V q2980 q2982 qs92 q174 q2983) rfl rfl rfl (by decide +kernel) ⟨(Nat.le_of_ble_eq_true rfl), (Nat.le_of_ble_eq_true rfl)⟩) mH_rc rfl rfl hl.1 rfl rfl (Nat.le_of_ble_eq_true rfl) dX6_does_102 ?_
      refine J.br (fun _ _ _ _ ka kb => lv_if_lt (tgt := 112) X.1.1 X.1.2.1 dX6_does_105 (by decide) ka kb) (fun c105 => ?_) (fun c105 => ?_)
      · refine J.pu (fun _ _ _ _ k => lv_iconst (v := 0) X.1.1 X.1.2.1 dX6_does_112 (by decide) k) ?_
        exact J.zret (vr := fun t : Int32 × jM => jrI t.1) (fin := fun r : Int32 × jM => mH mo A σ r.2) (t := t) X hr (by decide) (by rfl) (by rfl) dX6_does_113
      · refine J.pu (fun _ _ _ _ k => lv_iconst (v := 1) X.1.1 X.1.2.1 dX6_does_108 (by decide) k) ?_
        refine J.pu (fun _ _ _ _ k => lv_goto (tgt := 113) X.1.1 X.1.2.1 dX6_does_109 (by decide) k) ?_
        exact J.zret (vr := fun t : Int32 × jM => jrI t.1) (fin := fun r : Int32 × jM => mH mo A σ r.2) (t := t) X hr (by decide) (by rfl) (by rfl) dX6_does_113
  refine J.ite (fun c20_3 => ?_) (fun c20_3 => ?_)
  · refine J.pu (fun _ _ _ _ k => lv_tableIn (tgt := 114) (off := 94) X.1.1 X.1.2.1 dX6_does_20 (by rw [c20_3]; decide) (by rw [c20_3]; decide) (by rw [c20_3]; decide) (by decide) k) ?_
    refine J.pu (fun _ _ _ _ k => lv_iload_n X.1.1 X.1.2.1 dX6_does_114 rfl (lv_at hl 1 rfl) k) ?_
    refine J.pu (fun _ _ _ _ k => lv_aload_n X.1.1 X.1.2.1 dX6_does_115 rfl (lv_at hl 2 rfl) k) ?_
    refine J.mgA (k := 0) X (by decide) q2730 rfl rfl dX6_does_116 ?_
    refine J.pu (fun _ _ _ _ k => lv_iconst (v := 4) X.1.1 X.1.2.1 dX6_does_119 (by decide) k) ?_
    refine J.mld X hm (by decide) dX6_does_120 (fun v120 h120 => ?_)
    refine J.br (fun _ _ _ _ ka kb => lv_icmp_ge (tgt := 144) X.1.1 X.1.2.1 dX6_does_121 (by decide) ka kb) (fun c121 => ?_) (fun c121 => ?_)
    · refine J.pu (fun _ _ _ _ k => lv_iconst (v := 0) X.1.1 X.1.2.1 dX6_does_144 (by decide) k) ?_
      exact J.zret (vr := fun t : Int32 × jM => jrI t.1) (fin := fun r : Int32 × jM => mH mo A σ r.2) (t := t) X hr (by decide) (by rfl) (by rfl) dX6_does_145
    · refine J.pu (fun _ _ _ _ k => lv_aload_n X.1.1 X.1.2.1 dX6_does_124 rfl (lv_at hl 2 rfl) k) ?_
      refine J.pu (fun _ _ _ _ k => lv_iload_n X.1.1 X.1.2.1 dX6_does_125 rfl (lv_at hl 1 rfl) k) ?_
      refine J.bind (fun v126 h126 => ?_)
      refine J.cV (q := (RX6, TX6, 26)) (ci := 5) (As := [.int v5]) (rest := []) (s2 := [.int v126]) X ⟨rfl, rfl⟩ (ct_X6_barsSlip l hm σ n M v5) (jrd_of h126) (fun _ _ => cwV 1 X.1.2.2.2.2 (lw_V q3043 q3045 qs106 q174 q3046) rfl rfl rfl (by decide +kernel) ⟨(Nat.le_of_ble_eq_true rfl), (Nat.le_of_ble_eq_true rfl)⟩) mH_rc rfl rfl hl.1 rfl rfl (Nat.le_of_ble_eq_true rfl) dX6_does_126 ?_
      refine J.br (fun _ _ _ _ ka kb => lv_if_ne (tgt := 144) X.1.1 X.1.2.1 dX6_does_129 (by decide) kb ka) (fun c129 => ?_) (fun c129 => ?_)
      · refine J.pu (fun _ _ _ _ k => lv_aload_n X.1.1 X.1.2.1 dX6_does_132 rfl (lv_at hl 2 rfl) k) ?_
        refine J.pu (fun _ _ _ _ k => lv_iload_n X.1.1 X.1.2.1 dX6_does_133 rfl (lv_at hl 1 rfl) k) ?_
        refine J.bd' (fun v134 M134 h134 => ?_)
        refine J.cV (q := (RX6, TX6, 26)) (ci := 5) (As := [.int v5]) (rest := []) (s2 := [.int v134]) X ⟨rfl, rfl⟩ (ct_X6_slips l hm σ n M v5) (mup_of h134) (fun _ _ => cwV 1 X.1.2.2.2.2 (lw_V q3047 q3049 qs107 q174 q3050) rfl rfl rfl (by decide +kernel) ⟨(Nat.le_of_ble_eq_true rfl), (Nat.le_of_ble_eq_true rfl)⟩) mH_rc rfl rfl hl.1 rfl rfl (Nat.le_of_ble_eq_true rfl) dX6_does_134 ?_
        refine J.br (fun _ _ _ _ ka kb => lv_if_lt (tgt := 144) X.1.1 X.1.2.1 dX6_does_137 (by decide) ka kb) (fun c137 => ?_) (fun c137 => ?_)
        · refine J.pu (fun _ _ _ _ k => lv_iconst (v := 0) X.1.1 X.1.2.1 dX6_does_144 (by decide) k) ?_
          exact J.zret (vr := fun t : Int32 × jM => jrI t.1) (fin := fun r : Int32 × jM => mH mo A σ r.2) (t := t) X hr (by decide) (by rfl) (by rfl) dX6_does_145
        · refine J.pu (fun _ _ _ _ k => lv_iconst (v := 1) X.1.1 X.1.2.1 dX6_does_140 (by decide) k) ?_
          refine J.pu (fun _ _ _ _ k => lv_goto (tgt := 145) X.1.1 X.1.2.1 dX6_does_141 (by decide) k) ?_
          exact J.zret (vr := fun t : Int32 × jM => jrI t.1) (fin := fun r : Int32 × jM => mH mo A σ r.2) (t := t) X hr (by decide) (by rfl) (by rfl) dX6_does_145
      · refine J.pu (fun _ _ _ _ k => lv_iconst (v := 0) X.1.1 X.1.2.1 dX6_does_144 (by decide) k) ?_
        exact J.zret (vr := fun t : Int32 × jM => jrI t.1) (fin := fun r : Int32 × jM => mH mo A σ r.2) (t := t) X hr (by decide) (by rfl) (by rfl) dX6_does_145
  refine J.ite (fun c20_4 => ?_) (fun c20_4 => ?_)
  · refine J.pu (fun _ _ _ _ k => lv_tableIn (tgt := 146) (off := 126) X.1.1 X.1.2.1 dX6_does_20 (by rw [c20_4]; decide) (by rw [c20_4]; decide) (by rw [c20_4]; decide) (by decide) k) ?_
    refine J.pu (fun _ _ _ _ k => lv_aload_n X.1.1 X.1.2.1 dX6_does_146 rfl (lv_at hl 2 rfl) k) ?_
    refine J.pu (fun _ _ _ _ k => lv_iload_n X.1.1 X.1.2.1 dX6_does_147 rfl (lv_at hl 1 rfl) k) ?_
    refine J.bd' (fun v148 M148 h148 => ?_)
    refine J.cV (q := (RX6, TX6, 26)) (ci := 5) (As := [.int v5]) (rest := []) (s2 := [.int v148]) X ⟨rfl, rfl⟩ (ct_X6_empties l hm σ n M v5) (mup_of h148) (fun _ _ => cwV 1 X.1.2.2.2.2 (lw_V q3051 q3053 qs108 q174 q3054) rfl rfl rfl (by decide +kernel) ⟨(Nat.le_of_ble_eq_true rfl), (Nat.le_of_ble_eq_true rfl)⟩) mH_rc rfl rfl hl.1 rfl rfl (Nat.le_of_ble_eq_true rfl) dX6_does_148 ?_
    refine J.br (fun _ _ _ _ ka kb => lv_if_lt (tgt := 158) X.1.1 X.1.2.1 dX6_does_151 (by decide) ka kb) (fun c151 => ?_) (fun c151 => ?_)
    · refine J.pu (fun _ _ _ _ k => lv_iconst (v := 0) X.1.1 X.1.2.1 dX6_does_158 (by decide) k) ?_
      exact J.zret (vr := fun t : Int32 × jM => jrI t.1) (fin := fun r : Int32 × jM => mH mo A σ r.2) (t := t) X hr (by decide) (by rfl) (by rfl) dX6_does_159
    · refine J.pu (fun _ _ _ _ k => lv_iconst (v := 1) X.1.1 X.1.2.1 dX6_does_154 (by decide) k) ?_
      refine J.pu (fun _ _ _ _ k => lv_goto (tgt := 159) X.1.1 X.1.2.1 dX6_does_155 (by decide) k) ?_
      exact J.zret (vr := fun t : Int32 × jM => jrI t.1) (fin := fun r : Int32 × jM => mH mo A σ r.2) (t := t) X hr (by decide) (by rfl) (by rfl) dX6_does_159
  refine J.ite (fun c20_5 => ?_) (fun c20_5 => ?_)
  · refine J.pu (fun _ _ _ _ k => lv_tableIn (tgt := 160) (off := 140) X.1.1 X.1.2.1 dX6_does_20 (by rw [c20_5]; decide) (by rw [c20_5]; decide) (by rw [c20_5]; decide) (by decide) k) ?_
    refine J.pu (fun _ _ _ _ k => lv_aload_n X.1.1 X.1.2.1 dX6_does_160 rfl (lv_at hl 2 rfl) k) ?_
    refine J.pu (fun _ _ _ _ k => lv_iload_n X.1.1 X.1.2.1 dX6_does_161 rfl (lv_at hl 1 rfl) k) ?_
    refine J.pu (fun _ _ _ _ k => lv_iconst (v := 0) X.1.1 X.1.2.1 dX6_does_162 (by decide) k) ?_
    refine J.bd' (fun v163 M163 h163 => ?_)
    refine J.cV (q := (RX6, TX6, 26)) (ci := 5) (As := [.int v5, .int 0]) (rest := []) (s2 := [.int v163]) X ⟨rfl, rfl⟩ (ct_X6_opens l hm σ n M v5 0) (mup_of h163) (fun _ _ => cwV 2 X.1.2.2.2.2 (lw_V q3055 q3057 qs109 q174 q3058) rfl rfl rfl (by decide +kernel) ⟨(Nat.le_of_ble_eq_true rfl), (Nat.le_of_ble_eq_true rfl)⟩) mH_rc rfl rfl hl.1 rfl rfl (Nat.le_of_ble_eq_true rfl) dX6_does_163 ?_
    refine J.br (fun _ _ _ _ ka kb => lv_if_lt (tgt := 173) X.1.1 X.1.2.1 dX6_does_166 (by decide) ka kb) (fun c166 => ?_) (fun c166 => ?_)
    · refine J.pu (fun _ _ _ _ k => lv_iconst (v := 0) X.1.1 X.1.2.1 dX6_does_173 (by decide) k) ?_
      exact J.zret (vr := fun t : Int32 × jM => jrI t.1) (fin := fun r : Int32 × jM => mH mo A σ r.2) (t := t) X hr (by decide) (by rfl) (by rfl) dX6_does_174
    · refine J.pu (fun _ _ _ _ k => lv_iconst (v := 1) X.1.1 X.1.2.1 dX6_does_169 (by decide) k) ?_
      refine J.pu (fun _ _ _ _ k => lv_goto (tgt := 174) X.1.1 X.1.2.1 dX6_does_170 (by decide) k) ?_
      exact J.zret (vr := fun t : Int32 × jM => jrI t.1) (fin := fun r : Int32 × jM => mH mo A σ r.2) (t := t) X hr (by decide) (by rfl) (by rfl) dX6_does_174
  refine J.ite (fun c20_6 => ?_) (fun c20_6 => ?_)
  · refine J.pu (fun _ _ _ _ k => lv_tableIn (tgt := 175) (off := 155) X.1.1 X.1.2.1 dX6_does_20 (by rw [c20_6]; decide) (by rw [c20_6]; decide) (by rw [c20_6]; decide) (by decide) k) ?_
    refine J.pu (fun _ _ _ _ k => lv_aload_n X.1.1 X.1.2.1 dX6_does_175 rfl (lv_at hl 2 rfl) k) ?_
    refine J.pu (fun _ _ _ _ k => lv_iload_n X.1.1 X.1.2.1 dX6_does_176 rfl (lv_at hl 1 rfl) k) ?_
    refine J.pu (fun _ _ _ _ k => lv_iconst (v := 1) X.1.1 X.1.2.1 dX6_does_177 (by decide) k) ?_
    refine J.bd' (fun v178 M178 h178 => ?_)
    refine J.cV (q := (RX6, TX6, 26)) (ci := 5) (As := [.int v5, .int 1]) (rest := []) (s2 := [.int v178]) X ⟨rfl, rfl⟩ (ct_X6_opens l hm σ n M v5 1) (mup_of h178) (fun _ _ => cwV 2 X.1.2.2.2.2 (lw_V q3055 q3057 qs109 q174 q3058) rfl rfl rfl (by decide +kernel) ⟨(Nat.le_of_ble_eq_true rfl), (Nat.le_of_ble_eq_true rfl)⟩) mH_rc rfl rfl hl.1 rfl rfl (Nat.le_of_ble_eq_true rfl) dX6_does_178 ?_
    refine J.br (fun _ _ _ _ ka kb => lv_if_lt (tgt := 188) X.1.1 X.1.2.1 dX6_does_181 (by decide) ka kb) (fun c181 => ?_) (fun c181 => ?_)
    · refine J.pu (fun _ _ _ _ k => lv_iconst (v := 0) X.1.1 X.1.2.1 dX6_does_188 (by decide) k) ?_
      exact J.zret (vr := fun t : Int32 × jM => jrI t.1) (fin := fun r : Int32 × jM => mH mo A σ r.2) (t := t) X hr (by decide) (by rfl) (by rfl) dX6_does_189
    · refine J.pu (fun _ _ _ _ k => lv_iconst (v := 1) X.1.1 X.1.2.1 dX6_does_184 (by decide) k) ?_
      refine J.pu (fun _ _ _ _ k => lv_goto (tgt := 189) X.1.1 X.1.2.1 dX6_does_185 (by decide) k) ?_
      exact J.zret (vr := fun t : Int32 × jM => jrI t.1) (fin := fun r : Int32 × jM => mH mo A σ r.2) (t := t) X hr (by decide) (by rfl) (by rfl) dX6_does_189
  refine J.ite (fun c20_7 => ?_) (fun c20_7 => ?_)
  · refine J.pu (fun _ _ _ _ k => lv_tableIn (tgt := 190) (off := 170) X.1.1 X.1.2.1 dX6_does_20 (by rw [c20_7]; decide) (by rw [c20_7]; decide) (by rw [c20_7]; decide) (by decide) k) ?_
    refine J.pu (fun _ _ _ _ k => lv_aload_n X.1.1 X.1.2.1 dX6_does_190 rfl (lv_at hl 2 rfl) k) ?_
    refine J.pu (fun _ _ _ _ k => lv_iload_n X.1.1 X.1.2.1 dX6_does_191 rfl (lv_at hl 1 rfl) k) ?_
    refine J.pu (fun _ _ _ _ k => lv_iload_n X.1.1 X.1.2.1 dX6_does_192 rfl (lv_at hl 0 rfl) k) ?_
    refine J.bd' (fun v193 M193 h193 => ?_)
    refine J.cV (q := (RX6, TX6, 26)) (ci := 5) (As := [.int v5, .int v12]) (rest := []) (s2 := [.int v193]) X ⟨rfl, rfl⟩ (ct_X6_sets l hm σ n M v5 v12) (mup_of h193) (fun _ _ => cwV 2 X.1.2.2.2.2 (lw_V q3059 q3061 qs110 q174 q3062) rfl rfl rfl (by decide +kernel) ⟨(Nat.le_of_ble_eq_true rfl), (Nat.le_of_ble_eq_true rfl)⟩) mH_rc rfl rfl hl.1 rfl rfl (Nat.le_of_ble_eq_true rfl) dX6_does_193 ?_
    refine J.br (fun _ _ _ _ ka kb => lv_if_lt (tgt := 203) X.1.1 X.1.2.1 dX6_does_196 (by decide) ka kb) (fun c196 => ?_) (fun c196 => ?_)
    · refine J.pu (fun _ _ _ _ k => lv_iconst (v := 0) X.1.1 X.1.2.1 dX6_does_203 (by decide) k) ?_
      exact J.zret (vr := fun t : Int32 × jM => jrI t.1) (fin := fun r : Int32 × jM => mH mo A σ r.2) (t := t) X hr (by decide) (by rfl) (by rfl) dX6_does_204
    · refine J.pu (fun _ _ _ _ k => lv_iconst (v := 1) X.1.1 X.1.2.1 dX6_does_199 (by decide) k) ?_
      refine J.pu (fun _ _ _ _ k => lv_goto (tgt := 204) X.1.1 X.1.2.1 dX6_does_200 (by decide) k) ?_
      exact J.zret (vr := fun t : Int32 × jM => jrI t.1) (fin := fun r : Int32 × jM => mH mo A σ r.2) (t := t) X hr (by decide) (by rfl) (by rfl) dX6_does_204
  by_cases b20 : v19.toInt < 1 ∨ 7 < v19.toInt
  · refine J.pu (fun _ _ _ _ k => lv_tableOut (tgt := 205) X.1.1 X.1.2.1 dX6_does_20 b20 (by decide) k) ?_
    refine J.pu (fun _ _ _ _ k => lv_aload_n X.1.1 X.1.2.1 dX6_does_205 rfl (lv_at hl 2 rfl) k) ?_
    refine J.pu (fun _ _ _ _ k => lv_iconst (v := (-1)) X.1.1 X.1.2.1 dX6_does_206 (by decide) k) ?_
    refine J.pu (fun _ _ _ _ k => lv_iload_n X.1.1 X.1.2.1 dX6_does_207 rfl (lv_at hl 1 rfl) k) ?_
    refine J.bd' (fun v208 M208 h208 => ?_)
    refine J.cV (q := (RX6, TX6, 26)) (ci := 5) (As := [.int (-1), .int v5]) (rest := []) (s2 := [.int v208]) X ⟨rfl, rfl⟩ (ct_X6_sets l hm σ n M (-1) v5) (mup_of h208) (fun _ _ => cwV 2 X.1.2.2.2.2 (lw_V q3059 q3061 qs110 q174 q3062) rfl rfl rfl (by decide +kernel) ⟨(Nat.le_of_ble_eq_true rfl), (Nat.le_of_ble_eq_true rfl)⟩) mH_rc rfl rfl hl.1 rfl rfl (Nat.le_of_ble_eq_true rfl) dX6_does_208 ?_
    refine J.br (fun _ _ _ _ ka kb => lv_if_lt (tgt := 218) X.1.1 X.1.2.1 dX6_does_211 (by decide) ka kb) (fun c211 => ?_) (fun c211 => ?_)
    · refine J.pu (fun _ _ _ _ k => lv_iconst (v := 0) X.1.1 X.1.2.1 dX6_does_218 (by decide) k) ?_
      exact J.zret (vr := fun t : Int32 × jM => jrI t.1) (fin := fun r : Int32 × jM => mH mo A σ r.2) (t := t) X hr (by decide) (by rfl) (by rfl) dX6_does_219
    · refine J.pu (fun _ _ _ _ k => lv_iconst (v := 1) X.1.1 X.1.2.1 dX6_does_214 (by decide) k) ?_
      refine J.pu (fun _ _ _ _ k => lv_goto (tgt := 219) X.1.1 X.1.2.1 dX6_does_215 (by decide) k) ?_
      exact J.zret (vr := fun t : Int32 × jM => jrI t.1) (fin := fun r : Int32 × jM => mH mo A σ r.2) (t := t) X hr (by decide) (by rfl) (by rfl) dX6_does_219
  · exfalso; have := lv_neT c20_1 (a := 1) rfl; have := lv_neT c20_2 (a := 2) rfl; have := lv_neT c20_3 (a := 3) rfl; have := lv_neT c20_4 (a := 4) rfl; have := lv_neT c20_5 (a := 5) rfl; have := lv_neT c20_6 (a := 6) rfl; have := lv_neT c20_7 (a := 7) rfl; omega
noncomputable def X6_scriptHere (n : Nat) (M : jM) : Option (Int32) :=
  (X6_isWord n M 39).bind fun v4 => if v4 = 0 then ((X6_isWord n M 40).bind fun v16 => if v16 = 0 then ((X6_isWord n M 41).bind fun v28 => if v28 = 0 then ((X6_isWord n M 42).bind fun v40 => if v40 = 0 then ((X6_isWord n M 43).bind fun v52 => if v52 = 0 then ((X6_isWord n M 44).bind fun v64 => if v64 = 0 then ((X6_isWord n M 45).bind fun v77 => if v77 = 0 then ((X6_isWord n M 38).bind fun v89 => if v89 = 0 then (some 0) else (some 8)) else (some 7)) else (some 6)) else (some 5)) else (some 4)) else (some 3)) else (some 2)) else (some 1)
set_option maxHeartbeats 4000000 in
set_option maxRecDepth 100000 in
theorem ct_X6_scriptHere (l : Launch) {G : jG} {mo : Nat} {A : Nat → Nat} (hm : mOK G mo A) (σ : jH) (hs : jKS G σ) (n : Nat) (M : jM) : jCt l G yX6_scriptHere (ws_ yX6_scriptHere cX6_scriptHere 1 (some .int)) 8 243 jrI [.ref mo] (mH mo A σ M) (jrd (mH mo A σ M) (X6_scriptHere n M)) := by
  refine jCt.rd (lv := [(0, .ref mo)]) (plainFor_of_name (by decide)) (Nat.le_of_ble_eq_true rfl) rfl ?_
  intro t p e s m args below meth c ls X hr hnm hl
  have X : jCx p c cX6_scriptHere 1 s m args RX6 G meth := X
  unfold X6_scriptHere
  refine J.pu (fun _ _ _ _ k => lv_aload_n X.1.1 X.1.2.1 dX6_scriptHere_0 rfl (lv_at hl 0 rfl) k) ?_
  refine J.pu (fun _ _ _ _ k => W.ldcwS (i := 39) X rfl dX6_scriptHere_1 k) ?_
  refine J.bind (fun v4 h4 => ?_)
  refine J.cV (q := (RX6, TX6, 26)) (ci := 5) (As := [va_rf (G.2.2.2 39)]) (rest := []) (s2 := [.int v4]) X ⟨rfl, rfl⟩ (ct_X6_isWord l hm σ hs n M 39 (by decide)) (jrd_of h4) (fun _ _ => cwV 1 X.1.2.2.2.2 (lw_V q2860 q2862 qs66 q174 q2863) rfl rfl rfl (by decide +kernel) ⟨(Nat.le_of_ble_eq_true rfl), (Nat.le_of_ble_eq_true rfl)⟩) mH_rc rfl rfl hl.1 rfl rfl (Nat.le_of_ble_eq_true rfl) dX6_scriptHere_4 ?_
  refine J.br (fun _ _ _ _ ka kb => lv_if_eq (tgt := 12) X.1.1 X.1.2.1 dX6_scriptHere_7 (by decide) ka kb) (fun c7 => ?_) (fun c7 => ?_)
  · refine J.pu (fun _ _ _ _ k => lv_aload_n X.1.1 X.1.2.1 dX6_scriptHere_12 rfl (lv_at hl 0 rfl) k) ?_
    refine J.pu (fun _ _ _ _ k => W.ldcwS (i := 40) X rfl dX6_scriptHere_13 k) ?_
    refine J.bind (fun v16 h16 => ?_)
    refine J.cV (q := (RX6, TX6, 26)) (ci := 5) (As := [va_rf (G.2.2.2 40)]) (rest := []) (s2 := [.int v16]) X ⟨rfl, rfl⟩ (ct_X6_isWord l hm σ hs n M 40 (by decide)) (jrd_of h16) (fun _ _ => cwV 1 X.1.2.2.2.2 (lw_V q2860 q2862 qs66 q174 q2863) rfl rfl rfl (by decide +kernel) ⟨(Nat.le_of_ble_eq_true rfl), (Nat.le_of_ble_eq_true rfl)⟩) mH_rc rfl rfl hl.1 rfl rfl (Nat.le_of_ble_eq_true rfl) dX6_scriptHere_16 ?_
    refine J.br (fun _ _ _ _ ka kb => lv_if_eq (tgt := 24) X.1.1 X.1.2.1 dX6_scriptHere_19 (by decide) ka kb) (fun c19 => ?_) (fun c19 => ?_)
    · refine J.pu (fun _ _ _ _ k => lv_aload_n X.1.1 X.1.2.1 dX6_scriptHere_24 rfl (lv_at hl 0 rfl) k) ?_
      refine J.pu (fun _ _ _ _ k => W.ldcwS (i := 41) X rfl dX6_scriptHere_25 k) ?_
      refine J.bind (fun v28 h28 => ?_)
      refine J.cV (q := (RX6, TX6, 26)) (ci := 5) (As := [va_rf (G.2.2.2 41)]) (rest := []) (s2 := [.int v28]) X ⟨rfl, rfl⟩ (ct_X6_isWord l hm σ hs n M 41 (by decide)) (jrd_of h28) (fun _ _ => cwV 1 X.1.2.2.2.2 (lw_V q2860 q2862 qs66 q174 q2863) rfl rfl rfl (by decide +kernel) ⟨(Nat.le_of_ble_eq_true rfl), (Nat.le_of_ble_eq_true rfl)⟩) mH_rc rfl rfl hl.1 rfl rfl (Nat.le_of_ble_eq_true rfl) dX6_scriptHere_28 ?_
      refine J.br (fun _ _ _ _ ka kb => lv_if_eq (tgt := 36) X.1.1 X.1.2.1 dX6_scriptHere_31 (by decide) ka kb) (fun c31 => ?_) (fun c31 => ?_)
      · refine J.pu (fun _ _ _ _ k => lv_aload_n X.1.1 X.1.2.1 dX6_scriptHere_36 rfl (lv_at hl 0 rfl) k) ?_
        refine J.pu (fun _ _ _ _ k => W.ldcwS (i := 42) X rfl dX6_scriptHere_37 k) ?_
        refine J.bind (fun v40 h40 => ?_)
        refine J.cV (q := (RX6, TX6, 26)) (ci := 5) (As := [va_rf (G.2.2.2 42)]) (rest := []) (s2 := [.int v40]) X ⟨rfl, rfl⟩ (ct_X6_isWord l hm σ hs n M 42 (by decide)) (jrd_of h40) (fun _ _ => cwV 1 X.1.2.2.2.2 (lw_V q2860 q2862 qs66 q174 q2863) rfl rfl rfl (by decide +kernel) ⟨(Nat.le_of_ble_eq_true rfl), (Nat.le_of_ble_eq_true rfl)⟩) mH_rc rfl rfl hl.1 rfl rfl (Nat.le_of_ble_eq_true rfl) dX6_scriptHere_40 ?_
        refine J.br (fun _ _ _ _ ka kb => lv_if_eq (tgt := 48) X.1.1 X.1.2.1 dX6_scriptHere_43 (by decide) ka kb) (fun c43 => ?_) (fun c43 => ?_)
        · refine J.pu (fun _ _ _ _ k => lv_aload_n X.1.1 X.1.2.1 dX6_scriptHere_48 rfl (lv_at hl 0 rfl) k) ?_
          refine J.pu (fun _ _ _ _ k => W.ldcwS (i := 43) X rfl dX6_scriptHere_49 k) ?_
          refine J.bind (fun v52 h52 => ?_)
          refine J.cV (q := (RX6, TX6, 26)) (ci := 5) (As := [va_rf (G.2.2.2 43)]) (rest := []) (s2 := [.int v52]) X ⟨rfl, rfl⟩ (ct_X6_isWord l hm σ hs n M 43 (by decide)) (jrd_of h52) (fun _ _ => cwV 1 X.1.2.2.2.2 (lw_V q2860 q2862 qs66 q174 q2863) rfl rfl rfl (by decide +kernel) ⟨(Nat.le_of_ble_eq_true rfl), (Nat.le_of_ble_eq_true rfl)⟩) mH_rc rfl rfl hl.1 rfl rfl (Nat.le_of_ble_eq_true rfl) dX6_scriptHere_52 ?_
          refine J.br (fun _ _ _ _ ka kb => lv_if_eq (tgt := 60) X.1.1 X.1.2.1 dX6_scriptHere_55 (by decide) ka kb) (fun c55 => ?_) (fun c55 => ?_)
          · refine J.pu (fun _ _ _ _ k => lv_aload_n X.1.1 X.1.2.1 dX6_scriptHere_60 rfl (lv_at hl 0 rfl) k) ?_
            refine J.pu (fun _ _ _ _ k => W.ldcwS (i := 44) X rfl dX6_scriptHere_61 k) ?_
            refine J.bind (fun v64 h64 => ?_)
            refine J.cV (q := (RX6, TX6, 26)) (ci := 5) (As := [va_rf (G.2.2.2 44)]) (rest := []) (s2 := [.int v64]) X ⟨rfl, rfl⟩ (ct_X6_isWord l hm σ hs n M 44 (by decide)) (jrd_of h64) (fun _ _ => cwV 1 X.1.2.2.2.2 (lw_V q2860 q2862 qs66 q174 q2863) rfl rfl rfl (by decide +kernel) ⟨(Nat.le_of_ble_eq_true rfl), (Nat.le_of_ble_eq_true rfl)⟩) mH_rc rfl rfl hl.1 rfl rfl (Nat.le_of_ble_eq_true rfl) dX6_scriptHere_64 ?_
            refine J.br (fun _ _ _ _ ka kb => lv_if_eq (tgt := 73) X.1.1 X.1.2.1 dX6_scriptHere_67 (by decide) ka kb) (fun c67 => ?_) (fun c67 => ?_)
            · refine J.pu (fun _ _ _ _ k => lv_aload_n X.1.1 X.1.2.1 dX6_scriptHere_73 rfl (lv_at hl 0 rfl) k) ?_
              refine J.pu (fun _ _ _ _ k => W.ldcwS (i := 45) X rfl dX6_scriptHere_74 k) ?_
              refine J.bind (fun v77 h77 => ?_)
              refine J.cV (q := (RX6, TX6, 26)) (ci := 5) (As := [va_rf (G.2.2.2 45)]) (rest := []) (s2 := [.int v77]) X ⟨rfl, rfl⟩ (ct_X6_isWord l hm σ hs n M 45 (by decide)) (jrd_of h77) (fun _ _ => cwV 1 X.1.2.2.2.2 (lw_V q2860 q2862 qs66 q174 q2863) rfl rfl rfl (by decide +kernel) ⟨(Nat.le_of_ble_eq_true rfl), (Nat.le_of_ble_eq_true rfl)⟩) mH_rc rfl rfl hl.1 rfl rfl (Nat.le_of_ble_eq_true rfl) dX6_scriptHere_77 ?_
              refine J.br (fun _ _ _ _ ka kb => lv_if_eq (tgt := 86) X.1.1 X.1.2.1 dX6_scriptHere_80 (by decide) ka kb) (fun c80 => ?_) (fun c80 => ?_)
              · refine J.pu (fun _ _ _ _ k => lv_aload_n X.1.1 X.1.2.1 dX6_scriptHere_86 rfl (lv_at hl 0 rfl) k) ?_
                refine J.pu (fun _ _ _ _ k => W.ldcS (i := 38) X rfl dX6_scriptHere_87 k) ?_
                refine J.bind (fun v89 h89 => ?_)
                refine J.cV (q := (RX6, TX6, 26)) (ci := 5) (As := [va_rf (G.2.2.2 38)]) (rest := []) (s2 := [.int v89]) X ⟨rfl, rfl⟩ (ct_X6_isWord l hm σ hs n M 38 (by decide)) (jrd_of h89) (fun _ _ => cwV 1 X.1.2.2.2.2 (lw_V q2860 q2862 qs66 q174 q2863) rfl rfl rfl (by decide +kernel) ⟨(Nat.le_of_ble_eq_true rfl), (Nat.le_of_ble_eq_true rfl)⟩) mH_rc rfl rfl hl.1 rfl rfl (Nat.le_of_ble_eq_true rfl) dX6_scriptHere_89 ?_
                refine J.br (fun _ _ _ _ ka kb => lv_if_eq (tgt := 100) X.1.1 X.1.2.1 dX6_scriptHere_92 (by decide) ka kb) (fun c92 => ?_) (fun c92 => ?_)
                · refine J.pu (fun _ _ _ _ k => lv_iconst (v := 0) X.1.1 X.1.2.1 dX6_scriptHere_100 (by decide) k) ?_
                  exact J.iret (vr := jrI) (fin := fun _ : Int32 => (mH mo A σ M)) (t := t) X hr (by rfl) (by rfl) dX6_scriptHere_101
                · refine J.pu (fun _ _ _ _ k => lv_bipush (v := 8) X.1.1 X.1.2.1 dX6_scriptHere_95 (by decide) k) ?_
                  refine J.pu (fun _ _ _ _ k => lv_goto (tgt := 101) X.1.1 X.1.2.1 dX6_scriptHere_97 (by decide) k) ?_
                  exact J.iret (vr := jrI) (fin := fun _ : Int32 => (mH mo A σ M)) (t := t) X hr (by rfl) (by rfl) dX6_scriptHere_101
              · refine J.pu (fun _ _ _ _ k => lv_bipush (v := 7) X.1.1 X.1.2.1 dX6_scriptHere_83 (by decide) k) ?_
                exact J.iret (vr := jrI) (fin := fun _ : Int32 => (mH mo A σ M)) (t := t) X hr (by rfl) (by rfl) dX6_scriptHere_85
            · refine J.pu (fun _ _ _ _ k => lv_bipush (v := 6) X.1.1 X.1.2.1 dX6_scriptHere_70 (by decide) k) ?_
              exact J.iret (vr := jrI) (fin := fun _ : Int32 => (mH mo A σ M)) (t := t) X hr (by rfl) (by rfl) dX6_scriptHere_72
          · refine J.pu (fun _ _ _ _ k => lv_iconst (v := 5) X.1.1 X.1.2.1 dX6_scriptHere_58 (by decide) k) ?_
            exact J.iret (vr := jrI) (fin := fun _ : Int32 => (mH mo A σ M)) (t := t) X hr (by rfl) (by rfl) dX6_scriptHere_59
        · refine J.pu (fun _ _ _ _ k => lv_iconst (v := 4) X.1.1 X.1.2.1 dX6_scriptHere_46 (by decide) k) ?_
          exact J.iret (vr := jrI) (fin := fun _ : Int32 => (mH mo A σ M)) (t := t) X hr (by rfl) (by rfl) dX6_scriptHere_47
      · refine J.pu (fun _ _ _ _ k => lv_iconst (v := 3) X.1.1 X.1.2.1 dX6_scriptHere_34 (by decide) k) ?_
        exact J.iret (vr := jrI) (fin := fun _ : Int32 => (mH mo A σ M)) (t := t) X hr (by rfl) (by rfl) dX6_scriptHere_35
    · refine J.pu (fun _ _ _ _ k => lv_iconst (v := 2) X.1.1 X.1.2.1 dX6_scriptHere_22 (by decide) k) ?_
      exact J.iret (vr := jrI) (fin := fun _ : Int32 => (mH mo A σ M)) (t := t) X hr (by rfl) (by rfl) dX6_scriptHere_23
  · refine J.pu (fun _ _ _ _ k => lv_iconst (v := 1) X.1.1 X.1.2.1 dX6_scriptHere_10 (by decide) k) ?_
    exact J.iret (vr := jrI) (fin := fun _ : Int32 => (mH mo A σ M)) (t := t) X hr (by rfl) (by rfl) dX6_scriptHere_11
noncomputable def X6_takesRest_j146 (n : Nat) (a1 : Int32) (B146 : jM) : Option (Int32 × jM) :=
  (mA B146 0 3).bind fun v154 => bd (X6_takes n B146 0 0 (v154 - 1)) fun v157 M157 => jbo .boolean v157 (some (v157, M157))
noncomputable def X6_takesRest (n : Nat) (M : jM) (a1 : Int32) : Option (Int32 × jM) :=
  bd (X6_advanceToken n M) fun v1 M1 => if a1 = 1 then ((mA M1 0 3).bind fun v60 => bd (X6_takes n M1 0 0 (v60 - 1)) fun v63 M63 => if v63 = 0 then (some (0, M63)) else (bd (X6_takes n M63 1 0 5) fun v73 M73 => if v73 = 0 then (some (0, M73)) else (some (1, M73)))) else if a1 = 2 then (bd (X6_takes n M1 0 1 500) fun v91 M91 => jbo .boolean v91 (some (v91, M91))) else if a1 = 3 then (bd (X6_takes n M1 0 0 39) fun v100 M100 => jbo .boolean v100 (some (v100, M100))) else if a1 = 7 then ((mA M1 0 3).bind fun v112 => bd (X6_takes n M1 0 0 (v112 - 1)) fun v115 M115 => if v115 = 0 then (some (0, M115)) else (bd (X6_takes n M115 1 0 3) fun v125 M125 => if v125 = 0 then (some (0, M125)) else (some (1, M125)))) else if a1 = 8 then (bd (X6_takes n M1 0 1 9) fun v142 M142 => jbo .boolean v142 (some (v142, M142))) else X6_takesRest_j146 n a1 M1
set_option maxHeartbeats 4000000 in
set_option maxRecDepth 100000 in
theorem ct_X6_takesRest (l : Launch) {G : jG} {mo : Nat} {A : Nat → Nat} (hm : mOK G mo A) (σ : jH) (n : Nat) (M : jM) (a1 : Int32) : jCt l G yX6_takesRest (ws_ yX6_takesRest cX6_takesRest 2 (some .boolean)) 5 109 jrI [.ref mo, .int a1] (mH mo A σ M) (mup mo A σ (X6_takesRest n M a1)) := by
  refine jCt.wm (lv := [(0, .ref mo), (1, .int a1)]) (plainFor_of_name (by decide)) (Nat.le_of_ble_eq_true rfl) rfl ?_
  intro t p e s m args below meth c ls X hr hnm hl
  have X : jCx p c cX6_takesRest 2 s m args RX6 G meth := X
  have j146 : ∀ (B146 : jM) (ls : Array Slot), lv_has ls 2 [(0, .ref mo)] → jGo l G 5 109 (mH mo A σ M) (fun r : Int32 × jM => mH mo A σ r.2) (fun t => jrI t.1) t p e s m args below meth c (X6_takesRest_j146 n a1 B146) (mH mo A σ B146) (F0 m 146 ls []) := by
    intro B146 ls hl
    unfold X6_takesRest_j146
    refine J.pu (fun _ _ _ _ k => lv_aload_n X.1.1 X.1.2.1 dX6_takesRest_146 rfl (lv_at hl 0 rfl) k) ?_
    refine J.pu (fun _ _ _ _ k => lv_iconst (v := 0) X.1.1 X.1.2.1 dX6_takesRest_147 (by decide) k) ?_
    refine J.pu (fun _ _ _ _ k => lv_iconst (v := 0) X.1.1 X.1.2.1 dX6_takesRest_148 (by decide) k) ?_
    refine J.pu (fun _ _ _ _ k => lv_aload_n X.1.1 X.1.2.1 dX6_takesRest_149 rfl (lv_at hl 0 rfl) k) ?_
    refine J.mgA (k := 0) X (by decide) q2730 rfl rfl dX6_takesRest_150 ?_
    refine J.pu (fun _ _ _ _ k => lv_iconst (v := 3) X.1.1 X.1.2.1 dX6_takesRest_153 (by decide) k) ?_
    refine J.mld X hm (by decide) dX6_takesRest_154 (fun v154 h154 => ?_)
    refine J.pu (fun _ _ _ _ k => lv_iconst (v := 1) X.1.1 X.1.2.1 dX6_takesRest_155 (by decide) k) ?_
    refine J.pu (fun _ _ _ _ k => lv_isub X.1.1 X.1.2.1 dX6_takesRest_156 k) ?_
    refine J.bd' (fun v157 M157 h157 => ?_)
    refine J.cV (q := (RX6, TX6, 26)) (ci := 5) (As := [.int 0, .int 0, .int (v154 - 1)]) (rest := []) (s2 := [.int v157]) X ⟨rfl, rfl⟩ (ct_X6_takes l hm σ n B146 0 0 (v154 - 1)) (mup_of h157) (fun _ _ => cwV 3 X.1.2.2.2.2 (lw_V q2870 q2872 qs68 q174 q2873) rfl rfl rfl (by decide +kernel) ⟨(Nat.le_of_ble_eq_true rfl), (Nat.le_of_ble_eq_true rfl)⟩) mH_rc rfl rfl hl.1 rfl rfl (Nat.le_of_ble_eq_true rfl) dX6_takesRest_157 ?_
    exact J.zretb (vr := fun t : Int32 × jM => jrI t.1) (fin := fun r : Int32 × jM => mH mo A σ r.2) (t := t) X hr (by rfl) (by rfl) dX6_takesRest_160
  unfold X6_takesRest
  refine J.pu (fun _ _ _ _ k => lv_aload_n X.1.1 X.1.2.1 dX6_takesRest_0 rfl (lv_at hl 0 rfl) k) ?_
  refine J.bd' (fun v1 M1 h1 => ?_)
  refine J.cV (q := (RX6, TX6, 26)) (ci := 5) (As := []) (rest := []) (s2 := []) X ⟨rfl, rfl⟩ (ct_X6_advanceToken l hm σ n M) (mup_of h1) (fun _ _ => cwV 0 X.1.2.2.2.2 (lw_V q2839 q2841 qs61 q174 q2842) rfl rfl rfl (by decide +kernel) ⟨(Nat.le_of_ble_eq_true rfl), (Nat.le_of_ble_eq_true rfl)⟩) mH_rc rfl rfl hl.1 rfl rfl (Nat.le_of_ble_eq_true rfl) dX6_takesRest_1 ?_
  refine J.pu (fun _ _ _ _ k => lv_iload_n X.1.1 X.1.2.1 dX6_takesRest_4 rfl (lv_at hl 1 rfl) k) ?_
  refine J.ite (fun c5_1 => ?_) (fun c5_1 => ?_)
  · refine J.pu (fun _ _ _ _ k => lv_tableIn (tgt := 52) (off := 47) X.1.1 X.1.2.1 dX6_takesRest_5 (by rw [c5_1]; decide) (by rw [c5_1]; decide) (by rw [c5_1]; decide) (by decide) k) ?_
    refine J.pu (fun _ _ _ _ k => lv_aload_n X.1.1 X.1.2.1 dX6_takesRest_52 rfl (lv_at hl 0 rfl) k) ?_
    refine J.pu (fun _ _ _ _ k => lv_iconst (v := 0) X.1.1 X.1.2.1 dX6_takesRest_53 (by decide) k) ?_
    refine J.pu (fun _ _ _ _ k => lv_iconst (v := 0) X.1.1 X.1.2.1 dX6_takesRest_54 (by decide) k) ?_
    refine J.pu (fun _ _ _ _ k => lv_aload_n X.1.1 X.1.2.1 dX6_takesRest_55 rfl (lv_at hl 0 rfl) k) ?_
    refine J.mgA (k := 0) X (by decide) q2730 rfl rfl dX6_takesRest_56 ?_
    refine J.pu (fun _ _ _ _ k => lv_iconst (v := 3) X.1.1 X.1.2.1 dX6_takesRest_59 (by decide) k) ?_
    refine J.mld X hm (by decide) dX6_takesRest_60 (fun v60 h60 => ?_)
    refine J.pu (fun _ _ _ _ k => lv_iconst (v := 1) X.1.1 X.1.2.1 dX6_takesRest_61 (by decide) k) ?_
    refine J.pu (fun _ _ _ _ k => lv_isub X.1.1 X.1.2.1 dX6_takesRest_62 k) ?_
    refine J.bd' (fun v63 M63 h63 => ?_)
    refine J.cV (q := (RX6, TX6, 26)) (ci := 5) (As := [.int 0, .int 0, .int (v60 - 1)]) (rest := []) (s2 := [.int v63]) X ⟨rfl, rfl⟩ (ct_X6_takes l hm σ n M1 0 0 (v60 - 1)) (mup_of h63) (fun _ _ => cwV 3 X.1.2.2.2.2 (lw_V q2870 q2872 qs68 q174 q2873) rfl rfl rfl (by decide +kernel) ⟨(Nat.le_of_ble_eq_true rfl), (Nat.le_of_ble_eq_true rfl)⟩) mH_rc rfl rfl hl.1 rfl rfl (Nat.le_of_ble_eq_true rfl) dX6_takesRest_63 ?_
    refine J.br (fun _ _ _ _ ka kb => lv_if_eq (tgt := 83) X.1.1 X.1.2.1 dX6_takesRest_66 (by decide) ka kb) (fun c66 => ?_) (fun c66 => ?_)
    · refine J.pu (fun _ _ _ _ k => lv_iconst (v := 0) X.1.1 X.1.2.1 dX6_takesRest_83 (by decide) k) ?_
      exact J.zret (vr := fun t : Int32 × jM => jrI t.1) (fin := fun r : Int32 × jM => mH mo A σ r.2) (t := t) X hr (by decide) (by rfl) (by rfl) dX6_takesRest_84
    · refine J.pu (fun _ _ _ _ k => lv_aload_n X.1.1 X.1.2.1 dX6_takesRest_69 rfl (lv_at hl 0 rfl) k) ?_
      refine J.pu (fun _ _ _ _ k => lv_iconst (v := 1) X.1.1 X.1.2.1 dX6_takesRest_70 (by decide) k) ?_
      refine J.pu (fun _ _ _ _ k => lv_iconst (v := 0) X.1.1 X.1.2.1 dX6_takesRest_71 (by decide) k) ?_
      refine J.pu (fun _ _ _ _ k => lv_iconst (v := 5) X.1.1 X.1.2.1 dX6_takesRest_72 (by decide) k) ?_
      refine J.bd' (fun v73 M73 h73 => ?_)
      refine J.cV (q := (RX6, TX6, 26)) (ci := 5) (As := [.int 1, .int 0, .int 5]) (rest := []) (s2 := [.int v73]) X ⟨rfl, rfl⟩ (ct_X6_takes l hm σ n M63 1 0 5) (mup_of h73) (fun _ _ => cwV 3 X.1.2.2.2.2 (lw_V q2870 q2872 qs68 q174 q2873) rfl rfl rfl (by decide +kernel) ⟨(Nat.le_of_ble_eq_true rfl), (Nat.le_of_ble_eq_true rfl)⟩) mH_rc rfl rfl hl.1 rfl rfl (Nat.le_of_ble_eq_true rfl) dX6_takesRest_73 ?_
      refine J.br (fun _ _ _ _ ka kb => lv_if_eq (tgt := 83) X.1.1 X.1.2.1 dX6_takesRest_76 (by decide) ka kb) (fun c76 => ?_) (fun c76 => ?_)
      · refine J.pu (fun _ _ _ _ k => lv_iconst (v := 0) X.1.1 X.1.2.1 dX6_takesRest_83 (by decide) k) ?_
        exact J.zret (vr := fun t : Int32 × jM => jrI t.1) (fin := fun r : Int32 × jM => mH mo A σ r.2) (t := t) X hr (by decide) (by rfl) (by rfl) dX6_takesRest_84
      · refine J.pu (fun _ _ _ _ k => lv_iconst (v := 1) X.1.1 X.1.2.1 dX6_takesRest_79 (by decide) k) ?_
        refine J.pu (fun _ _ _ _ k => lv_goto (tgt := 84) X.1.1 X.1.2.1 dX6_takesRest_80 (by decide) k) ?_
        exact J.zret (vr := fun t : Int32 × jM => jrI t.1) (fin := fun r : Int32 × jM => mH mo A σ r.2) (t := t) X hr (by decide) (by rfl) (by rfl) dX6_takesRest_84
  refine J.ite (fun c5_2 => ?_) (fun c5_2 => ?_)
  · refine J.pu (fun _ _ _ _ k => lv_tableIn (tgt := 85) (off := 80) X.1.1 X.1.2.1 dX6_takesRest_5 (by rw [c5_2]; decide) (by rw [c5_2]; decide) (by rw [c5_2]; decide) (by decide) k) ?_
    refine J.pu (fun _ _ _ _ k => lv_aload_n X.1.1 X.1.2.1 dX6_takesRest_85 rfl (lv_at hl 0 rfl) k) ?_
    refine J.pu (fun _ _ _ _ k => lv_iconst (v := 0) X.1.1 X.1.2.1 dX6_takesRest_86 (by decide) k) ?_
    refine J.pu (fun _ _ _ _ k => lv_iconst (v := 1) X.1.1 X.1.2.1 dX6_takesRest_87 (by decide) k) ?_
    refine J.pu (fun _ _ _ _ k => lv_sipush (v := 500) X.1.1 X.1.2.1 dX6_takesRest_88 (by decide) k) ?_
    refine J.bd' (fun v91 M91 h91 => ?_)
    refine J.cV (q := (RX6, TX6, 26)) (ci := 5) (As := [.int 0, .int 1, .int 500]) (rest := []) (s2 := [.int v91]) X ⟨rfl, rfl⟩ (ct_X6_takes l hm σ n M1 0 1 500) (mup_of h91) (fun _ _ => cwV 3 X.1.2.2.2.2 (lw_V q2870 q2872 qs68 q174 q2873) rfl rfl rfl (by decide +kernel) ⟨(Nat.le_of_ble_eq_true rfl), (Nat.le_of_ble_eq_true rfl)⟩) mH_rc rfl rfl hl.1 rfl rfl (Nat.le_of_ble_eq_true rfl) dX6_takesRest_91 ?_
    exact J.zretb (vr := fun t : Int32 × jM => jrI t.1) (fin := fun r : Int32 × jM => mH mo A σ r.2) (t := t) X hr (by rfl) (by rfl) dX6_takesRest_94
  refine J.ite (fun c5_3 => ?_) (fun c5_3 => ?_)
  · refine J.pu (fun _ _ _ _ k => lv_tableIn (tgt := 95) (off := 90) X.1.1 X.1.2.1 dX6_takesRest_5 (by rw [c5_3]; decide) (by rw [c5_3]; decide) (by rw [c5_3]; decide) (by decide) k) ?_
    refine J.pu (fun _ _ _ _ k => lv_aload_n X.1.1 X.1.2.1 dX6_takesRest_95 rfl (lv_at hl 0 rfl) k) ?_
    refine J.pu (fun _ _ _ _ k => lv_iconst (v := 0) X.1.1 X.1.2.1 dX6_takesRest_96 (by decide) k) ?_
    refine J.pu (fun _ _ _ _ k => lv_iconst (v := 0) X.1.1 X.1.2.1 dX6_takesRest_97 (by decide) k) ?_
    refine J.pu (fun _ _ _ _ k => lv_bipush (v := 39) X.1.1 X.1.2.1 dX6_takesRest_98 (by decide) k) ?_
    refine J.bd' (fun v100 M100 h100 => ?_)
    refine J.cV (q := (RX6, TX6, 26)) (ci := 5) (As := [.int 0, .int 0, .int 39]) (rest := []) (s2 := [.int v100]) X ⟨rfl, rfl⟩ (ct_X6_takes l hm σ n M1 0 0 39) (mup_of h100) (fun _ _ => cwV 3 X.1.2.2.2.2 (lw_V q2870 q2872 qs68 q174 q2873) rfl rfl rfl (by decide +kernel) ⟨(Nat.le_of_ble_eq_true rfl), (Nat.le_of_ble_eq_true rfl)⟩) mH_rc rfl rfl hl.1 rfl rfl (Nat.le_of_ble_eq_true rfl) dX6_takesRest_100 ?_
    exact J.zretb (vr := fun t : Int32 × jM => jrI t.1) (fin := fun r : Int32 × jM => mH mo A σ r.2) (t := t) X hr (by rfl) (by rfl) dX6_takesRest_103
  refine J.ite (fun c5_7 => ?_) (fun c5_7 => ?_)
  · refine J.pu (fun _ _ _ _ k => lv_tableIn (tgt := 104) (off := 99) X.1.1 X.1.2.1 dX6_takesRest_5 (by rw [c5_7]; decide) (by rw [c5_7]; decide) (by rw [c5_7]; decide) (by decide) k) ?_
    refine J.pu (fun _ _ _ _ k => lv_aload_n X.1.1 X.1.2.1 dX6_takesRest_104 rfl (lv_at hl 0 rfl) k) ?_
    refine J.pu (fun _ _ _ _ k => lv_iconst (v := 0) X.1.1 X.1.2.1 dX6_takesRest_105 (by decide) k) ?_
    refine J.pu (fun _ _ _ _ k => lv_iconst (v := 0) X.1.1 X.1.2.1 dX6_takesRest_106 (by decide) k) ?_
    refine J.pu (fun _ _ _ _ k => lv_aload_n X.1.1 X.1.2.1 dX6_takesRest_107 rfl (lv_at hl 0 rfl) k) ?_
    refine J.mgA (k := 0) X (by decide) q2730 rfl rfl dX6_takesRest_108 ?_
    refine J.pu (fun _ _ _ _ k => lv_iconst (v := 3) X.1.1 X.1.2.1 dX6_takesRest_111 (by decide) k) ?_
    refine J.mld X hm (by decide) dX6_takesRest_112 (fun v112 h112 => ?_)
    refine J.pu (fun _ _ _ _ k => lv_iconst (v := 1) X.1.1 X.1.2.1 dX6_takesRest_113 (by decide) k) ?_
    refine J.pu (fun _ _ _ _ k => lv_isub X.1.1 X.1.2.1 dX6_takesRest_114 k) ?_
    refine J.bd' (fun v115 M115 h115 => ?_)
    refine J.cV (q := (RX6, TX6, 26)) (ci := 5) (As := [.int 0, .int 0, .int (v112 - 1)]) (rest := []) (s2 := [.int v115]) X ⟨rfl, rfl⟩ (ct_X6_takes l hm σ n M1 0 0 (v112 - 1)) (mup_of h115) (fun _ _ => cwV 3 X.1.2.2.2.2 (lw_V q2870 q2872 qs68 q174 q2873) rfl rfl rfl (by decide +kernel) ⟨(Nat.le_of_ble_eq_true rfl), (Nat.le_of_ble_eq_true rfl)⟩) mH_rc rfl rfl hl.1 rfl rfl (Nat.le_of_ble_eq_true rfl) dX6_takesRest_115 ?_
    refine J.br (fun _ _ _ _ ka kb => lv_if_eq (tgt := 135) X.1.1 X.1.2.1 dX6_takesRest_118 (by decide) ka kb) (fun c118 => ?_) (fun c118 => ?_)
    · refine J.pu (fun _ _ _ _ k => lv_iconst (v := 0) X.1.1 X.1.2.1 dX6_takesRest_135 (by decide) k) ?_
      exact J.zret (vr := fun t : Int32 × jM => jrI t.1) (fin := fun r : Int32 × jM => mH mo A σ r.2) (t := t) X hr (by decide) (by rfl) (by rfl) dX6_takesRest_136
    · refine J.pu (fun _ _ _ _ k => lv_aload_n X.1.1 X.1.2.1 dX6_takesRest_121 rfl (lv_at hl 0 rfl) k) ?_
      refine J.pu (fun _ _ _ _ k => lv_iconst (v := 1) X.1.1 X.1.2.1 dX6_takesRest_122 (by decide) k) ?_
      refine J.pu (fun _ _ _ _ k => lv_iconst (v := 0) X.1.1 X.1.2.1 dX6_takesRest_123 (by decide) k) ?_
      refine J.pu (fun _ _ _ _ k => lv_iconst (v := 3) X.1.1 X.1.2.1 dX6_takesRest_124 (by decide) k) ?_
      refine J.bd' (fun v125 M125 h125 => ?_)
      refine J.cV (q := (RX6, TX6, 26)) (ci := 5) (As := [.int 1, .int 0, .int 3]) (rest := []) (s2 := [.int v125]) X ⟨rfl, rfl⟩ (ct_X6_takes l hm σ n M115 1 0 3) (mup_of h125) (fun _ _ => cwV 3 X.1.2.2.2.2 (lw_V q2870 q2872 qs68 q174 q2873) rfl rfl rfl (by decide +kernel) ⟨(Nat.le_of_ble_eq_true rfl), (Nat.le_of_ble_eq_true rfl)⟩) mH_rc rfl rfl hl.1 rfl rfl (Nat.le_of_ble_eq_true rfl) dX6_takesRest_125 ?_
      refine J.br (fun _ _ _ _ ka kb => lv_if_eq (tgt := 135) X.1.1 X.1.2.1 dX6_takesRest_128 (by decide) ka kb) (fun c128 => ?_) (fun c128 => ?_)
      · refine J.pu (fun _ _ _ _ k => lv_iconst (v := 0) X.1.1 X.1.2.1 dX6_takesRest_135 (by decide) k) ?_
        exact J.zret (vr := fun t : Int32 × jM => jrI t.1) (fin := fun r : Int32 × jM => mH mo A σ r.2) (t := t) X hr (by decide) (by rfl) (by rfl) dX6_takesRest_136
      · refine J.pu (fun _ _ _ _ k => lv_iconst (v := 1) X.1.1 X.1.2.1 dX6_takesRest_131 (by decide) k) ?_
        refine J.pu (fun _ _ _ _ k => lv_goto (tgt := 136) X.1.1 X.1.2.1 dX6_takesRest_132 (by decide) k) ?_
        exact J.zret (vr := fun t : Int32 × jM => jrI t.1) (fin := fun r : Int32 × jM => mH mo A σ r.2) (t := t) X hr (by decide) (by rfl) (by rfl) dX6_takesRest_136
  refine J.ite (fun c5_8 => ?_) (fun c5_8 => ?_)
  · refine J.pu (fun _ _ _ _ k => lv_tableIn (tgt := 137) (off := 132) X.1.1 X.1.2.1 dX6_takesRest_5 (by rw [c5_8]; decide) (by rw [c5_8]; decide) (by rw [c5_8]; decide) (by decide) k) ?_
    refine J.pu (fun _ _ _ _ k => lv_aload_n X.1.1 X.1.2.1 dX6_takesRest_137 rfl (lv_at hl 0 rfl) k) ?_
    refine J.pu (fun _ _ _ _ k => lv_iconst (v := 0) X.1.1 X.1.2.1 dX6_takesRest_138 (by decide) k) ?_
    refine J.pu (fun _ _ _ _ k => lv_iconst (v := 1) X.1.1 X.1.2.1 dX6_takesRest_139 (by decide) k) ?_
    refine J.pu (fun _ _ _ _ k => lv_bipush (v := 9) X.1.1 X.1.2.1 dX6_takesRest_140 (by decide) k) ?_
    refine J.bd' (fun v142 M142 h142 => ?_)
    refine J.cV (q := (RX6, TX6, 26)) (ci := 5) (As := [.int 0, .int 1, .int 9]) (rest := []) (s2 := [.int v142]) X ⟨rfl, rfl⟩ (ct_X6_takes l hm σ n M1 0 1 9) (mup_of h142) (fun _ _ => cwV 3 X.1.2.2.2.2 (lw_V q2870 q2872 qs68 q174 q2873) rfl rfl rfl (by decide +kernel) ⟨(Nat.le_of_ble_eq_true rfl), (Nat.le_of_ble_eq_true rfl)⟩) mH_rc rfl rfl hl.1 rfl rfl (Nat.le_of_ble_eq_true rfl) dX6_takesRest_142 ?_
    exact J.zretb (vr := fun t : Int32 × jM => jrI t.1) (fin := fun r : Int32 × jM => mH mo A σ r.2) (t := t) X hr (by rfl) (by rfl) dX6_takesRest_145
  by_cases b5 : a1.toInt < 1 ∨ 8 < a1.toInt
  · refine J.pu (fun _ _ _ _ k => lv_tableOut (tgt := 146) X.1.1 X.1.2.1 dX6_takesRest_5 b5 (by decide) k) ?_
    exact j146 M1 ls (lv_sub hl [0] rfl)
  · by_cases e5_4 : a1 = 4
    · refine J.pu (fun _ _ _ _ k => lv_tableIn (tgt := 146) (off := 141) X.1.1 X.1.2.1 dX6_takesRest_5 (by rw [e5_4]; decide) (by rw [e5_4]; decide) (by rw [e5_4]; decide) (by decide) k) ?_
      exact j146 M1 ls (lv_sub hl [0] rfl)
    by_cases e5_5 : a1 = 5
    · refine J.pu (fun _ _ _ _ k => lv_tableIn (tgt := 146) (off := 141) X.1.1 X.1.2.1 dX6_takesRest_5 (by rw [e5_5]; decide) (by rw [e5_5]; decide) (by rw [e5_5]; decide) (by decide) k) ?_
      exact j146 M1 ls (lv_sub hl [0] rfl)
    by_cases e5_6 : a1 = 6
    · refine J.pu (fun _ _ _ _ k => lv_tableIn (tgt := 146) (off := 141) X.1.1 X.1.2.1 dX6_takesRest_5 (by rw [e5_6]; decide) (by rw [e5_6]; decide) (by rw [e5_6]; decide) (by decide) k) ?_
      exact j146 M1 ls (lv_sub hl [0] rfl)
    exfalso; have := lv_neT c5_1 (a := 1) rfl; have := lv_neT c5_2 (a := 2) rfl; have := lv_neT c5_3 (a := 3) rfl; have := lv_neT c5_7 (a := 7) rfl; have := lv_neT c5_8 (a := 8) rfl; have := lv_neT e5_4 (a := 4) rfl; have := lv_neT e5_5 (a := 5) rfl; have := lv_neT e5_6 (a := 6) rfl; omega
noncomputable def X6_readScriptStatement (n : Nat) (M : jM) : Option (Int32 × jM) :=
  (X6_scriptHere n M).bind fun v1 => if v1 = 0 then (bd (X6_failsAt n M 1) fun v11 M11 => jbo .boolean v11 (some (v11, M11))) else (if (M.2 23) = 30 then (bd (X6_failsAt n M 4) fun v26 M26 => jbo .boolean v26 (some (v26, M26))) else (bd (X6_takesRest n M v1) fun v32 M32 => if v32 = 0 then (some (0, M32)) else ((mS M32 20 (M32.2 23) v1).bind fun M49 => (mA M49 19 0).bind fun v63 => (mS M49 21 (M49.2 23) v63).bind fun M64 => (mA M64 19 1).bind fun v78 => (mS M64 22 (M64.2 23) v78).bind fun M79 => bd (X6_takesSemicolon n (mP M79 23 ((M79.2 23) + 1))) fun v91 M91 => jbo .boolean v91 (some (v91, M91)))))
set_option maxHeartbeats 4000000 in
set_option maxRecDepth 100000 in
theorem ct_X6_readScriptStatement (l : Launch) {G : jG} {mo : Nat} {A : Nat → Nat} (hm : mOK G mo A) (σ : jH) (hs : jKS G σ) (n : Nat) (M : jM) : jCt l G yX6_readScriptStatement (ws_ yX6_readScriptStatement cX6_readScriptStatement 2 (some .boolean)) 9 263 jrI [.ref mo] (mH mo A σ M) (mup mo A σ (X6_readScriptStatement n M)) := by
  refine jCt.wm (lv := [(0, .ref mo)]) (plainFor_of_name (by decide)) (Nat.le_of_ble_eq_true rfl) rfl ?_
  intro t p e s m args below meth c ls X hr hnm hl
  have X : jCx p c cX6_readScriptStatement 2 s m args RX6 G meth := X
  unfold X6_readScriptStatement
  refine J.pu (fun _ _ _ _ k => lv_aload_n X.1.1 X.1.2.1 dX6_readScriptStatement_0 rfl (lv_at hl 0 rfl) k) ?_
  refine J.bind (fun v1 h1 => ?_)
  refine J.cV (q := (RX6, TX6, 26)) (ci := 5) (As := []) (rest := []) (s2 := [.int v1]) X ⟨rfl, rfl⟩ (ct_X6_scriptHere l hm σ hs n M) (jrd_of h1) (fun _ _ => cwV 0 X.1.2.2.2.2 (lw_V q2929 q2931 qs81 q174 q2932) rfl rfl rfl (by decide +kernel) ⟨(Nat.le_of_ble_eq_true rfl), (Nat.le_of_ble_eq_true rfl)⟩) mH_rc rfl rfl hl.1 rfl rfl (Nat.le_of_ble_eq_true rfl) dX6_readScriptStatement_1 ?_
  refine J.istore_n (i := 1) (lv' := [(1, .int v1), (0, .ref mo)]) X.1.1 X.1.2.1 dX6_readScriptStatement_4 rfl hl (by decide) (by first | rfl | simp [va_rf_cat, jcI, jcA, jcJ, jcD, jcF]) (fun ls hl => ?_)
  refine J.pu (fun _ _ _ _ k => lv_iload_n X.1.1 X.1.2.1 dX6_readScriptStatement_5 rfl (lv_at hl 0 rfl) k) ?_
  refine J.br (fun _ _ _ _ ka kb => lv_if_ne (tgt := 15) X.1.1 X.1.2.1 dX6_readScriptStatement_6 (by decide) kb ka) (fun c6 => ?_) (fun c6 => ?_)
  · refine J.pu (fun _ _ _ _ k => lv_aload_n X.1.1 X.1.2.1 dX6_readScriptStatement_9 rfl (lv_at hl 1 rfl) k) ?_
    refine J.pu (fun _ _ _ _ k => lv_iconst (v := 1) X.1.1 X.1.2.1 dX6_readScriptStatement_10 (by decide) k) ?_
    refine J.bd' (fun v11 M11 h11 => ?_)
    refine J.cV (q := (RX6, TX6, 26)) (ci := 5) (As := [.int 1]) (rest := []) (s2 := [.int v11]) X ⟨rfl, rfl⟩ (ct_X6_failsAt l hm σ n M 1) (mup_of h11) (fun _ _ => cwV 1 X.1.2.2.2.2 (lw_V q2866 q2868 qs67 q174 q2869) rfl rfl rfl (by decide +kernel) ⟨(Nat.le_of_ble_eq_true rfl), (Nat.le_of_ble_eq_true rfl)⟩) mH_rc rfl rfl hl.1 rfl rfl (Nat.le_of_ble_eq_true rfl) dX6_readScriptStatement_11 ?_
    exact J.zretb (vr := fun t : Int32 × jM => jrI t.1) (fin := fun r : Int32 × jM => mH mo A σ r.2) (t := t) X hr (by rfl) (by rfl) dX6_readScriptStatement_14
  · refine J.pu (fun _ _ _ _ k => lv_aload_n X.1.1 X.1.2.1 dX6_readScriptStatement_15 rfl (lv_at hl 1 rfl) k) ?_
    refine J.mgS (k := 23) X (by decide) q2753 rfl rfl dX6_readScriptStatement_16 ?_
    refine J.pu (fun _ _ _ _ k => lv_bipush (v := 30) X.1.1 X.1.2.1 dX6_readScriptStatement_19 (by decide) k) ?_
    refine J.br (fun _ _ _ _ ka kb => lv_icmp_ne (tgt := 30) X.1.1 X.1.2.1 dX6_readScriptStatement_21 (by decide) kb ka) (fun c21 => ?_) (fun c21 => ?_)
    · refine J.pu (fun _ _ _ _ k => lv_aload_n X.1.1 X.1.2.1 dX6_readScriptStatement_24 rfl (lv_at hl 1 rfl) k) ?_
      refine J.pu (fun _ _ _ _ k => lv_iconst (v := 4) X.1.1 X.1.2.1 dX6_readScriptStatement_25 (by decide) k) ?_
      refine J.bd' (fun v26 M26 h26 => ?_)
      refine J.cV (q := (RX6, TX6, 26)) (ci := 5) (As := [.int 4]) (rest := []) (s2 := [.int v26]) X ⟨rfl, rfl⟩ (ct_X6_failsAt l hm σ n M 4) (mup_of h26) (fun _ _ => cwV 1 X.1.2.2.2.2 (lw_V q2866 q2868 qs67 q174 q2869) rfl rfl rfl (by decide +kernel) ⟨(Nat.le_of_ble_eq_true rfl), (Nat.le_of_ble_eq_true rfl)⟩) mH_rc rfl rfl hl.1 rfl rfl (Nat.le_of_ble_eq_true rfl) dX6_readScriptStatement_26 ?_
      exact J.zretb (vr := fun t : Int32 × jM => jrI t.1) (fin := fun r : Int32 × jM => mH mo A σ r.2) (t := t) X hr (by rfl) (by rfl) dX6_readScriptStatement_29
    · refine J.pu (fun _ _ _ _ k => lv_aload_n X.1.1 X.1.2.1 dX6_readScriptStatement_30 rfl (lv_at hl 1 rfl) k) ?_
      refine J.pu (fun _ _ _ _ k => lv_iload_n X.1.1 X.1.2.1 dX6_readScriptStatement_31 rfl (lv_at hl 0 rfl) k) ?_
      refine J.bd' (fun v32 M32 h32 => ?_)
      refine J.cV (q := (RX6, TX6, 26)) (ci := 5) (As := [.int v1]) (rest := []) (s2 := [.int v32]) X ⟨rfl, rfl⟩ (ct_X6_takesRest l hm σ n M v1) (mup_of h32) (fun _ _ => cwV 1 X.1.2.2.2.2 (lw_V q2940 q2942 qs82 q174 q2943) rfl rfl rfl (by decide +kernel) ⟨(Nat.le_of_ble_eq_true rfl), (Nat.le_of_ble_eq_true rfl)⟩) mH_rc rfl rfl hl.1 rfl rfl (Nat.le_of_ble_eq_true rfl) dX6_readScriptStatement_32 ?_
      refine J.br (fun _ _ _ _ ka kb => lv_if_ne (tgt := 40) X.1.1 X.1.2.1 dX6_readScriptStatement_35 (by decide) kb ka) (fun c35 => ?_) (fun c35 => ?_)
      · refine J.pu (fun _ _ _ _ k => lv_iconst (v := 0) X.1.1 X.1.2.1 dX6_readScriptStatement_38 (by decide) k) ?_
        exact J.zret (vr := fun t : Int32 × jM => jrI t.1) (fin := fun r : Int32 × jM => mH mo A σ r.2) (t := t) X hr (by decide) (by rfl) (by rfl) dX6_readScriptStatement_39
      · refine J.pu (fun _ _ _ _ k => lv_aload_n X.1.1 X.1.2.1 dX6_readScriptStatement_40 rfl (lv_at hl 1 rfl) k) ?_
        refine J.mgA (k := 20) X (by decide) q2750 rfl rfl dX6_readScriptStatement_41 ?_
        refine J.pu (fun _ _ _ _ k => lv_aload_n X.1.1 X.1.2.1 dX6_readScriptStatement_44 rfl (lv_at hl 1 rfl) k) ?_
        refine J.mgS (k := 23) X (by decide) q2753 rfl rfl dX6_readScriptStatement_45 ?_
        refine J.pu (fun _ _ _ _ k => lv_iload_n X.1.1 X.1.2.1 dX6_readScriptStatement_48 rfl (lv_at hl 0 rfl) k) ?_
        refine J.mst X hm (by decide) dX6_readScriptStatement_49 (fun M49 h49 => ?_)
        refine J.pu (fun _ _ _ _ k => lv_aload_n X.1.1 X.1.2.1 dX6_readScriptStatement_50 rfl (lv_at hl 1 rfl) k) ?_
        refine J.mgA (k := 21) X (by decide) q2751 rfl rfl dX6_readScriptStatement_51 ?_
        refine J.pu (fun _ _ _ _ k => lv_aload_n X.1.1 X.1.2.1 dX6_readScriptStatement_54 rfl (lv_at hl 1 rfl) k) ?_
        refine J.mgS (k := 23) X (by decide) q2753 rfl rfl dX6_readScriptStatement_55 ?_
        refine J.pu (fun _ _ _ _ k => lv_aload_n X.1.1 X.1.2.1 dX6_readScriptStatement_58 rfl (lv_at hl 1 rfl) k) ?_
        refine J.mgA (k := 19) X (by decide) q2749 rfl rfl dX6_readScriptStatement_59 ?_
        refine J.pu (fun _ _ _ _ k => lv_iconst (v := 0) X.1.1 X.1.2.1 dX6_readScriptStatement_62 (by decide) k) ?_
        refine J.mld X hm (by decide) dX6_readScriptStatement_63 (fun v63 h63 => ?_)
        refine J.mst X hm (by decide) dX6_readScriptStatement_64 (fun M64 h64 => ?_)
        refine J.pu (fun _ _ _ _ k => lv_aload_n X.1.1 X.1.2.1 dX6_readScriptStatement_65 rfl (lv_at hl 1 rfl) k) ?_
        refine J.mgA (k := 22) X (by decide) q2752 rfl rfl dX6_readScriptStatement_66 ?_
        refine J.pu (fun _ _ _ _ k => lv_aload_n X.1.1 X.1.2.1 dX6_readScriptStatement_69 rfl (lv_at hl 1 rfl) k) ?_
        refine J.mgS (k := 23) X (by decide) q2753 rfl rfl dX6_readScriptStatement_70 ?_
        refine J.pu (fun _ _ _ _ k => lv_aload_n X.1.1 X.1.2.1 dX6_readScriptStatement_73 rfl (lv_at hl 1 rfl) k) ?_
        refine J.mgA (k := 19) X (by decide) q2749 rfl rfl dX6_readScriptStatement_74 ?_
        refine J.pu (fun _ _ _ _ k => lv_iconst (v := 1) X.1.1 X.1.2.1 dX6_readScriptStatement_77 (by decide) k) ?_
        refine J.mld X hm (by decide) dX6_readScriptStatement_78 (fun v78 h78 => ?_)
        refine J.mst X hm (by decide) dX6_readScriptStatement_79 (fun M79 h79 => ?_)
        refine J.pu (fun _ _ _ _ k => lv_aload_n X.1.1 X.1.2.1 dX6_readScriptStatement_80 rfl (lv_at hl 1 rfl) k) ?_
        refine J.pu (fun _ _ _ _ k => lv_dup X.1.1 X.1.2.1 dX6_readScriptStatement_81 rfl k) ?_
        refine J.mgS (k := 23) X (by decide) q2753 rfl rfl dX6_readScriptStatement_82 ?_
        refine J.pu (fun _ _ _ _ k => lv_iconst (v := 1) X.1.1 X.1.2.1 dX6_readScriptStatement_85 (by decide) k) ?_
        refine J.pu (fun _ _ _ _ k => lv_iadd X.1.1 X.1.2.1 dX6_readScriptStatement_86 k) ?_
        refine J.mpS (k := 23) X hm (by decide) q2753 rfl rfl rfl dX6_readScriptStatement_87 ?_
        refine J.pu (fun _ _ _ _ k => lv_aload_n X.1.1 X.1.2.1 dX6_readScriptStatement_90 rfl (lv_at hl 1 rfl) k) ?_
        refine J.bd' (fun v91 M91 h91 => ?_)
        refine J.cV (q := (RX6, TX6, 26)) (ci := 5) (As := []) (rest := []) (s2 := [.int v91]) X ⟨rfl, rfl⟩ (ct_X6_takesSemicolon l hm σ n (mP M79 23 ((M79.2 23) + 1))) (mup_of h91) (fun _ _ => cwV 0 X.1.2.2.2.2 (lw_V q2882 q2884 qs71 q174 q2885) rfl rfl rfl (by decide +kernel) ⟨(Nat.le_of_ble_eq_true rfl), (Nat.le_of_ble_eq_true rfl)⟩) mH_rc rfl rfl hl.1 rfl rfl (Nat.le_of_ble_eq_true rfl) dX6_readScriptStatement_91 ?_
        exact J.zretb (vr := fun t : Int32 × jM => jrI t.1) (fin := fun r : Int32 × jM => mH mo A σ r.2) (t := t) X hr (by rfl) (by rfl) dX6_readScriptStatement_94
noncomputable def X6_remembers_j50 (n : Nat) (B50 : jM) : Option (Unit × jM) :=
  bd (X6_copies n B50 0 0 4 (525 * (B50.2 5))) fun v67 M67 => some ((), (mP M67 5 ((M67.2 5) + 1)))
noncomputable def X6_remembers_h11 (n : Nat) (rec11 : Int32 × jM → Option (Unit × jM)) (q11 : Int32 × jM) : Option (Unit × jM) :=
  let x1_11 := q11.1; let B11 := q11.2; if 3675 ≤ x1_11 then (X6_remembers_j50 n (mP B11 5 ((B11.2 5) - 1))) else ((mA B11 4 (x1_11 + 525)).bind fun v32 => (mS B11 4 x1_11 v32).bind fun M33 => rec11 ((x1_11 + 1), M33))
noncomputable def X6_remembers (n : Nat) (M : jM) : Option (Unit × jM) :=
  if (M.2 5) = 8 then (jloop (X6_remembers_h11 n) n (0, M)) else (X6_remembers_j50 n M)
set_option maxHeartbeats 4000000 in
set_option maxRecDepth 100000 in
theorem ct_X6_remembers (l : Launch) {G : jG} {mo : Nat} {A : Nat → Nat} (hm : mOK G mo A) (σ : jH) (n : Nat) (M : jM) : jCt l G yX6_remembers (ws_ yX6_remembers cX6_remembers 2 none) 1 24 jrV [.ref mo] (mH mo A σ M) (mup mo A σ (X6_remembers n M)) := by
  refine jCt.wm (lv := [(0, .ref mo)]) (plainFor_of_name (by decide)) (Nat.le_of_ble_eq_true rfl) rfl ?_
  intro t p e s m args below meth c ls X hr hnm hl
  have X : jCx p c cX6_remembers 2 s m args RX6 G meth := X
  have j50 : ∀ (B50 : jM) (ls : Array Slot), lv_has ls 2 [(0, .ref mo)] → jGo l G 1 24 (mH mo A σ M) (fun r : Unit × jM => mH mo A σ r.2) (fun t => jrV t.1) t p e s m args below meth c (X6_remembers_j50 n B50) (mH mo A σ B50) (F0 m 50 ls []) := by
    intro B50 ls hl
    unfold X6_remembers_j50
    refine J.pu (fun _ _ _ _ k => lv_aload_n X.1.1 X.1.2.1 dX6_remembers_50 rfl (lv_at hl 0 rfl) k) ?_
    refine J.mgA (k := 0) X (by decide) q2730 rfl rfl dX6_remembers_51 ?_
    refine J.pu (fun _ _ _ _ k => lv_iconst (v := 0) X.1.1 X.1.2.1 dX6_remembers_54 (by decide) k) ?_
    refine J.pu (fun _ _ _ _ k => lv_aload_n X.1.1 X.1.2.1 dX6_remembers_55 rfl (lv_at hl 0 rfl) k) ?_
    refine J.mgA (k := 4) X (by decide) q2734 rfl rfl dX6_remembers_56 ?_
    refine J.pu (fun _ _ _ _ k => lv_sipush (v := 525) X.1.1 X.1.2.1 dX6_remembers_59 (by decide) k) ?_
    refine J.pu (fun _ _ _ _ k => lv_aload_n X.1.1 X.1.2.1 dX6_remembers_62 rfl (lv_at hl 0 rfl) k) ?_
    refine J.mgS (k := 5) X (by decide) q2735 rfl rfl dX6_remembers_63 ?_
    refine J.pu (fun _ _ _ _ k => lv_imul X.1.1 X.1.2.1 dX6_remembers_66 k) ?_
    refine J.bd' (fun v67 M67 h67 => ?_)
    refine J.cS (As := [.ref (A 0), .int 0, .ref (A 4), .int (525 * (B50.2 5))]) (rest := []) (s2 := []) X ⟨rfl, rfl⟩ (ct_X6_copies l hm σ n B50 0 0 4 (525 * (B50.2 5)) (by decide) (by decide)) (mup_of h67) (fun _ _ => va_cwS 4 X.1.2.2.2.2 (lw_S q2832 q2833 q174 q2834) rfl rfl rfl (by decide +kernel) ⟨(Nat.le_of_ble_eq_true rfl), (Nat.le_of_ble_eq_true rfl)⟩) rfl hl.1 rfl rfl (Nat.le_of_ble_eq_true rfl) dX6_remembers_67 ?_
    refine J.pu (fun _ _ _ _ k => lv_aload_n X.1.1 X.1.2.1 dX6_remembers_70 rfl (lv_at hl 0 rfl) k) ?_
    refine J.pu (fun _ _ _ _ k => lv_dup X.1.1 X.1.2.1 dX6_remembers_71 rfl k) ?_
    refine J.mgS (k := 5) X (by decide) q2735 rfl rfl dX6_remembers_72 ?_
    refine J.pu (fun _ _ _ _ k => lv_iconst (v := 1) X.1.1 X.1.2.1 dX6_remembers_75 (by decide) k) ?_
    refine J.pu (fun _ _ _ _ k => lv_iadd X.1.1 X.1.2.1 dX6_remembers_76 k) ?_
    refine J.mpS (k := 5) X hm (by decide) q2735 rfl rfl rfl dX6_remembers_77 ?_
    exact J.vret (vr := fun t : Unit × jM => jrV t.1) (fin := fun r : Unit × jM => mH mo A σ r.2) (t := t) X hr (by rfl) (by rfl) dX6_remembers_80
  have L11 : ∀ (n11 : Nat) (x1_11 : Int32) (B11 : jM) (ls : Array Slot), lv_has ls 2 [(0, .ref mo), (1, .int x1_11)] → jGo l G 1 24 (mH mo A σ M) (fun r : Unit × jM => mH mo A σ r.2) (fun t => jrV t.1) t p e s m args below meth c (jloop (X6_remembers_h11 n) n11 (x1_11, B11)) (mH mo A σ B11) (F0 m 11 ls []) := by
    intro n11
    induction n11 with
    | zero => intro x1_11 B11 ls hl; exact J.nil_
    | succ n11 ih11 =>
      intro x1_11 B11 ls hl
      refine J.eq (jloop_s _ _ _) ?_
      dsimp only [X6_remembers_h11]
      refine J.pu (fun _ _ _ _ k => lv_iload_n X.1.1 X.1.2.1 dX6_remembers_11 rfl (lv_at hl 1 rfl) k) ?_
      refine J.pu (fun _ _ _ _ k => lv_sipush (v := 3675) X.1.1 X.1.2.1 dX6_remembers_12 (by decide) k) ?_
      refine J.br (fun _ _ _ _ ka kb => lv_icmp_ge (tgt := 40) X.1.1 X.1.2.1 dX6_remembers_15 (by decide) ka kb) (fun c15 => ?_) (fun c15 => ?_)
      · refine J.pu (fun _ _ _ _ k => lv_aload_n X.1.1 X.1.2.1 dX6_remembers_40 rfl (lv_at hl 0 rfl) k) ?_
        refine J.pu (fun _ _ _ _ k => lv_dup X.1.1 X.1.2.1 dX6_remembers_41 rfl k) ?_
        refine J.mgS (k := 5) X (by decide) q2735 rfl rfl dX6_remembers_42 ?_
        refine J.pu (fun _ _ _ _ k => lv_iconst (v := 1) X.1.1 X.1.2.1 dX6_remembers_45 (by decide) k) ?_
        refine J.pu (fun _ _ _ _ k => lv_isub X.1.1 X.1.2.1 dX6_remembers_46 k) ?_
        refine J.mpS (k := 5) X hm (by decide) q2735 rfl rfl rfl dX6_remembers_47 ?_
        exact j50 (mP B11 5 ((B11.2 5) - 1)) ls (lv_sub hl [0] rfl)
      · refine J.pu (fun _ _ _ _ k => lv_aload_n X.1.1 X.1.2.1 dX6_remembers_18 rfl (lv_at hl 0 rfl) k) ?_
        refine J.mgA (k := 4) X (by decide) q2734 rfl rfl dX6_remembers_19 ?_
        refine J.pu (fun _ _ _ _ k => lv_iload_n X.1.1 X.1.2.1 dX6_remembers_22 rfl (lv_at hl 1 rfl) k) ?_
        refine J.pu (fun _ _ _ _ k => lv_aload_n X.1.1 X.1.2.1 dX6_remembers_23 rfl (lv_at hl 0 rfl) k) ?_
        refine J.mgA (k := 4) X (by decide) q2734 rfl rfl dX6_remembers_24 ?_
        refine J.pu (fun _ _ _ _ k => lv_iload_n X.1.1 X.1.2.1 dX6_remembers_27 rfl (lv_at hl 1 rfl) k) ?_
        refine J.pu (fun _ _ _ _ k => lv_sipush (v := 525) X.1.1 X.1.2.1 dX6_remembers_28 (by decide) k) ?_
        refine J.pu (fun _ _ _ _ k => lv_iadd X.1.1 X.1.2.1 dX6_remembers_31 k) ?_
        refine J.mld X hm (by decide) dX6_remembers_32 (fun v32 h32 => ?_)
        refine J.mst X hm (by decide) dX6_remembers_33 (fun M33 h33 => ?_)
        refine J.iinc (k := 1) (lv' := [(1, .int (x1_11 + 1)), (0, .ref mo)]) (w := (x1_11 + 1)) X.1.1 X.1.2.1 dX6_remembers_34 hl rfl rfl (by decide) (by first | rfl | simp [va_rf_cat, jcI, jcA, jcJ, jcD, jcF]) (fun ls hl => ?_)
        refine J.pu (fun _ _ _ _ k => lv_goto (tgt := 11) X.1.1 X.1.2.1 dX6_remembers_37 (by decide) k) ?_
        exact ih11 (x1_11 + 1) M33 ls (lv_sub hl [1, 0] rfl)
  unfold X6_remembers
  refine J.pu (fun _ _ _ _ k => lv_aload_n X.1.1 X.1.2.1 dX6_remembers_0 rfl (lv_at hl 0 rfl) k) ?_
  refine J.mgS (k := 5) X (by decide) q2735 rfl rfl dX6_remembers_1 ?_
  refine J.pu (fun _ _ _ _ k => lv_bipush (v := 8) X.1.1 X.1.2.1 dX6_remembers_4 (by decide) k) ?_
  refine J.br (fun _ _ _ _ ka kb => lv_icmp_ne (tgt := 50) X.1.1 X.1.2.1 dX6_remembers_6 (by decide) kb ka) (fun c6 => ?_) (fun c6 => ?_)
  · refine J.pu (fun _ _ _ _ k => lv_iconst (v := 0) X.1.1 X.1.2.1 dX6_remembers_9 (by decide) k) ?_
    refine J.istore_n (i := 1) (lv' := [(1, .int 0), (0, .ref mo)]) X.1.1 X.1.2.1 dX6_remembers_10 rfl hl (by decide) (by first | rfl | simp [va_rf_cat, jcI, jcA, jcJ, jcD, jcF]) (fun ls hl => ?_)
    exact L11 n 0 M ls (lv_sub hl [1, 0] rfl)
  · exact j50 M ls (lv_sub hl [0] rfl)
noncomputable def X6_playScript_h46 (n : Nat) (rec46 : Int32 × jM → Option (Int32 × jM)) (q46 : Int32 × jM) : Option (Int32 × jM) :=
  let x2_46 := q46.1; let B46 := q46.2; if (B46.2 23) ≤ x2_46 then (some (x2_46, B46)) else (bd (X6_does n B46 x2_46) fun v56 M56 => if v56 = 0 then (some (x2_46, M56)) else (rec46 ((x2_46 + 1), M56)))
noncomputable def X6_playScript_j30 (n : Nat) (x1_30 : Int32) (B30 : jM) : Option (Int32 × jM) :=
  bd (X6_endsText n B30) fun v31 M31 => if x1_30 = 0 then (some ((-1), M31)) else (bd (X6_remembers n M31) fun v41 M41 => jloop (X6_playScript_h46 n) n (0, M41))
noncomputable def X6_playScript_h11 (n : Nat) (rec11 : Int32 × jM → Option (Int32 × jM)) (q11 : Int32 × jM) : Option (Int32 × jM) :=
  let x1_11 := q11.1; let B11 := q11.2; if x1_11 = 0 then (X6_playScript_j30 n x1_11 B11) else (if (B11.2 17) = 0 then (X6_playScript_j30 n x1_11 B11) else (bd (X6_readScriptStatement n B11) fun v23 M23 => rec11 (v23, M23)))
noncomputable def X6_playScript (n : Nat) (M : jM) : Option (Int32 × jM) :=
  bd (X6_startsText n (mP M 7 0)) fun v6 M6 => jloop (X6_playScript_h11 n) n (1, M6)
set_option maxHeartbeats 4000000 in
set_option maxRecDepth 100000 in
theorem ct_X6_playScript (l : Launch) {G : jG} {mo : Nat} {A : Nat → Nat} (hm : mOK G mo A) (σ : jH) (hs : jKS G σ) (n : Nat) (M : jM) : jCt l G yX6_playScript (ws_ yX6_playScript cX6_playScript 3 (some .int)) 10 284 jrI [.ref mo] (mH mo A σ M) (mup mo A σ (X6_playScript n M)) := by
  refine jCt.wm (lv := [(0, .ref mo)]) (plainFor_of_name (by decide)) (Nat.le_of_ble_eq_true rfl) rfl ?_
  intro t p e s m args below meth c ls X hr hnm hl
  have X : jCx p c cX6_playScript 3 s m args RX6 G meth := X
  have L46 : ∀ (n46 : Nat) (x2_46 : Int32) (B46 : jM) (ls : Array Slot), lv_has ls 3 [(0, .ref mo), (2, .int x2_46)] → jGo l G 10 284 (mH mo A σ M) (fun r : Int32 × jM => mH mo A σ r.2) (fun t => jrI t.1) t p e s m args below meth c (jloop (X6_playScript_h46 n) n46 (x2_46, B46)) (mH mo A σ B46) (F0 m 46 ls []) := by
    intro n46
    induction n46 with
    | zero => intro x2_46 B46 ls hl; exact J.nil_
    | succ n46 ih46 =>
      intro x2_46 B46 ls hl
      refine J.eq (jloop_s _ _ _) ?_
      dsimp only [X6_playScript_h46]
      refine J.pu (fun _ _ _ _ k => lv_iload_n X.1.1 X.1.2.1 dX6_playScript_46 rfl (lv_at hl 1 rfl) k) ?_
      refine J.pu (fun _ _ _ _ k => lv_aload_n X.1.1 X.1.2.1 dX6_playScript_47 rfl (lv_at hl 0 rfl) k) ?_
      refine J.mgS (k := 23) X (by decide) q2753 rfl rfl dX6_playScript_48 ?_
      refine J.br (fun _ _ _ _ ka kb => lv_icmp_ge (tgt := 68) X.1.1 X.1.2.1 dX6_playScript_51 (by decide) ka kb) (fun c51 => ?_) (fun c51 => ?_)
      · refine J.pu (fun _ _ _ _ k => lv_iload_n X.1.1 X.1.2.1 dX6_playScript_68 rfl (lv_at hl 1 rfl) k) ?_
        exact J.iret (vr := fun t : Int32 × jM => jrI t.1) (fin := fun r : Int32 × jM => mH mo A σ r.2) (t := t) X hr (by rfl) (by rfl) dX6_playScript_69
      · refine J.pu (fun _ _ _ _ k => lv_aload_n X.1.1 X.1.2.1 dX6_playScript_54 rfl (lv_at hl 0 rfl) k) ?_
        refine J.pu (fun _ _ _ _ k => lv_iload_n X.1.1 X.1.2.1 dX6_playScript_55 rfl (lv_at hl 1 rfl) k) ?_
        refine J.bd' (fun v56 M56 h56 => ?_)
        refine J.cV (q := (RX6, TX6, 26)) (ci := 5) (As := [.int x2_46]) (rest := []) (s2 := [.int v56]) X ⟨rfl, rfl⟩ (ct_X6_does l hm σ n B46 x2_46) (mup_of h56) (fun _ _ => cwV 1 X.1.2.2.2.2 (lw_V q2948 q2950 qs84 q174 q2951) rfl rfl rfl (by decide +kernel) ⟨(Nat.le_of_ble_eq_true rfl), (Nat.le_of_ble_eq_true rfl)⟩) mH_rc rfl rfl hl.1 rfl rfl (Nat.le_of_ble_eq_true rfl) dX6_playScript_56 ?_
        refine J.br (fun _ _ _ _ ka kb => lv_if_eq (tgt := 68) X.1.1 X.1.2.1 dX6_playScript_59 (by decide) ka kb) (fun c59 => ?_) (fun c59 => ?_)
        · refine J.pu (fun _ _ _ _ k => lv_iload_n X.1.1 X.1.2.1 dX6_playScript_68 rfl (lv_at hl 1 rfl) k) ?_
          exact J.iret (vr := fun t : Int32 × jM => jrI t.1) (fin := fun r : Int32 × jM => mH mo A σ r.2) (t := t) X hr (by rfl) (by rfl) dX6_playScript_69
        · refine J.iinc (k := 1) (lv' := [(2, .int (x2_46 + 1)), (0, .ref mo)]) (w := (x2_46 + 1)) X.1.1 X.1.2.1 dX6_playScript_62 hl rfl rfl (by decide) (by first | rfl | simp [va_rf_cat, jcI, jcA, jcJ, jcD, jcF]) (fun ls hl => ?_)
          refine J.pu (fun _ _ _ _ k => lv_goto (tgt := 46) X.1.1 X.1.2.1 dX6_playScript_65 (by decide) k) ?_
          exact ih46 (x2_46 + 1) M56 ls (lv_sub hl [1, 0] rfl)
  have j30 : ∀ (x1_30 : Int32) (B30 : jM) (ls : Array Slot), lv_has ls 3 [(0, .ref mo), (1, .int x1_30)] → jGo l G 10 284 (mH mo A σ M) (fun r : Int32 × jM => mH mo A σ r.2) (fun t => jrI t.1) t p e s m args below meth c (X6_playScript_j30 n x1_30 B30) (mH mo A σ B30) (F0 m 30 ls []) := by
    intro x1_30 B30 ls hl
    unfold X6_playScript_j30
    refine J.pu (fun _ _ _ _ k => lv_aload_n X.1.1 X.1.2.1 dX6_playScript_30 rfl (lv_at hl 0 rfl) k) ?_
    refine J.bd' (fun v31 M31 h31 => ?_)
    refine J.cV (q := (RX6, TX6, 26)) (ci := 5) (As := []) (rest := []) (s2 := []) X ⟨rfl, rfl⟩ (ct_X6_endsText l hm σ n B30) (mup_of h31) (fun _ _ => cwV 0 X.1.2.2.2.2 (lw_V q2917 q2919 qs79 q174 q2920) rfl rfl rfl (by decide +kernel) ⟨(Nat.le_of_ble_eq_true rfl), (Nat.le_of_ble_eq_true rfl)⟩) mH_rc rfl rfl hl.1 rfl rfl (Nat.le_of_ble_eq_true rfl) dX6_playScript_31 ?_
    refine J.pu (fun _ _ _ _ k => lv_iload_n X.1.1 X.1.2.1 dX6_playScript_34 rfl (lv_at hl 1 rfl) k) ?_
    refine J.br (fun _ _ _ _ ka kb => lv_if_ne (tgt := 40) X.1.1 X.1.2.1 dX6_playScript_35 (by decide) kb ka) (fun c35 => ?_) (fun c35 => ?_)
    · refine J.pu (fun _ _ _ _ k => lv_iconst (v := (-1)) X.1.1 X.1.2.1 dX6_playScript_38 (by decide) k) ?_
      exact J.iret (vr := fun t : Int32 × jM => jrI t.1) (fin := fun r : Int32 × jM => mH mo A σ r.2) (t := t) X hr (by rfl) (by rfl) dX6_playScript_39
    · refine J.pu (fun _ _ _ _ k => lv_aload_n X.1.1 X.1.2.1 dX6_playScript_40 rfl (lv_at hl 0 rfl) k) ?_
      refine J.bd' (fun v41 M41 h41 => ?_)
      refine J.cV (q := (RX6, TX6, 26)) (ci := 5) (As := []) (rest := []) (s2 := []) X ⟨rfl, rfl⟩ (ct_X6_remembers l hm σ n M31) (mup_of h41) (fun _ _ => cwV 0 X.1.2.2.2.2 (lw_V q2944 q2946 qs83 q174 q2947) rfl rfl rfl (by decide +kernel) ⟨(Nat.le_of_ble_eq_true rfl), (Nat.le_of_ble_eq_true rfl)⟩) mH_rc rfl rfl hl.1 rfl rfl (Nat.le_of_ble_eq_true rfl) dX6_playScript_41 ?_
      refine J.pu (fun _ _ _ _ k => lv_iconst (v := 0) X.1.1 X.1.2.1 dX6_playScript_44 (by decide) k) ?_
      refine J.istore_n (i := 2) (lv' := [(2, .int 0), (0, .ref mo), (1, .int x1_30)]) X.1.1 X.1.2.1 dX6_playScript_45 rfl hl (by decide) (by first | rfl | simp [va_rf_cat, jcI, jcA, jcJ, jcD, jcF]) (fun ls hl => ?_)
      exact L46 n 0 M41 ls (lv_sub hl [1, 0] rfl)
  have L11 : ∀ (n11 : Nat) (x1_11 : Int32) (B11 : jM) (ls : Array Slot), lv_has ls 3 [(0, .ref mo), (1, .int x1_11)] → jGo l G 10 284 (mH mo A σ M) (fun r : Int32 × jM => mH mo A σ r.2) (fun t => jrI t.1) t p e s m args below meth c (jloop (X6_playScript_h11 n) n11 (x1_11, B11)) (mH mo A σ B11) (F0 m 11 ls []) := by
    intro n11
    induction n11 with
    | zero => intro x1_11 B11 ls hl; exact J.nil_
    | succ n11 ih11 =>
      intro x1_11 B11 ls hl
      refine J.eq (jloop_s _ _ _) ?_
      dsimp only [X6_playScript_h11]
      refine J.pu (fun _ _ _ _ k => lv_iload_n X.1.1 X.1.2.1 dX6_playScript_11 rfl (lv_at hl 1 rfl) k) ?_
      refine J.br (fun _ _ _ _ ka kb => lv_if_eq (tgt := 30) X.1.1 X.1.2.1 dX6_playScript_12 (by decide) ka kb) (fun c12 => ?_) (fun c12 => ?_)
      · exact j30 x1_11 B11 ls (lv_sub hl [0, 1] rfl)
      · refine J.pu (fun _ _ _ _ k => lv_aload_n X.1.1 X.1.2.1 dX6_playScript_15 rfl (lv_at hl 0 rfl) k) ?_
        refine J.mgS (k := 17) X (by decide) q2747 rfl rfl dX6_playScript_16 ?_
        refine J.br (fun _ _ _ _ ka kb => lv_if_eq (tgt := 30) X.1.1 X.1.2.1 dX6_playScript_19 (by decide) ka kb) (fun c19 => ?_) (fun c19 => ?_)
        · exact j30 x1_11 B11 ls (lv_sub hl [0, 1] rfl)
        · refine J.pu (fun _ _ _ _ k => lv_aload_n X.1.1 X.1.2.1 dX6_playScript_22 rfl (lv_at hl 0 rfl) k) ?_
          refine J.bd' (fun v23 M23 h23 => ?_)
          refine J.cV (q := (RX6, TX6, 26)) (ci := 5) (As := []) (rest := []) (s2 := [.int v23]) X ⟨rfl, rfl⟩ (ct_X6_readScriptStatement l hm σ hs n B11) (mup_of h23) (fun _ _ => cwV 0 X.1.2.2.2.2 (lw_V q2925 q2927 qs80 q174 q2928) rfl rfl rfl (by decide +kernel) ⟨(Nat.le_of_ble_eq_true rfl), (Nat.le_of_ble_eq_true rfl)⟩) mH_rc rfl rfl hl.1 rfl rfl (Nat.le_of_ble_eq_true rfl) dX6_playScript_23 ?_
          refine J.istore_n (i := 1) (lv' := [(1, .int v23), (0, .ref mo)]) X.1.1 X.1.2.1 dX6_playScript_26 rfl hl (by decide) (by first | rfl | simp [va_rf_cat, jcI, jcA, jcJ, jcD, jcF]) (fun ls hl => ?_)
          refine J.pu (fun _ _ _ _ k => lv_goto (tgt := 11) X.1.1 X.1.2.1 dX6_playScript_27 (by decide) k) ?_
          exact ih11 v23 M23 ls (lv_sub hl [1, 0] rfl)
  unfold X6_playScript
  refine J.pu (fun _ _ _ _ k => lv_aload_n X.1.1 X.1.2.1 dX6_playScript_0 rfl (lv_at hl 0 rfl) k) ?_
  refine J.pu (fun _ _ _ _ k => lv_iconst (v := 0) X.1.1 X.1.2.1 dX6_playScript_1 (by decide) k) ?_
  refine J.mpS (k := 7) X hm (by decide) q2737 rfl rfl rfl dX6_playScript_2 ?_
  refine J.pu (fun _ _ _ _ k => lv_aload_n X.1.1 X.1.2.1 dX6_playScript_5 rfl (lv_at hl 0 rfl) k) ?_
  refine J.bd' (fun v6 M6 h6 => ?_)
  refine J.cV (q := (RX6, TX6, 26)) (ci := 5) (As := []) (rest := []) (s2 := []) X ⟨rfl, rfl⟩ (ct_X6_startsText l hm σ n (mP M 7 0)) (mup_of h6) (fun _ _ => cwV 0 X.1.2.2.2.2 (lw_V q2835 q2837 qs60 q174 q2838) rfl rfl rfl (by decide +kernel) ⟨(Nat.le_of_ble_eq_true rfl), (Nat.le_of_ble_eq_true rfl)⟩) mH_rc rfl rfl hl.1 rfl rfl (Nat.le_of_ble_eq_true rfl) dX6_playScript_6 ?_
  refine J.pu (fun _ _ _ _ k => lv_iconst (v := 1) X.1.1 X.1.2.1 dX6_playScript_9 (by decide) k) ?_
  refine J.istore_n (i := 1) (lv' := [(1, .int 1), (0, .ref mo)]) X.1.1 X.1.2.1 dX6_playScript_10 rfl hl (by decide) (by first | rfl | simp [va_rf_cat, jcI, jcA, jcJ, jcD, jcF]) (fun ls hl => ?_)
  exact L11 n 1 M6 ls (lv_sub hl [1, 0] rfl)
noncomputable def X6_errorCode (n : Nat) (M : jM) : Option (Int32 × jM) :=
  some (((mP M 7 0).2 10), (mP M 7 0))
set_option maxHeartbeats 4000000 in
set_option maxRecDepth 100000 in
theorem ct_X6_errorCode (l : Launch) {G : jG} {mo : Nat} {A : Nat → Nat} (hm : mOK G mo A) (σ : jH) (n : Nat) (M : jM) : jCt l G yX6_errorCode (ws_ yX6_errorCode cX6_errorCode 1 (some .int)) 0 0 jrI [.ref mo] (mH mo A σ M) (mup mo A σ (X6_errorCode n M)) := by
  refine jCt.wm (lv := [(0, .ref mo)]) (plainFor_of_name (by decide)) (Nat.le_of_ble_eq_true rfl) rfl ?_
  intro t p e s m args below meth c ls X hr hnm hl
  have X : jCx p c cX6_errorCode 1 s m args RX6 G meth := X
  unfold X6_errorCode
  refine J.pu (fun _ _ _ _ k => lv_aload_n X.1.1 X.1.2.1 dX6_errorCode_0 rfl (lv_at hl 0 rfl) k) ?_
  refine J.pu (fun _ _ _ _ k => lv_iconst (v := 0) X.1.1 X.1.2.1 dX6_errorCode_1 (by decide) k) ?_
  refine J.mpS (k := 7) X hm (by decide) q2737 rfl rfl rfl dX6_errorCode_2 ?_
  refine J.pu (fun _ _ _ _ k => lv_aload_n X.1.1 X.1.2.1 dX6_errorCode_5 rfl (lv_at hl 0 rfl) k) ?_
  refine J.mgS (k := 10) X (by decide) q2740 rfl rfl dX6_errorCode_6 ?_
  exact J.iret (vr := fun t : Int32 × jM => jrI t.1) (fin := fun r : Int32 × jM => mH mo A σ r.2) (t := t) X hr (by rfl) (by rfl) dX6_errorCode_9
noncomputable def X6_errorOffset (n : Nat) (M : jM) : Option (Int32 × jM) :=
  some (((mP M 7 0).2 11), (mP M 7 0))
set_option maxHeartbeats 4000000 in
set_option maxRecDepth 100000 in
theorem ct_X6_errorOffset (l : Launch) {G : jG} {mo : Nat} {A : Nat → Nat} (hm : mOK G mo A) (σ : jH) (n : Nat) (M : jM) : jCt l G yX6_errorOffset (ws_ yX6_errorOffset cX6_errorOffset 1 (some .int)) 0 0 jrI [.ref mo] (mH mo A σ M) (mup mo A σ (X6_errorOffset n M)) := by
  refine jCt.wm (lv := [(0, .ref mo)]) (plainFor_of_name (by decide)) (Nat.le_of_ble_eq_true rfl) rfl ?_
  intro t p e s m args below meth c ls X hr hnm hl
  have X : jCx p c cX6_errorOffset 1 s m args RX6 G meth := X
  unfold X6_errorOffset
  refine J.pu (fun _ _ _ _ k => lv_aload_n X.1.1 X.1.2.1 dX6_errorOffset_0 rfl (lv_at hl 0 rfl) k) ?_
  refine J.pu (fun _ _ _ _ k => lv_iconst (v := 0) X.1.1 X.1.2.1 dX6_errorOffset_1 (by decide) k) ?_
  refine J.mpS (k := 7) X hm (by decide) q2737 rfl rfl rfl dX6_errorOffset_2 ?_
  refine J.pu (fun _ _ _ _ k => lv_aload_n X.1.1 X.1.2.1 dX6_errorOffset_5 rfl (lv_at hl 0 rfl) k) ?_
  refine J.mgS (k := 11) X (by decide) q2741 rfl rfl dX6_errorOffset_6 ?_
  exact J.iret (vr := fun t : Int32 × jM => jrI t.1) (fin := fun r : Int32 × jM => mH mo A σ r.2) (t := t) X hr (by rfl) (by rfl) dX6_errorOffset_9
noncomputable def X6_fails (n : Nat) (M : jM) (a1 : Int32) (a2 : Int32) : Option (Int32 × jM) :=
  if a1 = 0 then (jbo .boolean a1 (some (a1, M))) else (jbo .boolean a1 (some (a1, (mP M 7 a2))))
set_option maxHeartbeats 4000000 in
set_option maxRecDepth 100000 in
theorem ct_X6_fails (l : Launch) {G : jG} {mo : Nat} {A : Nat → Nat} (hm : mOK G mo A) (σ : jH) (n : Nat) (M : jM) (a1 : Int32) (a2 : Int32) : jCt l G yX6_fails (ws_ yX6_fails cX6_fails 3 (some .boolean)) 0 0 jrI [.ref mo, .int a1, .int a2] (mH mo A σ M) (mup mo A σ (X6_fails n M a1 a2)) := by
  refine jCt.wm (lv := [(0, .ref mo), (1, .int a1), (2, .int a2)]) (plainFor_of_name (by decide)) (Nat.le_of_ble_eq_true rfl) rfl ?_
  intro t p e s m args below meth c ls X hr hnm hl
  have X : jCx p c cX6_fails 3 s m args RX6 G meth := X
  unfold X6_fails
  refine J.pu (fun _ _ _ _ k => lv_iload_n X.1.1 X.1.2.1 dX6_fails_0 rfl (lv_at hl 1 rfl) k) ?_
  refine J.br (fun _ _ _ _ ka kb => lv_if_eq (tgt := 9) X.1.1 X.1.2.1 dX6_fails_1 (by decide) ka kb) (fun c1 => ?_) (fun c1 => ?_)
  · refine J.pu (fun _ _ _ _ k => lv_iload_n X.1.1 X.1.2.1 dX6_fails_9 rfl (lv_at hl 1 rfl) k) ?_
    exact J.zretb (vr := fun t : Int32 × jM => jrI t.1) (fin := fun r : Int32 × jM => mH mo A σ r.2) (t := t) X hr (by rfl) (by rfl) dX6_fails_10
  · refine J.pu (fun _ _ _ _ k => lv_aload_n X.1.1 X.1.2.1 dX6_fails_4 rfl (lv_at hl 0 rfl) k) ?_
    refine J.pu (fun _ _ _ _ k => lv_iload_n X.1.1 X.1.2.1 dX6_fails_5 rfl (lv_at hl 2 rfl) k) ?_
    refine J.mpS (k := 7) X hm (by decide) q2737 rfl rfl rfl dX6_fails_6 ?_
    refine J.pu (fun _ _ _ _ k => lv_iload_n X.1.1 X.1.2.1 dX6_fails_9 rfl (lv_at hl 1 rfl) k) ?_
    exact J.zretb (vr := fun t : Int32 × jM => jrI t.1) (fin := fun r : Int32 × jM => mH mo A σ r.2) (t := t) X hr (by rfl) (by rfl) dX6_fails_10
noncomputable def X6_lagging_j36 (n : Nat) (M : jM) (rec4 : Int32 × Int32 → Option (Int32)) (x2_36 : Int32) (s0_36 : Int32) (s1_36 : Int32) : Option (Int32) :=
  (X6_one n M s1_36).bind fun v36 => rec4 ((s0_36 + v36), (x2_36 + 1))
noncomputable def X6_lagging_j35 (n : Nat) (M : jM) (rec4 : Int32 × Int32 → Option (Int32)) (x2_35 : Int32) (s0_35 : Int32) : Option (Int32) :=
  X6_lagging_j36 n M rec4 x2_35 s0_35 0
noncomputable def X6_lagging_h4 (n : Nat) (M : jM) (rec4 : Int32 × Int32 → Option (Int32)) (q4 : Int32 × Int32) : Option (Int32) :=
  let x1_4 := q4.1; let x2_4 := q4.2; (mA M 0 4).bind fun v10 => if v10 ≤ x2_4 then (some x1_4) else ((X6_isTracked n M x2_4).bind fun v17 => if v17 = 0 then (X6_lagging_j35 n M rec4 x2_4 x1_4) else ((X6_lagOf n M x2_4).bind fun v25 => if v25 ≤ 0 then (X6_lagging_j35 n M rec4 x2_4 x1_4) else (X6_lagging_j36 n M rec4 x2_4 x1_4 1)))
noncomputable def X6_lagging (n : Nat) (M : jM) : Option (Int32) :=
  jloop (X6_lagging_h4 n M) n (0, 0)
set_option maxHeartbeats 4000000 in
set_option maxRecDepth 100000 in
theorem ct_X6_lagging (l : Launch) {G : jG} {mo : Nat} {A : Nat → Nat} (hm : mOK G mo A) (σ : jH) (n : Nat) (M : jM) : jCt l G yX6_lagging (ws_ yX6_lagging cX6_lagging 3 (some .int)) 3 65 jrI [.ref mo] (mH mo A σ M) (jrd (mH mo A σ M) (X6_lagging n M)) := by
  refine jCt.rd (lv := [(0, .ref mo)]) (plainFor_of_name (by decide)) (Nat.le_of_ble_eq_true rfl) rfl ?_
  intro t p e s m args below meth c ls X hr hnm hl
  have X : jCx p c cX6_lagging 3 s m args RX6 G meth := X
  have L4 : ∀ (n4 : Nat) (x1_4 : Int32) (x2_4 : Int32) (ls : Array Slot), lv_has ls 3 [(0, .ref mo), (1, .int x1_4), (2, .int x2_4)] → jGo l G 3 65 (mH mo A σ M) (fun _ : Int32 => (mH mo A σ M)) jrI t p e s m args below meth c (jloop (X6_lagging_h4 n M) n4 (x1_4, x2_4)) (mH mo A σ M) (F0 m 4 ls []) := by
    intro n4
    induction n4 with
    | zero => intro x1_4 x2_4 ls hl; exact J.nil_
    | succ n4 ih4 =>
      have j36 : ∀ (x2_36 : Int32) (s0_36 : Int32) (s1_36 : Int32) (ls : Array Slot), lv_has ls 3 [(0, .ref mo), (2, .int x2_36)] → jGo l G 3 65 (mH mo A σ M) (fun _ : Int32 => (mH mo A σ M)) jrI t p e s m args below meth c (X6_lagging_j36 n M (jloop (X6_lagging_h4 n M) n4) x2_36 s0_36 s1_36) (mH mo A σ M) (F0 m 36 ls [.int s1_36, .int s0_36]) := by
        intro x2_36 s0_36 s1_36 ls hl
        unfold X6_lagging_j36
        refine J.bind (fun v36 h36 => ?_)
        refine J.cS (As := [.int s1_36]) (rest := [.int s0_36]) (s2 := [.int v36, .int s0_36]) X ⟨rfl, rfl⟩ (ct_X6_one l hm σ n M s1_36) (jrd_of h36) (fun _ _ => va_cwS 1 X.1.2.2.2.2 (lw_S q2988 q2989 q174 q2990) rfl rfl rfl (by decide +kernel) ⟨(Nat.le_of_ble_eq_true rfl), (Nat.le_of_ble_eq_true rfl)⟩) rfl hl.1 rfl rfl (Nat.le_of_ble_eq_true rfl) dX6_lagging_36 ?_
        refine J.pu (fun _ _ _ _ k => lv_iadd X.1.1 X.1.2.1 dX6_lagging_39 k) ?_
        refine J.istore_n (i := 1) (lv' := [(1, .int (s0_36 + v36)), (0, .ref mo), (2, .int x2_36)]) X.1.1 X.1.2.1 dX6_lagging_40 rfl hl (by decide) (by first | rfl | simp [va_rf_cat, jcI, jcA, jcJ, jcD, jcF]) (fun ls hl => ?_)
        refine J.iinc (k := 2) (lv' := [(2, .int (x2_36 + 1)), (1, .int (s0_36 + v36)), (0, .ref mo)]) (w := (x2_36 + 1)) X.1.1 X.1.2.1 dX6_lagging_41 hl rfl rfl (by decide) (by first | rfl | simp [va_rf_cat, jcI, jcA, jcJ, jcD, jcF]) (fun ls hl => ?_)
        refine J.pu (fun _ _ _ _ k => lv_goto (tgt := 4) X.1.1 X.1.2.1 dX6_lagging_44 (by decide) k) ?_
        exact ih4 (s0_36 + v36) (x2_36 + 1) ls (lv_sub hl [2, 1, 0] rfl)
      have j35 : ∀ (x2_35 : Int32) (s0_35 : Int32) (ls : Array Slot), lv_has ls 3 [(0, .ref mo), (2, .int x2_35)] → jGo l G 3 65 (mH mo A σ M) (fun _ : Int32 => (mH mo A σ M)) jrI t p e s m args below meth c (X6_lagging_j35 n M (jloop (X6_lagging_h4 n M) n4) x2_35 s0_35) (mH mo A σ M) (F0 m 35 ls [.int s0_35]) := by
        intro x2_35 s0_35 ls hl
        unfold X6_lagging_j35
        refine J.pu (fun _ _ _ _ k => lv_iconst (v := 0) X.1.1 X.1.2.1 dX6_lagging_35 (by decide) k) ?_
        exact j36 x2_35 s0_35 0 ls (lv_sub hl [0, 1] rfl)
      intro x1_4 x2_4 ls hl
      refine J.eq (jloop_s _ _ _) ?_
      dsimp only [X6_lagging_h4]
      refine J.pu (fun _ _ _ _ k => lv_iload_n X.1.1 X.1.2.1 dX6_lagging_4 rfl (lv_at hl 2 rfl) k) ?_
      refine J.pu (fun _ _ _ _ k => lv_aload_n X.1.1 X.1.2.1 dX6_lagging_5 rfl (lv_at hl 0 rfl) k) ?_
      refine J.mgA (k := 0) X (by decide) q2730 rfl rfl dX6_lagging_6 ?_
      refine J.pu (fun _ _ _ _ k => lv_iconst (v := 4) X.1.1 X.1.2.1 dX6_lagging_9 (by decide) k) ?_
      refine J.mld X hm (by decide) dX6_lagging_10 (fun v10 h10 => ?_)
      refine J.br (fun _ _ _ _ ka kb => lv_icmp_ge (tgt := 47) X.1.1 X.1.2.1 dX6_lagging_11 (by decide) ka kb) (fun c11 => ?_) (fun c11 => ?_)
      · refine J.pu (fun _ _ _ _ k => lv_iload_n X.1.1 X.1.2.1 dX6_lagging_47 rfl (lv_at hl 1 rfl) k) ?_
        exact J.iret (vr := jrI) (fin := fun _ : Int32 => (mH mo A σ M)) (t := t) X hr (by rfl) (by rfl) dX6_lagging_48
      · refine J.pu (fun _ _ _ _ k => lv_iload_n X.1.1 X.1.2.1 dX6_lagging_14 rfl (lv_at hl 1 rfl) k) ?_
        refine J.pu (fun _ _ _ _ k => lv_aload_n X.1.1 X.1.2.1 dX6_lagging_15 rfl (lv_at hl 0 rfl) k) ?_
        refine J.pu (fun _ _ _ _ k => lv_iload_n X.1.1 X.1.2.1 dX6_lagging_16 rfl (lv_at hl 2 rfl) k) ?_
        refine J.bind (fun v17 h17 => ?_)
        refine J.cV (q := (RX6, TX6, 26)) (ci := 5) (As := [.int x2_4]) (rest := [.int x1_4]) (s2 := [.int v17, .int x1_4]) X ⟨rfl, rfl⟩ (ct_X6_isTracked l hm σ n M x2_4) (jrd_of h17) (fun _ _ => cwV 1 X.1.2.2.2.2 (lw_V q3023 q3025 qs101 q174 q3026) rfl rfl rfl (by decide +kernel) ⟨(Nat.le_of_ble_eq_true rfl), (Nat.le_of_ble_eq_true rfl)⟩) mH_rc rfl rfl hl.1 rfl rfl (Nat.le_of_ble_eq_true rfl) dX6_lagging_17 ?_
        refine J.br (fun _ _ _ _ ka kb => lv_if_eq (tgt := 35) X.1.1 X.1.2.1 dX6_lagging_20 (by decide) ka kb) (fun c20 => ?_) (fun c20 => ?_)
        · exact j35 x2_4 x1_4 ls (lv_sub hl [0, 2] rfl)
        · refine J.pu (fun _ _ _ _ k => lv_aload_n X.1.1 X.1.2.1 dX6_lagging_23 rfl (lv_at hl 0 rfl) k) ?_
          refine J.pu (fun _ _ _ _ k => lv_iload_n X.1.1 X.1.2.1 dX6_lagging_24 rfl (lv_at hl 2 rfl) k) ?_
          refine J.bind (fun v25 h25 => ?_)
          refine J.cV (q := (RX6, TX6, 26)) (ci := 5) (As := [.int x2_4]) (rest := [.int x1_4]) (s2 := [.int v25, .int x1_4]) X ⟨rfl, rfl⟩ (ct_X6_lagOf l hm σ n M x2_4) (jrd_of h25) (fun _ _ => cwV 1 X.1.2.2.2.2 (lw_V q3008 q3010 qs98 q174 q3011) rfl rfl rfl (by decide +kernel) ⟨(Nat.le_of_ble_eq_true rfl), (Nat.le_of_ble_eq_true rfl)⟩) mH_rc rfl rfl hl.1 rfl rfl (Nat.le_of_ble_eq_true rfl) dX6_lagging_25 ?_
          refine J.br (fun _ _ _ _ ka kb => lv_if_le (tgt := 35) X.1.1 X.1.2.1 dX6_lagging_28 (by decide) ka kb) (fun c28 => ?_) (fun c28 => ?_)
          · exact j35 x2_4 x1_4 ls (lv_sub hl [0, 2] rfl)
          · refine J.pu (fun _ _ _ _ k => lv_iconst (v := 1) X.1.1 X.1.2.1 dX6_lagging_31 (by decide) k) ?_
            refine J.pu (fun _ _ _ _ k => lv_goto (tgt := 36) X.1.1 X.1.2.1 dX6_lagging_32 (by decide) k) ?_
            exact j36 x2_4 x1_4 1 ls (lv_sub hl [0, 2] rfl)
  unfold X6_lagging
  refine J.pu (fun _ _ _ _ k => lv_iconst (v := 0) X.1.1 X.1.2.1 dX6_lagging_0 (by decide) k) ?_
  refine J.istore_n (i := 1) (lv' := [(1, .int 0), (0, .ref mo)]) X.1.1 X.1.2.1 dX6_lagging_1 rfl hl (by decide) (by first | rfl | simp [va_rf_cat, jcI, jcA, jcJ, jcD, jcF]) (fun ls hl => ?_)
  refine J.pu (fun _ _ _ _ k => lv_iconst (v := 0) X.1.1 X.1.2.1 dX6_lagging_2 (by decide) k) ?_
  refine J.istore_n (i := 2) (lv' := [(2, .int 0), (1, .int 0), (0, .ref mo)]) X.1.1 X.1.2.1 dX6_lagging_3 rfl hl (by decide) (by first | rfl | simp [va_rf_cat, jcI, jcA, jcJ, jcD, jcF]) (fun ls hl => ?_)
  exact L4 n 0 0 ls (lv_sub hl [2, 1, 0] rfl)
noncomputable def X6_untracked_j36 (n : Nat) (M : jM) (rec4 : Int32 × Int32 → Option (Int32)) (x2_36 : Int32) (s0_36 : Int32) (s1_36 : Int32) : Option (Int32) :=
  (X6_one n M s1_36).bind fun v36 => rec4 ((s0_36 + v36), (x2_36 + 1))
noncomputable def X6_untracked_j35 (n : Nat) (M : jM) (rec4 : Int32 × Int32 → Option (Int32)) (x2_35 : Int32) (s0_35 : Int32) : Option (Int32) :=
  X6_untracked_j36 n M rec4 x2_35 s0_35 0
noncomputable def X6_untracked_h4 (n : Nat) (M : jM) (rec4 : Int32 × Int32 → Option (Int32)) (q4 : Int32 × Int32) : Option (Int32) :=
  let x1_4 := q4.1; let x2_4 := q4.2; (mA M 0 4).bind fun v10 => if v10 ≤ x2_4 then (some x1_4) else ((X6_isOn n M x2_4).bind fun v17 => if v17 = 0 then (X6_untracked_j35 n M rec4 x2_4 x1_4) else ((X6_isTracked n M x2_4).bind fun v25 => if v25 = 0 then (X6_untracked_j36 n M rec4 x2_4 x1_4 1) else (X6_untracked_j35 n M rec4 x2_4 x1_4)))
noncomputable def X6_untracked (n : Nat) (M : jM) : Option (Int32) :=
  jloop (X6_untracked_h4 n M) n (0, 0)
set_option maxHeartbeats 4000000 in
set_option maxRecDepth 100000 in
theorem ct_X6_untracked (l : Launch) {G : jG} {mo : Nat} {A : Nat → Nat} (hm : mOK G mo A) (σ : jH) (n : Nat) (M : jM) : jCt l G yX6_untracked (ws_ yX6_untracked cX6_untracked 3 (some .int)) 3 64 jrI [.ref mo] (mH mo A σ M) (jrd (mH mo A σ M) (X6_untracked n M)) := by
  refine jCt.rd (lv := [(0, .ref mo)]) (plainFor_of_name (by decide)) (Nat.le_of_ble_eq_true rfl) rfl ?_
  intro t p e s m args below meth c ls X hr hnm hl
  have X : jCx p c cX6_untracked 3 s m args RX6 G meth := X
  have L4 : ∀ (n4 : Nat) (x1_4 : Int32) (x2_4 : Int32) (ls : Array Slot), lv_has ls 3 [(0, .ref mo), (1, .int x1_4), (2, .int x2_4)] → jGo l G 3 64 (mH mo A σ M) (fun _ : Int32 => (mH mo A σ M)) jrI t p e s m args below meth c (jloop (X6_untracked_h4 n M) n4 (x1_4, x2_4)) (mH mo A σ M) (F0 m 4 ls []) := by
    intro n4
    induction n4 with
    | zero => intro x1_4 x2_4 ls hl; exact J.nil_
    | succ n4 ih4 =>
      have j36 : ∀ (x2_36 : Int32) (s0_36 : Int32) (s1_36 : Int32) (ls : Array Slot), lv_has ls 3 [(0, .ref mo), (2, .int x2_36)] → jGo l G 3 64 (mH mo A σ M) (fun _ : Int32 => (mH mo A σ M)) jrI t p e s m args below meth c (X6_untracked_j36 n M (jloop (X6_untracked_h4 n M) n4) x2_36 s0_36 s1_36) (mH mo A σ M) (F0 m 36 ls [.int s1_36, .int s0_36]) := by
        intro x2_36 s0_36 s1_36 ls hl
        unfold X6_untracked_j36
        refine J.bind (fun v36 h36 => ?_)
        refine J.cS (As := [.int s1_36]) (rest := [.int s0_36]) (s2 := [.int v36, .int s0_36]) X ⟨rfl, rfl⟩ (ct_X6_one l hm σ n M s1_36) (jrd_of h36) (fun _ _ => va_cwS 1 X.1.2.2.2.2 (lw_S q2988 q2989 q174 q2990) rfl rfl rfl (by decide +kernel) ⟨(Nat.le_of_ble_eq_true rfl), (Nat.le_of_ble_eq_true rfl)⟩) rfl hl.1 rfl rfl (Nat.le_of_ble_eq_true rfl) dX6_untracked_36 ?_
        refine J.pu (fun _ _ _ _ k => lv_iadd X.1.1 X.1.2.1 dX6_untracked_39 k) ?_
        refine J.istore_n (i := 1) (lv' := [(1, .int (s0_36 + v36)), (0, .ref mo), (2, .int x2_36)]) X.1.1 X.1.2.1 dX6_untracked_40 rfl hl (by decide) (by first | rfl | simp [va_rf_cat, jcI, jcA, jcJ, jcD, jcF]) (fun ls hl => ?_)
        refine J.iinc (k := 2) (lv' := [(2, .int (x2_36 + 1)), (1, .int (s0_36 + v36)), (0, .ref mo)]) (w := (x2_36 + 1)) X.1.1 X.1.2.1 dX6_untracked_41 hl rfl rfl (by decide) (by first | rfl | simp [va_rf_cat, jcI, jcA, jcJ, jcD, jcF]) (fun ls hl => ?_)
        refine J.pu (fun _ _ _ _ k => lv_goto (tgt := 4) X.1.1 X.1.2.1 dX6_untracked_44 (by decide) k) ?_
        exact ih4 (s0_36 + v36) (x2_36 + 1) ls (lv_sub hl [2, 1, 0] rfl)
      have j35 : ∀ (x2_35 : Int32) (s0_35 : Int32) (ls : Array Slot), lv_has ls 3 [(0, .ref mo), (2, .int x2_35)] → jGo l G 3 64 (mH mo A σ M) (fun _ : Int32 => (mH mo A σ M)) jrI t p e s m args below meth c (X6_untracked_j35 n M (jloop (X6_untracked_h4 n M) n4) x2_35 s0_35) (mH mo A σ M) (F0 m 35 ls [.int s0_35]) := by
        intro x2_35 s0_35 ls hl
        unfold X6_untracked_j35
        refine J.pu (fun _ _ _ _ k => lv_iconst (v := 0) X.1.1 X.1.2.1 dX6_untracked_35 (by decide) k) ?_
        exact j36 x2_35 s0_35 0 ls (lv_sub hl [0, 1] rfl)
      intro x1_4 x2_4 ls hl
      refine J.eq (jloop_s _ _ _) ?_
      dsimp only [X6_untracked_h4]
      refine J.pu (fun _ _ _ _ k => lv_iload_n X.1.1 X.1.2.1 dX6_untracked_4 rfl (lv_at hl 2 rfl) k) ?_
      refine J.pu (fun _ _ _ _ k => lv_aload_n X.1.1 X.1.2.1 dX6_untracked_5 rfl (lv_at hl 0 rfl) k) ?_
      refine J.mgA (k := 0) X (by decide) q2730 rfl rfl dX6_untracked_6 ?_
      refine J.pu (fun _ _ _ _ k => lv_iconst (v := 4) X.1.1 X.1.2.1 dX6_untracked_9 (by decide) k) ?_
      refine J.mld X hm (by decide) dX6_untracked_10 (fun v10 h10 => ?_)
      refine J.br (fun _ _ _ _ ka kb => lv_icmp_ge (tgt := 47) X.1.1 X.1.2.1 dX6_untracked_11 (by decide) ka kb) (fun c11 => ?_) (fun c11 => ?_)
      · refine J.pu (fun _ _ _ _ k => lv_iload_n X.1.1 X.1.2.1 dX6_untracked_47 rfl (lv_at hl 1 rfl) k) ?_
        exact J.iret (vr := jrI) (fin := fun _ : Int32 => (mH mo A σ M)) (t := t) X hr (by rfl) (by rfl) dX6_untracked_48
      · refine J.pu (fun _ _ _ _ k => lv_iload_n X.1.1 X.1.2.1 dX6_untracked_14 rfl (lv_at hl 1 rfl) k) ?_
        refine J.pu (fun _ _ _ _ k => lv_aload_n X.1.1 X.1.2.1 dX6_untracked_15 rfl (lv_at hl 0 rfl) k) ?_
        refine J.pu (fun _ _ _ _ k => lv_iload_n X.1.1 X.1.2.1 dX6_untracked_16 rfl (lv_at hl 2 rfl) k) ?_
        refine J.bind (fun v17 h17 => ?_)
        refine J.cV (q := (RX6, TX6, 26)) (ci := 5) (As := [.int x2_4]) (rest := [.int x1_4]) (s2 := [.int v17, .int x1_4]) X ⟨rfl, rfl⟩ (ct_X6_isOn l hm σ n M x2_4) (jrd_of h17) (fun _ _ => cwV 1 X.1.2.2.2.2 (lw_V q2960 q2962 qs87 q174 q2963) rfl rfl rfl (by decide +kernel) ⟨(Nat.le_of_ble_eq_true rfl), (Nat.le_of_ble_eq_true rfl)⟩) mH_rc rfl rfl hl.1 rfl rfl (Nat.le_of_ble_eq_true rfl) dX6_untracked_17 ?_
        refine J.br (fun _ _ _ _ ka kb => lv_if_eq (tgt := 35) X.1.1 X.1.2.1 dX6_untracked_20 (by decide) ka kb) (fun c20 => ?_) (fun c20 => ?_)
        · exact j35 x2_4 x1_4 ls (lv_sub hl [0, 2] rfl)
        · refine J.pu (fun _ _ _ _ k => lv_aload_n X.1.1 X.1.2.1 dX6_untracked_23 rfl (lv_at hl 0 rfl) k) ?_
          refine J.pu (fun _ _ _ _ k => lv_iload_n X.1.1 X.1.2.1 dX6_untracked_24 rfl (lv_at hl 2 rfl) k) ?_
          refine J.bind (fun v25 h25 => ?_)
          refine J.cV (q := (RX6, TX6, 26)) (ci := 5) (As := [.int x2_4]) (rest := [.int x1_4]) (s2 := [.int v25, .int x1_4]) X ⟨rfl, rfl⟩ (ct_X6_isTracked l hm σ n M x2_4) (jrd_of h25) (fun _ _ => cwV 1 X.1.2.2.2.2 (lw_V q3023 q3025 qs101 q174 q3026) rfl rfl rfl (by decide +kernel) ⟨(Nat.le_of_ble_eq_true rfl), (Nat.le_of_ble_eq_true rfl)⟩) mH_rc rfl rfl hl.1 rfl rfl (Nat.le_of_ble_eq_true rfl) dX6_untracked_25 ?_
          refine J.br (fun _ _ _ _ ka kb => lv_if_ne (tgt := 35) X.1.1 X.1.2.1 dX6_untracked_28 (by decide) kb ka) (fun c28 => ?_) (fun c28 => ?_)
          · refine J.pu (fun _ _ _ _ k => lv_iconst (v := 1) X.1.1 X.1.2.1 dX6_untracked_31 (by decide) k) ?_
            refine J.pu (fun _ _ _ _ k => lv_goto (tgt := 36) X.1.1 X.1.2.1 dX6_untracked_32 (by decide) k) ?_
            exact j36 x2_4 x1_4 1 ls (lv_sub hl [0, 2] rfl)
          · exact j35 x2_4 x1_4 ls (lv_sub hl [0, 2] rfl)
  unfold X6_untracked
  refine J.pu (fun _ _ _ _ k => lv_iconst (v := 0) X.1.1 X.1.2.1 dX6_untracked_0 (by decide) k) ?_
  refine J.istore_n (i := 1) (lv' := [(1, .int 0), (0, .ref mo)]) X.1.1 X.1.2.1 dX6_untracked_1 rfl hl (by decide) (by first | rfl | simp [va_rf_cat, jcI, jcA, jcJ, jcD, jcF]) (fun ls hl => ?_)
  refine J.pu (fun _ _ _ _ k => lv_iconst (v := 0) X.1.1 X.1.2.1 dX6_untracked_2 (by decide) k) ?_
  refine J.istore_n (i := 2) (lv' := [(2, .int 0), (1, .int 0), (0, .ref mo)]) X.1.1 X.1.2.1 dX6_untracked_3 rfl hl (by decide) (by first | rfl | simp [va_rf_cat, jcI, jcA, jcJ, jcD, jcF]) (fun ls hl => ?_)
  exact L4 n 0 0 ls (lv_sub hl [2, 1, 0] rfl)
noncomputable def X6_count_j21 (n : Nat) (a1 : Int32) (s1_21 : Int32) (B21 : jM) : Option (Int32 × jM) :=
  bd (X6_fails n B21 s1_21 1) fun v22 M22 => if v22 = 0 then (if a1 = 7 then ((X6_inState n M22 0).bind fun v74 => some (v74, M22)) else if a1 = 8 then ((X6_inState n M22 1).bind fun v80 => some (v80, M22)) else if a1 = 9 then ((X6_inState n M22 2).bind fun v86 => some (v86, M22)) else if a1 = 10 then ((X6_inState n M22 3).bind fun v92 => some (v92, M22)) else if a1 = 11 then ((X6_untracked n M22).bind fun v97 => some (v97, M22)) else if a1 = 12 then ((X6_lagging n M22).bind fun v102 => some (v102, M22)) else if a1 = 13 then (some ((M22.2 5), M22)) else (mA M22 0 a1).bind fun v116 => some (v116, M22)) else (some (0, M22))
noncomputable def X6_count (n : Nat) (M : jM) (a1 : Int32) : Option (Int32 × jM) :=
  (X6_inRange n (mP M 7 0) a1 0 13).bind fun v10 => if v10 = 0 then (X6_count_j21 n a1 1 (mP M 7 0)) else (X6_count_j21 n a1 0 (mP M 7 0))
set_option maxHeartbeats 4000000 in
set_option maxRecDepth 100000 in
theorem ct_X6_count (l : Launch) {G : jG} {mo : Nat} {A : Nat → Nat} (hm : mOK G mo A) (σ : jH) (n : Nat) (M : jM) (a1 : Int32) : jCt l G yX6_count (ws_ yX6_count cX6_count 2 (some .int)) 4 87 jrI [.ref mo, .int a1] (mH mo A σ M) (mup mo A σ (X6_count n M a1)) := by
  refine jCt.wm (lv := [(0, .ref mo), (1, .int a1)]) (plainFor_of_name (by decide)) (Nat.le_of_ble_eq_true rfl) rfl ?_
  intro t p e s m args below meth c ls X hr hnm hl
  have X : jCx p c cX6_count 2 s m args RX6 G meth := X
  have j21 : ∀ (s1_21 : Int32) (B21 : jM) (ls : Array Slot), lv_has ls 2 [(0, .ref mo), (1, .int a1)] → jGo l G 4 87 (mH mo A σ M) (fun r : Int32 × jM => mH mo A σ r.2) (fun t => jrI t.1) t p e s m args below meth c (X6_count_j21 n a1 s1_21 B21) (mH mo A σ B21) (F0 m 21 ls [.int s1_21, .ref mo]) := by
    intro s1_21 B21 ls hl
    unfold X6_count_j21
    refine J.pu (fun _ _ _ _ k => lv_iconst (v := 1) X.1.1 X.1.2.1 dX6_count_21 (by decide) k) ?_
    refine J.bd' (fun v22 M22 h22 => ?_)
    refine J.cV (q := (RX6, TX6, 26)) (ci := 5) (As := [.int s1_21, .int 1]) (rest := []) (s2 := [.int v22]) X ⟨rfl, rfl⟩ (ct_X6_fails l hm σ n B21 s1_21 1) (mup_of h22) (fun _ _ => cwV 2 X.1.2.2.2.2 (lw_V q3075 q3077 qs111 q174 q3078) rfl rfl rfl (by decide +kernel) ⟨(Nat.le_of_ble_eq_true rfl), (Nat.le_of_ble_eq_true rfl)⟩) mH_rc rfl rfl hl.1 rfl rfl (Nat.le_of_ble_eq_true rfl) dX6_count_22 ?_
    refine J.br (fun _ _ _ _ ka kb => lv_if_eq (tgt := 30) X.1.1 X.1.2.1 dX6_count_25 (by decide) ka kb) (fun c25 => ?_) (fun c25 => ?_)
    · refine J.pu (fun _ _ _ _ k => lv_iload_n X.1.1 X.1.2.1 dX6_count_30 rfl (lv_at hl 1 rfl) k) ?_
      refine J.ite (fun c31_7 => ?_) (fun c31_7 => ?_)
      · refine J.pu (fun _ _ _ _ k => lv_tableIn (tgt := 72) (off := 41) X.1.1 X.1.2.1 dX6_count_31 (by rw [c31_7]; decide) (by rw [c31_7]; decide) (by rw [c31_7]; decide) (by decide) k) ?_
        refine J.pu (fun _ _ _ _ k => lv_aload_n X.1.1 X.1.2.1 dX6_count_72 rfl (lv_at hl 0 rfl) k) ?_
        refine J.pu (fun _ _ _ _ k => lv_iconst (v := 0) X.1.1 X.1.2.1 dX6_count_73 (by decide) k) ?_
        refine J.bind (fun v74 h74 => ?_)
        refine J.cV (q := (RX6, TX6, 26)) (ci := 5) (As := [.int 0]) (rest := []) (s2 := [.int v74]) X ⟨rfl, rfl⟩ (ct_X6_inState l hm σ n M22 0) (jrd_of h74) (fun _ _ => cwV 1 X.1.2.2.2.2 (lw_V q2984 q2986 qs93 q174 q2987) rfl rfl rfl (by decide +kernel) ⟨(Nat.le_of_ble_eq_true rfl), (Nat.le_of_ble_eq_true rfl)⟩) mH_rc rfl rfl hl.1 rfl rfl (Nat.le_of_ble_eq_true rfl) dX6_count_74 ?_
        exact J.iret (vr := fun t : Int32 × jM => jrI t.1) (fin := fun r : Int32 × jM => mH mo A σ r.2) (t := t) X hr (by rfl) (by rfl) dX6_count_77
      refine J.ite (fun c31_8 => ?_) (fun c31_8 => ?_)
      · refine J.pu (fun _ _ _ _ k => lv_tableIn (tgt := 78) (off := 47) X.1.1 X.1.2.1 dX6_count_31 (by rw [c31_8]; decide) (by rw [c31_8]; decide) (by rw [c31_8]; decide) (by decide) k) ?_
        refine J.pu (fun _ _ _ _ k => lv_aload_n X.1.1 X.1.2.1 dX6_count_78 rfl (lv_at hl 0 rfl) k) ?_
        refine J.pu (fun _ _ _ _ k => lv_iconst (v := 1) X.1.1 X.1.2.1 dX6_count_79 (by decide) k) ?_
        refine J.bind (fun v80 h80 => ?_)
        refine J.cV (q := (RX6, TX6, 26)) (ci := 5) (As := [.int 1]) (rest := []) (s2 := [.int v80]) X ⟨rfl, rfl⟩ (ct_X6_inState l hm σ n M22 1) (jrd_of h80) (fun _ _ => cwV 1 X.1.2.2.2.2 (lw_V q2984 q2986 qs93 q174 q2987) rfl rfl rfl (by decide +kernel) ⟨(Nat.le_of_ble_eq_true rfl), (Nat.le_of_ble_eq_true rfl)⟩) mH_rc rfl rfl hl.1 rfl rfl (Nat.le_of_ble_eq_true rfl) dX6_count_80 ?_
        exact J.iret (vr := fun t : Int32 × jM => jrI t.1) (fin := fun r : Int32 × jM => mH mo A σ r.2) (t := t) X hr (by rfl) (by rfl) dX6_count_83
      refine J.ite (fun c31_9 => ?_) (fun c31_9 => ?_)
      · refine J.pu (fun _ _ _ _ k => lv_tableIn (tgt := 84) (off := 53) X.1.1 X.1.2.1 dX6_count_31 (by rw [c31_9]; decide) (by rw [c31_9]; decide) (by rw [c31_9]; decide) (by decide) k) ?_
        refine J.pu (fun _ _ _ _ k => lv_aload_n X.1.1 X.1.2.1 dX6_count_84 rfl (lv_at hl 0 rfl) k) ?_
        refine J.pu (fun _ _ _ _ k => lv_iconst (v := 2) X.1.1 X.1.2.1 dX6_count_85 (by decide) k) ?_
        refine J.bind (fun v86 h86 => ?_)
        refine J.cV (q := (RX6, TX6, 26)) (ci := 5) (As := [.int 2]) (rest := []) (s2 := [.int v86]) X ⟨rfl, rfl⟩ (ct_X6_inState l hm σ n M22 2) (jrd_of h86) (fun _ _ => cwV 1 X.1.2.2.2.2 (lw_V q2984 q2986 qs93 q174 q2987) rfl rfl rfl (by decide +kernel) ⟨(Nat.le_of_ble_eq_true rfl), (Nat.le_of_ble_eq_true rfl)⟩) mH_rc rfl rfl hl.1 rfl rfl (Nat.le_of_ble_eq_true rfl) dX6_count_86 ?_
        exact J.iret (vr := fun t : Int32 × jM => jrI t.1) (fin := fun r : Int32 × jM => mH mo A σ r.2) (t := t) X hr (by rfl) (by rfl) dX6_count_89
      refine J.ite (fun c31_10 => ?_) (fun c31_10 => ?_)
      · refine J.pu (fun _ _ _ _ k => lv_tableIn (tgt := 90) (off := 59) X.1.1 X.1.2.1 dX6_count_31 (by rw [c31_10]; decide) (by rw [c31_10]; decide) (by rw [c31_10]; decide) (by decide) k) ?_
        refine J.pu (fun _ _ _ _ k => lv_aload_n X.1.1 X.1.2.1 dX6_count_90 rfl (lv_at hl 0 rfl) k) ?_
        refine J.pu (fun _ _ _ _ k => lv_iconst (v := 3) X.1.1 X.1.2.1 dX6_count_91 (by decide) k) ?_
        refine J.bind (fun v92 h92 => ?_)
        refine J.cV (q := (RX6, TX6, 26)) (ci := 5) (As := [.int 3]) (rest := []) (s2 := [.int v92]) X ⟨rfl, rfl⟩ (ct_X6_inState l hm σ n M22 3) (jrd_of h92) (fun _ _ => cwV 1 X.1.2.2.2.2 (lw_V q2984 q2986 qs93 q174 q2987) rfl rfl rfl (by decide +kernel) ⟨(Nat.le_of_ble_eq_true rfl), (Nat.le_of_ble_eq_true rfl)⟩) mH_rc rfl rfl hl.1 rfl rfl (Nat.le_of_ble_eq_true rfl) dX6_count_92 ?_
        exact J.iret (vr := fun t : Int32 × jM => jrI t.1) (fin := fun r : Int32 × jM => mH mo A σ r.2) (t := t) X hr (by rfl) (by rfl) dX6_count_95
      refine J.ite (fun c31_11 => ?_) (fun c31_11 => ?_)
      · refine J.pu (fun _ _ _ _ k => lv_tableIn (tgt := 96) (off := 65) X.1.1 X.1.2.1 dX6_count_31 (by rw [c31_11]; decide) (by rw [c31_11]; decide) (by rw [c31_11]; decide) (by decide) k) ?_
        refine J.pu (fun _ _ _ _ k => lv_aload_n X.1.1 X.1.2.1 dX6_count_96 rfl (lv_at hl 0 rfl) k) ?_
        refine J.bind (fun v97 h97 => ?_)
        refine J.cV (q := (RX6, TX6, 26)) (ci := 5) (As := []) (rest := []) (s2 := [.int v97]) X ⟨rfl, rfl⟩ (ct_X6_untracked l hm σ n M22) (jrd_of h97) (fun _ _ => cwV 0 X.1.2.2.2.2 (lw_V q3079 q3081 qs112 q174 q3082) rfl rfl rfl (by decide +kernel) ⟨(Nat.le_of_ble_eq_true rfl), (Nat.le_of_ble_eq_true rfl)⟩) mH_rc rfl rfl hl.1 rfl rfl (Nat.le_of_ble_eq_true rfl) dX6_count_97 ?_
        exact J.iret (vr := fun t : Int32 × jM => jrI t.1) (fin := fun r : Int32 × jM => mH mo A σ r.2) (t := t) X hr (by rfl) (by rfl) dX6_count_100
      refine J.ite (fun c31_12 => ?_) (fun c31_12 => ?_)
      · refine J.pu (fun _ _ _ _ k => lv_tableIn (tgt := 101) (off := 70) X.1.1 X.1.2.1 dX6_count_31 (by rw [c31_12]; decide) (by rw [c31_12]; decide) (by rw [c31_12]; decide) (by decide) k) ?_
        refine J.pu (fun _ _ _ _ k => lv_aload_n X.1.1 X.1.2.1 dX6_count_101 rfl (lv_at hl 0 rfl) k) ?_
        refine J.bind (fun v102 h102 => ?_)
        refine J.cV (q := (RX6, TX6, 26)) (ci := 5) (As := []) (rest := []) (s2 := [.int v102]) X ⟨rfl, rfl⟩ (ct_X6_lagging l hm σ n M22) (jrd_of h102) (fun _ _ => cwV 0 X.1.2.2.2.2 (lw_V q3083 q3085 qs113 q174 q3086) rfl rfl rfl (by decide +kernel) ⟨(Nat.le_of_ble_eq_true rfl), (Nat.le_of_ble_eq_true rfl)⟩) mH_rc rfl rfl hl.1 rfl rfl (Nat.le_of_ble_eq_true rfl) dX6_count_102 ?_
        exact J.iret (vr := fun t : Int32 × jM => jrI t.1) (fin := fun r : Int32 × jM => mH mo A σ r.2) (t := t) X hr (by rfl) (by rfl) dX6_count_105
      refine J.ite (fun c31_13 => ?_) (fun c31_13 => ?_)
      · refine J.pu (fun _ _ _ _ k => lv_tableIn (tgt := 106) (off := 75) X.1.1 X.1.2.1 dX6_count_31 (by rw [c31_13]; decide) (by rw [c31_13]; decide) (by rw [c31_13]; decide) (by decide) k) ?_
        refine J.pu (fun _ _ _ _ k => lv_aload_n X.1.1 X.1.2.1 dX6_count_106 rfl (lv_at hl 0 rfl) k) ?_
        refine J.mgS (k := 5) X (by decide) q2735 rfl rfl dX6_count_107 ?_
        exact J.iret (vr := fun t : Int32 × jM => jrI t.1) (fin := fun r : Int32 × jM => mH mo A σ r.2) (t := t) X hr (by rfl) (by rfl) dX6_count_110
      by_cases b31 : a1.toInt < 7 ∨ 13 < a1.toInt
      · refine J.pu (fun _ _ _ _ k => lv_tableOut (tgt := 111) X.1.1 X.1.2.1 dX6_count_31 b31 (by decide) k) ?_
        refine J.pu (fun _ _ _ _ k => lv_aload_n X.1.1 X.1.2.1 dX6_count_111 rfl (lv_at hl 0 rfl) k) ?_
        refine J.mgA (k := 0) X (by decide) q2730 rfl rfl dX6_count_112 ?_
        refine J.pu (fun _ _ _ _ k => lv_iload_n X.1.1 X.1.2.1 dX6_count_115 rfl (lv_at hl 1 rfl) k) ?_
        refine J.mld X hm (by decide) dX6_count_116 (fun v116 h116 => ?_)
        exact J.iret (vr := fun t : Int32 × jM => jrI t.1) (fin := fun r : Int32 × jM => mH mo A σ r.2) (t := t) X hr (by rfl) (by rfl) dX6_count_117
      · exfalso; have := lv_neT c31_7 (a := 7) rfl; have := lv_neT c31_8 (a := 8) rfl; have := lv_neT c31_9 (a := 9) rfl; have := lv_neT c31_10 (a := 10) rfl; have := lv_neT c31_11 (a := 11) rfl; have := lv_neT c31_12 (a := 12) rfl; have := lv_neT c31_13 (a := 13) rfl; omega
    · refine J.pu (fun _ _ _ _ k => lv_iconst (v := 0) X.1.1 X.1.2.1 dX6_count_28 (by decide) k) ?_
      exact J.iret (vr := fun t : Int32 × jM => jrI t.1) (fin := fun r : Int32 × jM => mH mo A σ r.2) (t := t) X hr (by rfl) (by rfl) dX6_count_29
  unfold X6_count
  refine J.pu (fun _ _ _ _ k => lv_aload_n X.1.1 X.1.2.1 dX6_count_0 rfl (lv_at hl 0 rfl) k) ?_
  refine J.pu (fun _ _ _ _ k => lv_iconst (v := 0) X.1.1 X.1.2.1 dX6_count_1 (by decide) k) ?_
  refine J.mpS (k := 7) X hm (by decide) q2737 rfl rfl rfl dX6_count_2 ?_
  refine J.pu (fun _ _ _ _ k => lv_aload_n X.1.1 X.1.2.1 dX6_count_5 rfl (lv_at hl 0 rfl) k) ?_
  refine J.pu (fun _ _ _ _ k => lv_iload_n X.1.1 X.1.2.1 dX6_count_6 rfl (lv_at hl 1 rfl) k) ?_
  refine J.pu (fun _ _ _ _ k => lv_iconst (v := 0) X.1.1 X.1.2.1 dX6_count_7 (by decide) k) ?_
  refine J.pu (fun _ _ _ _ k => lv_bipush (v := 13) X.1.1 X.1.2.1 dX6_count_8 (by decide) k) ?_
  refine J.bind (fun v10 h10 => ?_)
  refine J.cS (As := [.int a1, .int 0, .int 13]) (rest := [.ref mo]) (s2 := [.int v10, .ref mo]) X ⟨rfl, rfl⟩ (ct_X6_inRange l hm σ n (mP M 7 0) a1 0 13) (jrd_of h10) (fun _ _ => va_cwS 3 X.1.2.2.2.2 (lw_S q2825 q2826 q174 q2827) rfl rfl rfl (by decide +kernel) ⟨(Nat.le_of_ble_eq_true rfl), (Nat.le_of_ble_eq_true rfl)⟩) rfl hl.1 rfl rfl (Nat.le_of_ble_eq_true rfl) dX6_count_10 ?_
  refine J.br (fun _ _ _ _ ka kb => lv_if_ne (tgt := 20) X.1.1 X.1.2.1 dX6_count_13 (by decide) kb ka) (fun c13 => ?_) (fun c13 => ?_)
  · refine J.pu (fun _ _ _ _ k => lv_iconst (v := 1) X.1.1 X.1.2.1 dX6_count_16 (by decide) k) ?_
    refine J.pu (fun _ _ _ _ k => lv_goto (tgt := 21) X.1.1 X.1.2.1 dX6_count_17 (by decide) k) ?_
    exact j21 1 (mP M 7 0) ls (lv_sub hl [0, 1] rfl)
  · refine J.pu (fun _ _ _ _ k => lv_iconst (v := 0) X.1.1 X.1.2.1 dX6_count_20 (by decide) k) ?_
    exact j21 0 (mP M 7 0) ls (lv_sub hl [0, 1] rfl)
noncomputable def X6_account_j21 (n : Nat) (a1 : Int32) (s1_21 : Int32) (B21 : jM) : Option (Int32 × jM) :=
  bd (X6_fails n B21 s1_21 1) fun v22 M22 => if v22 = 0 then ((mA M22 0 (7 + a1)).bind fun v40 => some (v40, M22)) else (some (0, M22))
noncomputable def X6_account (n : Nat) (M : jM) (a1 : Int32) : Option (Int32 × jM) :=
  (X6_inRange n (mP M 7 0) a1 0 11).bind fun v10 => if v10 = 0 then (X6_account_j21 n a1 1 (mP M 7 0)) else (X6_account_j21 n a1 0 (mP M 7 0))
set_option maxHeartbeats 4000000 in
set_option maxRecDepth 100000 in
theorem ct_X6_account (l : Launch) {G : jG} {mo : Nat} {A : Nat → Nat} (hm : mOK G mo A) (σ : jH) (n : Nat) (M : jM) (a1 : Int32) : jCt l G yX6_account (ws_ yX6_account cX6_account 2 (some .int)) 1 22 jrI [.ref mo, .int a1] (mH mo A σ M) (mup mo A σ (X6_account n M a1)) := by
  refine jCt.wm (lv := [(0, .ref mo), (1, .int a1)]) (plainFor_of_name (by decide)) (Nat.le_of_ble_eq_true rfl) rfl ?_
  intro t p e s m args below meth c ls X hr hnm hl
  have X : jCx p c cX6_account 2 s m args RX6 G meth := X
  have j21 : ∀ (s1_21 : Int32) (B21 : jM) (ls : Array Slot), lv_has ls 2 [(0, .ref mo), (1, .int a1)] → jGo l G 1 22 (mH mo A σ M) (fun r : Int32 × jM => mH mo A σ r.2) (fun t => jrI t.1) t p e s m args below meth c (X6_account_j21 n a1 s1_21 B21) (mH mo A σ B21) (F0 m 21 ls [.int s1_21, .ref mo]) := by
    intro s1_21 B21 ls hl
    unfold X6_account_j21
    refine J.pu (fun _ _ _ _ k => lv_iconst (v := 1) X.1.1 X.1.2.1 dX6_account_21 (by decide) k) ?_
    refine J.bd' (fun v22 M22 h22 => ?_)
    refine J.cV (q := (RX6, TX6, 26)) (ci := 5) (As := [.int s1_21, .int 1]) (rest := []) (s2 := [.int v22]) X ⟨rfl, rfl⟩ (ct_X6_fails l hm σ n B21 s1_21 1) (mup_of h22) (fun _ _ => cwV 2 X.1.2.2.2.2 (lw_V q3075 q3077 qs111 q174 q3078) rfl rfl rfl (by decide +kernel) ⟨(Nat.le_of_ble_eq_true rfl), (Nat.le_of_ble_eq_true rfl)⟩) mH_rc rfl rfl hl.1 rfl rfl (Nat.le_of_ble_eq_true rfl) dX6_account_22 ?_
    refine J.br (fun _ _ _ _ ka kb => lv_if_eq (tgt := 32) X.1.1 X.1.2.1 dX6_account_25 (by decide) ka kb) (fun c25 => ?_) (fun c25 => ?_)
    · refine J.pu (fun _ _ _ _ k => lv_aload_n X.1.1 X.1.2.1 dX6_account_32 rfl (lv_at hl 0 rfl) k) ?_
      refine J.mgA (k := 0) X (by decide) q2730 rfl rfl dX6_account_33 ?_
      refine J.pu (fun _ _ _ _ k => lv_bipush (v := 7) X.1.1 X.1.2.1 dX6_account_36 (by decide) k) ?_
      refine J.pu (fun _ _ _ _ k => lv_iload_n X.1.1 X.1.2.1 dX6_account_38 rfl (lv_at hl 1 rfl) k) ?_
      refine J.pu (fun _ _ _ _ k => lv_iadd X.1.1 X.1.2.1 dX6_account_39 k) ?_
      refine J.mld X hm (by decide) dX6_account_40 (fun v40 h40 => ?_)
      exact J.iret (vr := fun t : Int32 × jM => jrI t.1) (fin := fun r : Int32 × jM => mH mo A σ r.2) (t := t) X hr (by rfl) (by rfl) dX6_account_41
    · refine J.pu (fun _ _ _ _ k => lv_iconst (v := 0) X.1.1 X.1.2.1 dX6_account_28 (by decide) k) ?_
      refine J.pu (fun _ _ _ _ k => lv_goto (tgt := 41) X.1.1 X.1.2.1 dX6_account_29 (by decide) k) ?_
      exact J.iret (vr := fun t : Int32 × jM => jrI t.1) (fin := fun r : Int32 × jM => mH mo A σ r.2) (t := t) X hr (by rfl) (by rfl) dX6_account_41
  unfold X6_account
  refine J.pu (fun _ _ _ _ k => lv_aload_n X.1.1 X.1.2.1 dX6_account_0 rfl (lv_at hl 0 rfl) k) ?_
  refine J.pu (fun _ _ _ _ k => lv_iconst (v := 0) X.1.1 X.1.2.1 dX6_account_1 (by decide) k) ?_
  refine J.mpS (k := 7) X hm (by decide) q2737 rfl rfl rfl dX6_account_2 ?_
  refine J.pu (fun _ _ _ _ k => lv_aload_n X.1.1 X.1.2.1 dX6_account_5 rfl (lv_at hl 0 rfl) k) ?_
  refine J.pu (fun _ _ _ _ k => lv_iload_n X.1.1 X.1.2.1 dX6_account_6 rfl (lv_at hl 1 rfl) k) ?_
  refine J.pu (fun _ _ _ _ k => lv_iconst (v := 0) X.1.1 X.1.2.1 dX6_account_7 (by decide) k) ?_
  refine J.pu (fun _ _ _ _ k => lv_bipush (v := 11) X.1.1 X.1.2.1 dX6_account_8 (by decide) k) ?_
  refine J.bind (fun v10 h10 => ?_)
  refine J.cS (As := [.int a1, .int 0, .int 11]) (rest := [.ref mo]) (s2 := [.int v10, .ref mo]) X ⟨rfl, rfl⟩ (ct_X6_inRange l hm σ n (mP M 7 0) a1 0 11) (jrd_of h10) (fun _ _ => va_cwS 3 X.1.2.2.2.2 (lw_S q2825 q2826 q174 q2827) rfl rfl rfl (by decide +kernel) ⟨(Nat.le_of_ble_eq_true rfl), (Nat.le_of_ble_eq_true rfl)⟩) rfl hl.1 rfl rfl (Nat.le_of_ble_eq_true rfl) dX6_account_10 ?_
  refine J.br (fun _ _ _ _ ka kb => lv_if_ne (tgt := 20) X.1.1 X.1.2.1 dX6_account_13 (by decide) kb ka) (fun c13 => ?_) (fun c13 => ?_)
  · refine J.pu (fun _ _ _ _ k => lv_iconst (v := 1) X.1.1 X.1.2.1 dX6_account_16 (by decide) k) ?_
    refine J.pu (fun _ _ _ _ k => lv_goto (tgt := 21) X.1.1 X.1.2.1 dX6_account_17 (by decide) k) ?_
    exact j21 1 (mP M 7 0) ls (lv_sub hl [0, 1] rfl)
  · refine J.pu (fun _ _ _ _ k => lv_iconst (v := 0) X.1.1 X.1.2.1 dX6_account_20 (by decide) k) ?_
    exact j21 0 (mP M 7 0) ls (lv_sub hl [0, 1] rfl)
noncomputable def X6_noCell (n : Nat) (M : jM) (a1 : Int32) : Option (Int32 × jM) :=
  (mA M 0 0).bind fun v8 => (X6_inRange n M a1 0 (v8 - 1)).bind fun v11 => if v11 = 0 then (bd (X6_fails n M 1 1) fun v23 M23 => jbo .boolean v23 (some (v23, M23))) else (bd (X6_fails n M 0 1) fun v23 M23 => jbo .boolean v23 (some (v23, M23)))
set_option maxHeartbeats 4000000 in
set_option maxRecDepth 100000 in
theorem ct_X6_noCell (l : Launch) {G : jG} {mo : Nat} {A : Nat → Nat} (hm : mOK G mo A) (σ : jH) (n : Nat) (M : jM) (a1 : Int32) : jCt l G yX6_noCell (ws_ yX6_noCell cX6_noCell 2 (some .boolean)) 1 22 jrI [.ref mo, .int a1] (mH mo A σ M) (mup mo A σ (X6_noCell n M a1)) := by
  refine jCt.wm (lv := [(0, .ref mo), (1, .int a1)]) (plainFor_of_name (by decide)) (Nat.le_of_ble_eq_true rfl) rfl ?_
  intro t p e s m args below meth c ls X hr hnm hl
  have X : jCx p c cX6_noCell 2 s m args RX6 G meth := X
  unfold X6_noCell
  refine J.pu (fun _ _ _ _ k => lv_aload_n X.1.1 X.1.2.1 dX6_noCell_0 rfl (lv_at hl 0 rfl) k) ?_
  refine J.pu (fun _ _ _ _ k => lv_iload_n X.1.1 X.1.2.1 dX6_noCell_1 rfl (lv_at hl 1 rfl) k) ?_
  refine J.pu (fun _ _ _ _ k => lv_iconst (v := 0) X.1.1 X.1.2.1 dX6_noCell_2 (by decide) k) ?_
  refine J.pu (fun _ _ _ _ k => lv_aload_n X.1.1 X.1.2.1 dX6_noCell_3 rfl (lv_at hl 0 rfl) k) ?_
  refine J.mgA (k := 0) X (by decide) q2730 rfl rfl dX6_noCell_4 ?_
  refine J.pu (fun _ _ _ _ k => lv_iconst (v := 0) X.1.1 X.1.2.1 dX6_noCell_7 (by decide) k) ?_
  refine J.mld X hm (by decide) dX6_noCell_8 (fun v8 h8 => ?_)
  refine J.pu (fun _ _ _ _ k => lv_iconst (v := 1) X.1.1 X.1.2.1 dX6_noCell_9 (by decide) k) ?_
  refine J.pu (fun _ _ _ _ k => lv_isub X.1.1 X.1.2.1 dX6_noCell_10 k) ?_
  refine J.bind (fun v11 h11 => ?_)
  refine J.cS (As := [.int a1, .int 0, .int (v8 - 1)]) (rest := [.ref mo]) (s2 := [.int v11, .ref mo]) X ⟨rfl, rfl⟩ (ct_X6_inRange l hm σ n M a1 0 (v8 - 1)) (jrd_of h11) (fun _ _ => va_cwS 3 X.1.2.2.2.2 (lw_S q2825 q2826 q174 q2827) rfl rfl rfl (by decide +kernel) ⟨(Nat.le_of_ble_eq_true rfl), (Nat.le_of_ble_eq_true rfl)⟩) rfl hl.1 rfl rfl (Nat.le_of_ble_eq_true rfl) dX6_noCell_11 ?_
  refine J.br (fun _ _ _ _ ka kb => lv_if_ne (tgt := 21) X.1.1 X.1.2.1 dX6_noCell_14 (by decide) kb ka) (fun c14 => ?_) (fun c14 => ?_)
  · refine J.pu (fun _ _ _ _ k => lv_iconst (v := 1) X.1.1 X.1.2.1 dX6_noCell_17 (by decide) k) ?_
    refine J.pu (fun _ _ _ _ k => lv_goto (tgt := 22) X.1.1 X.1.2.1 dX6_noCell_18 (by decide) k) ?_
    refine J.pu (fun _ _ _ _ k => lv_iconst (v := 1) X.1.1 X.1.2.1 dX6_noCell_22 (by decide) k) ?_
    refine J.bd' (fun v23 M23 h23 => ?_)
    refine J.cV (q := (RX6, TX6, 26)) (ci := 5) (As := [.int 1, .int 1]) (rest := []) (s2 := [.int v23]) X ⟨rfl, rfl⟩ (ct_X6_fails l hm σ n M 1 1) (mup_of h23) (fun _ _ => cwV 2 X.1.2.2.2.2 (lw_V q3075 q3077 qs111 q174 q3078) rfl rfl rfl (by decide +kernel) ⟨(Nat.le_of_ble_eq_true rfl), (Nat.le_of_ble_eq_true rfl)⟩) mH_rc rfl rfl hl.1 rfl rfl (Nat.le_of_ble_eq_true rfl) dX6_noCell_23 ?_
    exact J.zretb (vr := fun t : Int32 × jM => jrI t.1) (fin := fun r : Int32 × jM => mH mo A σ r.2) (t := t) X hr (by rfl) (by rfl) dX6_noCell_26
  · refine J.pu (fun _ _ _ _ k => lv_iconst (v := 0) X.1.1 X.1.2.1 dX6_noCell_21 (by decide) k) ?_
    refine J.pu (fun _ _ _ _ k => lv_iconst (v := 1) X.1.1 X.1.2.1 dX6_noCell_22 (by decide) k) ?_
    refine J.bd' (fun v23 M23 h23 => ?_)
    refine J.cV (q := (RX6, TX6, 26)) (ci := 5) (As := [.int 0, .int 1]) (rest := []) (s2 := [.int v23]) X ⟨rfl, rfl⟩ (ct_X6_fails l hm σ n M 0 1) (mup_of h23) (fun _ _ => cwV 2 X.1.2.2.2.2 (lw_V q3075 q3077 qs111 q174 q3078) rfl rfl rfl (by decide +kernel) ⟨(Nat.le_of_ble_eq_true rfl), (Nat.le_of_ble_eq_true rfl)⟩) mH_rc rfl rfl hl.1 rfl rfl (Nat.le_of_ble_eq_true rfl) dX6_noCell_23 ?_
    exact J.zretb (vr := fun t : Int32 × jM => jrI t.1) (fin := fun r : Int32 × jM => mH mo A σ r.2) (t := t) X hr (by rfl) (by rfl) dX6_noCell_26
noncomputable def X6_tracksAt_j39 (n : Nat) (M : jM) (a1 : Int32) (rec4 : Int32 × Int32 → Option (Int32)) (x3_39 : Int32) (s0_39 : Int32) (s1_39 : Int32) : Option (Int32) :=
  (X6_one n M s1_39).bind fun v39 => rec4 ((s0_39 + v39), (x3_39 + 1))
noncomputable def X6_tracksAt_j38 (n : Nat) (M : jM) (a1 : Int32) (rec4 : Int32 × Int32 → Option (Int32)) (x3_38 : Int32) (s0_38 : Int32) : Option (Int32) :=
  X6_tracksAt_j39 n M a1 rec4 x3_38 s0_38 0
noncomputable def X6_tracksAt_h4 (n : Nat) (M : jM) (a1 : Int32) (rec4 : Int32 × Int32 → Option (Int32)) (q4 : Int32 × Int32) : Option (Int32) :=
  let x2_4 := q4.1; let x3_4 := q4.2; (mA M 0 4).bind fun v10 => if v10 ≤ x3_4 then (some x2_4) else ((X6_isTracked n M x3_4).bind fun v17 => if v17 = 0 then (X6_tracksAt_j38 n M a1 rec4 x3_4 x2_4) else ((X6_of n M x3_4 6).bind fun v27 => if v27 = a1 then (X6_tracksAt_j39 n M a1 rec4 x3_4 x2_4 1) else (X6_tracksAt_j38 n M a1 rec4 x3_4 x2_4)))
noncomputable def X6_tracksAt (n : Nat) (M : jM) (a1 : Int32) : Option (Int32) :=
  jloop (X6_tracksAt_h4 n M a1) n (0, 0)
set_option maxHeartbeats 4000000 in
set_option maxRecDepth 100000 in
theorem ct_X6_tracksAt (l : Launch) {G : jG} {mo : Nat} {A : Nat → Nat} (hm : mOK G mo A) (σ : jH) (n : Nat) (M : jM) (a1 : Int32) : jCt l G yX6_tracksAt (ws_ yX6_tracksAt cX6_tracksAt 4 (some .int)) 3 64 jrI [.ref mo, .int a1] (mH mo A σ M) (jrd (mH mo A σ M) (X6_tracksAt n M a1)) := by
  refine jCt.rd (lv := [(0, .ref mo), (1, .int a1)]) (plainFor_of_name (by decide)) (Nat.le_of_ble_eq_true rfl) rfl ?_
  intro t p e s m args below meth c ls X hr hnm hl
  have X : jCx p c cX6_tracksAt 4 s m args RX6 G meth := X
  have L4 : ∀ (n4 : Nat) (x2_4 : Int32) (x3_4 : Int32) (ls : Array Slot), lv_has ls 4 [(0, .ref mo), (1, .int a1), (2, .int x2_4), (3, .int x3_4)] → jGo l G 3 64 (mH mo A σ M) (fun _ : Int32 => (mH mo A σ M)) jrI t p e s m args below meth c (jloop (X6_tracksAt_h4 n M a1) n4 (x2_4, x3_4)) (mH mo A σ M) (F0 m 4 ls []) := by
    intro n4
    induction n4 with
    | zero => intro x2_4 x3_4 ls hl; exact J.nil_
    | succ n4 ih4 =>
      have j39 : ∀ (x3_39 : Int32) (s0_39 : Int32) (s1_39 : Int32) (ls : Array Slot), lv_has ls 4 [(0, .ref mo), (1, .int a1), (3, .int x3_39)] → jGo l G 3 64 (mH mo A σ M) (fun _ : Int32 => (mH mo A σ M)) jrI t p e s m args below meth c (X6_tracksAt_j39 n M a1 (jloop (X6_tracksAt_h4 n M a1) n4) x3_39 s0_39 s1_39) (mH mo A σ M) (F0 m 39 ls [.int s1_39, .int s0_39]) := by
        intro x3_39 s0_39 s1_39 ls hl
        unfold X6_tracksAt_j39
        refine J.bind (fun v39 h39 => ?_)
        refine J.cS (As := [.int s1_39]) (rest := [.int s0_39]) (s2 := [.int v39, .int s0_39]) X ⟨rfl, rfl⟩ (ct_X6_one l hm σ n M s1_39) (jrd_of h39) (fun _ _ => va_cwS 1 X.1.2.2.2.2 (lw_S q2988 q2989 q174 q2990) rfl rfl rfl (by decide +kernel) ⟨(Nat.le_of_ble_eq_true rfl), (Nat.le_of_ble_eq_true rfl)⟩) rfl hl.1 rfl rfl (Nat.le_of_ble_eq_true rfl) dX6_tracksAt_39 ?_
        refine J.pu (fun _ _ _ _ k => lv_iadd X.1.1 X.1.2.1 dX6_tracksAt_42 k) ?_
        refine J.istore_n (i := 2) (lv' := [(2, .int (s0_39 + v39)), (0, .ref mo), (1, .int a1), (3, .int x3_39)]) X.1.1 X.1.2.1 dX6_tracksAt_43 rfl hl (by decide) (by first | rfl | simp [va_rf_cat, jcI, jcA, jcJ, jcD, jcF]) (fun ls hl => ?_)
        refine J.iinc (k := 3) (lv' := [(3, .int (x3_39 + 1)), (2, .int (s0_39 + v39)), (0, .ref mo), (1, .int a1)]) (w := (x3_39 + 1)) X.1.1 X.1.2.1 dX6_tracksAt_44 hl rfl rfl (by decide) (by first | rfl | simp [va_rf_cat, jcI, jcA, jcJ, jcD, jcF]) (fun ls hl => ?_)
        refine J.pu (fun _ _ _ _ k => lv_goto (tgt := 4) X.1.1 X.1.2.1 dX6_tracksAt_47 (by decide) k) ?_
        exact ih4 (s0_39 + v39) (x3_39 + 1) ls (lv_sub hl [2, 3, 1, 0] rfl)
      have j38 : ∀ (x3_38 : Int32) (s0_38 : Int32) (ls : Array Slot), lv_has ls 4 [(0, .ref mo), (1, .int a1), (3, .int x3_38)] → jGo l G 3 64 (mH mo A σ M) (fun _ : Int32 => (mH mo A σ M)) jrI t p e s m args below meth c (X6_tracksAt_j38 n M a1 (jloop (X6_tracksAt_h4 n M a1) n4) x3_38 s0_38) (mH mo A σ M) (F0 m 38 ls [.int s0_38]) := by
        intro x3_38 s0_38 ls hl
        unfold X6_tracksAt_j38
        refine J.pu (fun _ _ _ _ k => lv_iconst (v := 0) X.1.1 X.1.2.1 dX6_tracksAt_38 (by decide) k) ?_
        exact j39 x3_38 s0_38 0 ls (lv_sub hl [0, 1, 2] rfl)
      intro x2_4 x3_4 ls hl
      refine J.eq (jloop_s _ _ _) ?_
      dsimp only [X6_tracksAt_h4]
      refine J.pu (fun _ _ _ _ k => lv_iload_n X.1.1 X.1.2.1 dX6_tracksAt_4 rfl (lv_at hl 3 rfl) k) ?_
      refine J.pu (fun _ _ _ _ k => lv_aload_n X.1.1 X.1.2.1 dX6_tracksAt_5 rfl (lv_at hl 0 rfl) k) ?_
      refine J.mgA (k := 0) X (by decide) q2730 rfl rfl dX6_tracksAt_6 ?_
      refine J.pu (fun _ _ _ _ k => lv_iconst (v := 4) X.1.1 X.1.2.1 dX6_tracksAt_9 (by decide) k) ?_
      refine J.mld X hm (by decide) dX6_tracksAt_10 (fun v10 h10 => ?_)
      refine J.br (fun _ _ _ _ ka kb => lv_icmp_ge (tgt := 50) X.1.1 X.1.2.1 dX6_tracksAt_11 (by decide) ka kb) (fun c11 => ?_) (fun c11 => ?_)
      · refine J.pu (fun _ _ _ _ k => lv_iload_n X.1.1 X.1.2.1 dX6_tracksAt_50 rfl (lv_at hl 2 rfl) k) ?_
        exact J.iret (vr := jrI) (fin := fun _ : Int32 => (mH mo A σ M)) (t := t) X hr (by rfl) (by rfl) dX6_tracksAt_51
      · refine J.pu (fun _ _ _ _ k => lv_iload_n X.1.1 X.1.2.1 dX6_tracksAt_14 rfl (lv_at hl 2 rfl) k) ?_
        refine J.pu (fun _ _ _ _ k => lv_aload_n X.1.1 X.1.2.1 dX6_tracksAt_15 rfl (lv_at hl 0 rfl) k) ?_
        refine J.pu (fun _ _ _ _ k => lv_iload_n X.1.1 X.1.2.1 dX6_tracksAt_16 rfl (lv_at hl 3 rfl) k) ?_
        refine J.bind (fun v17 h17 => ?_)
        refine J.cV (q := (RX6, TX6, 26)) (ci := 5) (As := [.int x3_4]) (rest := [.int x2_4]) (s2 := [.int v17, .int x2_4]) X ⟨rfl, rfl⟩ (ct_X6_isTracked l hm σ n M x3_4) (jrd_of h17) (fun _ _ => cwV 1 X.1.2.2.2.2 (lw_V q3023 q3025 qs101 q174 q3026) rfl rfl rfl (by decide +kernel) ⟨(Nat.le_of_ble_eq_true rfl), (Nat.le_of_ble_eq_true rfl)⟩) mH_rc rfl rfl hl.1 rfl rfl (Nat.le_of_ble_eq_true rfl) dX6_tracksAt_17 ?_
        refine J.br (fun _ _ _ _ ka kb => lv_if_eq (tgt := 38) X.1.1 X.1.2.1 dX6_tracksAt_20 (by decide) ka kb) (fun c20 => ?_) (fun c20 => ?_)
        · exact j38 x3_4 x2_4 ls (lv_sub hl [0, 1, 3] rfl)
        · refine J.pu (fun _ _ _ _ k => lv_aload_n X.1.1 X.1.2.1 dX6_tracksAt_23 rfl (lv_at hl 0 rfl) k) ?_
          refine J.pu (fun _ _ _ _ k => lv_iload_n X.1.1 X.1.2.1 dX6_tracksAt_24 rfl (lv_at hl 3 rfl) k) ?_
          refine J.pu (fun _ _ _ _ k => lv_bipush (v := 6) X.1.1 X.1.2.1 dX6_tracksAt_25 (by decide) k) ?_
          refine J.bind (fun v27 h27 => ?_)
          refine J.cV (q := (RX6, TX6, 26)) (ci := 5) (As := [.int x3_4, .int 6]) (rest := [.int x2_4]) (s2 := [.int v27, .int x2_4]) X ⟨rfl, rfl⟩ (ct_X6_of l hm σ n M x3_4 6) (jrd_of h27) (fun _ _ => cwV 2 X.1.2.2.2.2 (lw_V q2964 q2966 qs88 q174 q2967) rfl rfl rfl (by decide +kernel) ⟨(Nat.le_of_ble_eq_true rfl), (Nat.le_of_ble_eq_true rfl)⟩) mH_rc rfl rfl hl.1 rfl rfl (Nat.le_of_ble_eq_true rfl) dX6_tracksAt_27 ?_
          refine J.pu (fun _ _ _ _ k => lv_iload_n X.1.1 X.1.2.1 dX6_tracksAt_30 rfl (lv_at hl 1 rfl) k) ?_
          refine J.br (fun _ _ _ _ ka kb => lv_icmp_ne (tgt := 38) X.1.1 X.1.2.1 dX6_tracksAt_31 (by decide) kb ka) (fun c31 => ?_) (fun c31 => ?_)
          · refine J.pu (fun _ _ _ _ k => lv_iconst (v := 1) X.1.1 X.1.2.1 dX6_tracksAt_34 (by decide) k) ?_
            refine J.pu (fun _ _ _ _ k => lv_goto (tgt := 39) X.1.1 X.1.2.1 dX6_tracksAt_35 (by decide) k) ?_
            exact j39 x3_4 x2_4 1 ls (lv_sub hl [0, 1, 3] rfl)
          · exact j38 x3_4 x2_4 ls (lv_sub hl [0, 1, 3] rfl)
  unfold X6_tracksAt
  refine J.pu (fun _ _ _ _ k => lv_iconst (v := 0) X.1.1 X.1.2.1 dX6_tracksAt_0 (by decide) k) ?_
  refine J.istore_n (i := 2) (lv' := [(2, .int 0), (0, .ref mo), (1, .int a1)]) X.1.1 X.1.2.1 dX6_tracksAt_1 rfl hl (by decide) (by first | rfl | simp [va_rf_cat, jcI, jcA, jcJ, jcD, jcF]) (fun ls hl => ?_)
  refine J.pu (fun _ _ _ _ k => lv_iconst (v := 0) X.1.1 X.1.2.1 dX6_tracksAt_2 (by decide) k) ?_
  refine J.istore_n (i := 3) (lv' := [(3, .int 0), (2, .int 0), (0, .ref mo), (1, .int a1)]) X.1.1 X.1.2.1 dX6_tracksAt_3 rfl hl (by decide) (by first | rfl | simp [va_rf_cat, jcI, jcA, jcJ, jcD, jcF]) (fun ls hl => ?_)
  exact L4 n 0 0 ls (lv_sub hl [2, 3, 1, 0] rfl)
noncomputable def X6_cell_j28 (n : Nat) (a1 : Int32) (a2 : Int32) (s1_28 : Int32) (B28 : jM) : Option (Int32 × jM) :=
  bd (X6_fails n B28 s1_28 2) fun v29 M29 => if v29 = 0 then (if a2 = 0 then ((X6_parcelIn n M29 a1).bind fun v66 => some (v66, M29)) else if a2 = 1 then ((X6_tracksAt n M29 a1).bind fun v72 => some (v72, M29)) else if a2 = 2 then ((X6_hasScanner n M29 a1).bind fun v78 => (X6_one n M29 v78).bind fun v81 => some (v81, M29)) else (X6_chuteAt n M29 a1).bind fun v87 => some (v87, M29)) else (some (0, M29))
noncomputable def X6_cell (n : Nat) (M : jM) (a1 : Int32) (a2 : Int32) : Option (Int32 × jM) :=
  bd (X6_noCell n (mP M 7 0) a1) fun v7 M7 => if v7 = 0 then ((X6_inRange n M7 a2 0 3).bind fun v17 => if v17 = 0 then (X6_cell_j28 n a1 a2 1 M7) else (X6_cell_j28 n a1 a2 0 M7)) else (some (0, M7))
set_option maxHeartbeats 4000000 in
set_option maxRecDepth 100000 in
theorem ct_X6_cell (l : Launch) {G : jG} {mo : Nat} {A : Nat → Nat} (hm : mOK G mo A) (σ : jH) (n : Nat) (M : jM) (a1 : Int32) (a2 : Int32) : jCt l G yX6_cell (ws_ yX6_cell cX6_cell 3 (some .int)) 4 87 jrI [.ref mo, .int a1, .int a2] (mH mo A σ M) (mup mo A σ (X6_cell n M a1 a2)) := by
  refine jCt.wm (lv := [(0, .ref mo), (1, .int a1), (2, .int a2)]) (plainFor_of_name (by decide)) (Nat.le_of_ble_eq_true rfl) rfl ?_
  intro t p e s m args below meth c ls X hr hnm hl
  have X : jCx p c cX6_cell 3 s m args RX6 G meth := X
  have j28 : ∀ (s1_28 : Int32) (B28 : jM) (ls : Array Slot), lv_has ls 3 [(0, .ref mo), (1, .int a1), (2, .int a2)] → jGo l G 4 87 (mH mo A σ M) (fun r : Int32 × jM => mH mo A σ r.2) (fun t => jrI t.1) t p e s m args below meth c (X6_cell_j28 n a1 a2 s1_28 B28) (mH mo A σ B28) (F0 m 28 ls [.int s1_28, .ref mo]) := by
    intro s1_28 B28 ls hl
    unfold X6_cell_j28
    refine J.pu (fun _ _ _ _ k => lv_iconst (v := 2) X.1.1 X.1.2.1 dX6_cell_28 (by decide) k) ?_
    refine J.bd' (fun v29 M29 h29 => ?_)
    refine J.cV (q := (RX6, TX6, 26)) (ci := 5) (As := [.int s1_28, .int 2]) (rest := []) (s2 := [.int v29]) X ⟨rfl, rfl⟩ (ct_X6_fails l hm σ n B28 s1_28 2) (mup_of h29) (fun _ _ => cwV 2 X.1.2.2.2.2 (lw_V q3075 q3077 qs111 q174 q3078) rfl rfl rfl (by decide +kernel) ⟨(Nat.le_of_ble_eq_true rfl), (Nat.le_of_ble_eq_true rfl)⟩) mH_rc rfl rfl hl.1 rfl rfl (Nat.le_of_ble_eq_true rfl) dX6_cell_29 ?_
    refine J.br (fun _ _ _ _ ka kb => lv_if_eq (tgt := 37) X.1.1 X.1.2.1 dX6_cell_32 (by decide) ka kb) (fun c32 => ?_) (fun c32 => ?_)
    · refine J.pu (fun _ _ _ _ k => lv_iload_n X.1.1 X.1.2.1 dX6_cell_37 rfl (lv_at hl 2 rfl) k) ?_
      refine J.ite (fun c38_0 => ?_) (fun c38_0 => ?_)
      · refine J.pu (fun _ _ _ _ k => lv_tableIn (tgt := 64) (off := 26) X.1.1 X.1.2.1 dX6_cell_38 (by rw [c38_0]; decide) (by rw [c38_0]; decide) (by rw [c38_0]; decide) (by decide) k) ?_
        refine J.pu (fun _ _ _ _ k => lv_aload_n X.1.1 X.1.2.1 dX6_cell_64 rfl (lv_at hl 0 rfl) k) ?_
        refine J.pu (fun _ _ _ _ k => lv_iload_n X.1.1 X.1.2.1 dX6_cell_65 rfl (lv_at hl 1 rfl) k) ?_
        refine J.bind (fun v66 h66 => ?_)
        refine J.cV (q := (RX6, TX6, 26)) (ci := 5) (As := [.int a1]) (rest := []) (s2 := [.int v66]) X ⟨rfl, rfl⟩ (ct_X6_parcelIn l hm σ n M29 a1) (jrd_of h66) (fun _ _ => cwV 1 X.1.2.2.2.2 (lw_V q2956 q2958 qs86 q174 q2959) rfl rfl rfl (by decide +kernel) ⟨(Nat.le_of_ble_eq_true rfl), (Nat.le_of_ble_eq_true rfl)⟩) mH_rc rfl rfl hl.1 rfl rfl (Nat.le_of_ble_eq_true rfl) dX6_cell_66 ?_
        exact J.iret (vr := fun t : Int32 × jM => jrI t.1) (fin := fun r : Int32 × jM => mH mo A σ r.2) (t := t) X hr (by rfl) (by rfl) dX6_cell_69
      refine J.ite (fun c38_1 => ?_) (fun c38_1 => ?_)
      · refine J.pu (fun _ _ _ _ k => lv_tableIn (tgt := 70) (off := 32) X.1.1 X.1.2.1 dX6_cell_38 (by rw [c38_1]; decide) (by rw [c38_1]; decide) (by rw [c38_1]; decide) (by decide) k) ?_
        refine J.pu (fun _ _ _ _ k => lv_aload_n X.1.1 X.1.2.1 dX6_cell_70 rfl (lv_at hl 0 rfl) k) ?_
        refine J.pu (fun _ _ _ _ k => lv_iload_n X.1.1 X.1.2.1 dX6_cell_71 rfl (lv_at hl 1 rfl) k) ?_
        refine J.bind (fun v72 h72 => ?_)
        refine J.cV (q := (RX6, TX6, 26)) (ci := 5) (As := [.int a1]) (rest := []) (s2 := [.int v72]) X ⟨rfl, rfl⟩ (ct_X6_tracksAt l hm σ n M29 a1) (jrd_of h72) (fun _ _ => cwV 1 X.1.2.2.2.2 (lw_V q3099 q3101 qs115 q174 q3102) rfl rfl rfl (by decide +kernel) ⟨(Nat.le_of_ble_eq_true rfl), (Nat.le_of_ble_eq_true rfl)⟩) mH_rc rfl rfl hl.1 rfl rfl (Nat.le_of_ble_eq_true rfl) dX6_cell_72 ?_
        exact J.iret (vr := fun t : Int32 × jM => jrI t.1) (fin := fun r : Int32 × jM => mH mo A σ r.2) (t := t) X hr (by rfl) (by rfl) dX6_cell_75
      refine J.ite (fun c38_2 => ?_) (fun c38_2 => ?_)
      · refine J.pu (fun _ _ _ _ k => lv_tableIn (tgt := 76) (off := 38) X.1.1 X.1.2.1 dX6_cell_38 (by rw [c38_2]; decide) (by rw [c38_2]; decide) (by rw [c38_2]; decide) (by decide) k) ?_
        refine J.pu (fun _ _ _ _ k => lv_aload_n X.1.1 X.1.2.1 dX6_cell_76 rfl (lv_at hl 0 rfl) k) ?_
        refine J.pu (fun _ _ _ _ k => lv_iload_n X.1.1 X.1.2.1 dX6_cell_77 rfl (lv_at hl 1 rfl) k) ?_
        refine J.bind (fun v78 h78 => ?_)
        refine J.cV (q := (RX6, TX6, 26)) (ci := 5) (As := [.int a1]) (rest := []) (s2 := [.int v78]) X ⟨rfl, rfl⟩ (ct_X6_hasScanner l hm σ n M29 a1) (jrd_of h78) (fun _ _ => cwV 1 X.1.2.2.2.2 (lw_V q2895 q2897 qs74 q174 q2898) rfl rfl rfl (by decide +kernel) ⟨(Nat.le_of_ble_eq_true rfl), (Nat.le_of_ble_eq_true rfl)⟩) mH_rc rfl rfl hl.1 rfl rfl (Nat.le_of_ble_eq_true rfl) dX6_cell_78 ?_
        refine J.bind (fun v81 h81 => ?_)
        refine J.cS (As := [.int v78]) (rest := []) (s2 := [.int v81]) X ⟨rfl, rfl⟩ (ct_X6_one l hm σ n M29 v78) (jrd_of h81) (fun _ _ => va_cwS 1 X.1.2.2.2.2 (lw_S q2988 q2989 q174 q2990) rfl rfl rfl (by decide +kernel) ⟨(Nat.le_of_ble_eq_true rfl), (Nat.le_of_ble_eq_true rfl)⟩) rfl hl.1 rfl rfl (Nat.le_of_ble_eq_true rfl) dX6_cell_81 ?_
        exact J.iret (vr := fun t : Int32 × jM => jrI t.1) (fin := fun r : Int32 × jM => mH mo A σ r.2) (t := t) X hr (by rfl) (by rfl) dX6_cell_84
      by_cases b38 : a2.toInt < 0 ∨ 2 < a2.toInt
      · refine J.pu (fun _ _ _ _ k => lv_tableOut (tgt := 85) X.1.1 X.1.2.1 dX6_cell_38 b38 (by decide) k) ?_
        refine J.pu (fun _ _ _ _ k => lv_aload_n X.1.1 X.1.2.1 dX6_cell_85 rfl (lv_at hl 0 rfl) k) ?_
        refine J.pu (fun _ _ _ _ k => lv_iload_n X.1.1 X.1.2.1 dX6_cell_86 rfl (lv_at hl 1 rfl) k) ?_
        refine J.bind (fun v87 h87 => ?_)
        refine J.cV (q := (RX6, TX6, 26)) (ci := 5) (As := [.int a1]) (rest := []) (s2 := [.int v87]) X ⟨rfl, rfl⟩ (ct_X6_chuteAt l hm σ n M29 a1) (jrd_of h87) (fun _ _ => cwV 1 X.1.2.2.2.2 (lw_V q2904 q2906 qs76 q174 q2907) rfl rfl rfl (by decide +kernel) ⟨(Nat.le_of_ble_eq_true rfl), (Nat.le_of_ble_eq_true rfl)⟩) mH_rc rfl rfl hl.1 rfl rfl (Nat.le_of_ble_eq_true rfl) dX6_cell_87 ?_
        exact J.iret (vr := fun t : Int32 × jM => jrI t.1) (fin := fun r : Int32 × jM => mH mo A σ r.2) (t := t) X hr (by rfl) (by rfl) dX6_cell_90
      · exfalso; have := lv_neT c38_0 (a := 0) rfl; have := lv_neT c38_1 (a := 1) rfl; have := lv_neT c38_2 (a := 2) rfl; omega
    · refine J.pu (fun _ _ _ _ k => lv_iconst (v := 0) X.1.1 X.1.2.1 dX6_cell_35 (by decide) k) ?_
      exact J.iret (vr := fun t : Int32 × jM => jrI t.1) (fin := fun r : Int32 × jM => mH mo A σ r.2) (t := t) X hr (by rfl) (by rfl) dX6_cell_36
  unfold X6_cell
  refine J.pu (fun _ _ _ _ k => lv_aload_n X.1.1 X.1.2.1 dX6_cell_0 rfl (lv_at hl 0 rfl) k) ?_
  refine J.pu (fun _ _ _ _ k => lv_iconst (v := 0) X.1.1 X.1.2.1 dX6_cell_1 (by decide) k) ?_
  refine J.mpS (k := 7) X hm (by decide) q2737 rfl rfl rfl dX6_cell_2 ?_
  refine J.pu (fun _ _ _ _ k => lv_aload_n X.1.1 X.1.2.1 dX6_cell_5 rfl (lv_at hl 0 rfl) k) ?_
  refine J.pu (fun _ _ _ _ k => lv_iload_n X.1.1 X.1.2.1 dX6_cell_6 rfl (lv_at hl 1 rfl) k) ?_
  refine J.bd' (fun v7 M7 h7 => ?_)
  refine J.cV (q := (RX6, TX6, 26)) (ci := 5) (As := [.int a1]) (rest := []) (s2 := [.int v7]) X ⟨rfl, rfl⟩ (ct_X6_noCell l hm σ n (mP M 7 0) a1) (mup_of h7) (fun _ _ => cwV 1 X.1.2.2.2.2 (lw_V q3095 q3097 qs114 q174 q3098) rfl rfl rfl (by decide +kernel) ⟨(Nat.le_of_ble_eq_true rfl), (Nat.le_of_ble_eq_true rfl)⟩) mH_rc rfl rfl hl.1 rfl rfl (Nat.le_of_ble_eq_true rfl) dX6_cell_7 ?_
  refine J.br (fun _ _ _ _ ka kb => lv_if_ne (tgt := 35) X.1.1 X.1.2.1 dX6_cell_10 (by decide) kb ka) (fun c10 => ?_) (fun c10 => ?_)
  · refine J.pu (fun _ _ _ _ k => lv_aload_n X.1.1 X.1.2.1 dX6_cell_13 rfl (lv_at hl 0 rfl) k) ?_
    refine J.pu (fun _ _ _ _ k => lv_iload_n X.1.1 X.1.2.1 dX6_cell_14 rfl (lv_at hl 2 rfl) k) ?_
    refine J.pu (fun _ _ _ _ k => lv_iconst (v := 0) X.1.1 X.1.2.1 dX6_cell_15 (by decide) k) ?_
    refine J.pu (fun _ _ _ _ k => lv_iconst (v := 3) X.1.1 X.1.2.1 dX6_cell_16 (by decide) k) ?_
    refine J.bind (fun v17 h17 => ?_)
    refine J.cS (As := [.int a2, .int 0, .int 3]) (rest := [.ref mo]) (s2 := [.int v17, .ref mo]) X ⟨rfl, rfl⟩ (ct_X6_inRange l hm σ n M7 a2 0 3) (jrd_of h17) (fun _ _ => va_cwS 3 X.1.2.2.2.2 (lw_S q2825 q2826 q174 q2827) rfl rfl rfl (by decide +kernel) ⟨(Nat.le_of_ble_eq_true rfl), (Nat.le_of_ble_eq_true rfl)⟩) rfl hl.1 rfl rfl (Nat.le_of_ble_eq_true rfl) dX6_cell_17 ?_
    refine J.br (fun _ _ _ _ ka kb => lv_if_ne (tgt := 27) X.1.1 X.1.2.1 dX6_cell_20 (by decide) kb ka) (fun c20 => ?_) (fun c20 => ?_)
    · refine J.pu (fun _ _ _ _ k => lv_iconst (v := 1) X.1.1 X.1.2.1 dX6_cell_23 (by decide) k) ?_
      refine J.pu (fun _ _ _ _ k => lv_goto (tgt := 28) X.1.1 X.1.2.1 dX6_cell_24 (by decide) k) ?_
      exact j28 1 M7 ls (lv_sub hl [0, 1, 2] rfl)
    · refine J.pu (fun _ _ _ _ k => lv_iconst (v := 0) X.1.1 X.1.2.1 dX6_cell_27 (by decide) k) ?_
      exact j28 0 M7 ls (lv_sub hl [0, 1, 2] rfl)
  · refine J.pu (fun _ _ _ _ k => lv_iconst (v := 0) X.1.1 X.1.2.1 dX6_cell_35 (by decide) k) ?_
    exact J.iret (vr := fun t : Int32 × jM => jrI t.1) (fin := fun r : Int32 × jM => mH mo A σ r.2) (t := t) X hr (by rfl) (by rfl) dX6_cell_36
noncomputable def X6_noParcel (n : Nat) (M : jM) (a1 : Int32) : Option (Int32 × jM) :=
  (mA M 0 4).bind fun v8 => (X6_inRange n M a1 0 (v8 - 1)).bind fun v11 => if v11 = 0 then (bd (X6_fails n M 1 1) fun v23 M23 => jbo .boolean v23 (some (v23, M23))) else (bd (X6_fails n M 0 1) fun v23 M23 => jbo .boolean v23 (some (v23, M23)))
set_option maxHeartbeats 4000000 in
set_option maxRecDepth 100000 in
theorem ct_X6_noParcel (l : Launch) {G : jG} {mo : Nat} {A : Nat → Nat} (hm : mOK G mo A) (σ : jH) (n : Nat) (M : jM) (a1 : Int32) : jCt l G yX6_noParcel (ws_ yX6_noParcel cX6_noParcel 2 (some .boolean)) 1 22 jrI [.ref mo, .int a1] (mH mo A σ M) (mup mo A σ (X6_noParcel n M a1)) := by
  refine jCt.wm (lv := [(0, .ref mo), (1, .int a1)]) (plainFor_of_name (by decide)) (Nat.le_of_ble_eq_true rfl) rfl ?_
  intro t p e s m args below meth c ls X hr hnm hl
  have X : jCx p c cX6_noParcel 2 s m args RX6 G meth := X
  unfold X6_noParcel
  refine J.pu (fun _ _ _ _ k => lv_aload_n X.1.1 X.1.2.1 dX6_noParcel_0 rfl (lv_at hl 0 rfl) k) ?_
  refine J.pu (fun _ _ _ _ k => lv_iload_n X.1.1 X.1.2.1 dX6_noParcel_1 rfl (lv_at hl 1 rfl) k) ?_
  refine J.pu (fun _ _ _ _ k => lv_iconst (v := 0) X.1.1 X.1.2.1 dX6_noParcel_2 (by decide) k) ?_
  refine J.pu (fun _ _ _ _ k => lv_aload_n X.1.1 X.1.2.1 dX6_noParcel_3 rfl (lv_at hl 0 rfl) k) ?_
  refine J.mgA (k := 0) X (by decide) q2730 rfl rfl dX6_noParcel_4 ?_
  refine J.pu (fun _ _ _ _ k => lv_iconst (v := 4) X.1.1 X.1.2.1 dX6_noParcel_7 (by decide) k) ?_
  refine J.mld X hm (by decide) dX6_noParcel_8 (fun v8 h8 => ?_)
  refine J.pu (fun _ _ _ _ k => lv_iconst (v := 1) X.1.1 X.1.2.1 dX6_noParcel_9 (by decide) k) ?_
  refine J.pu (fun _ _ _ _ k => lv_isub X.1.1 X.1.2.1 dX6_noParcel_10 k) ?_
  refine J.bind (fun v11 h11 => ?_)
  refine J.cS (As := [.int a1, .int 0, .int (v8 - 1)]) (rest := [.ref mo]) (s2 := [.int v11, .ref mo]) X ⟨rfl, rfl⟩ (ct_X6_inRange l hm σ n M a1 0 (v8 - 1)) (jrd_of h11) (fun _ _ => va_cwS 3 X.1.2.2.2.2 (lw_S q2825 q2826 q174 q2827) rfl rfl rfl (by decide +kernel) ⟨(Nat.le_of_ble_eq_true rfl), (Nat.le_of_ble_eq_true rfl)⟩) rfl hl.1 rfl rfl (Nat.le_of_ble_eq_true rfl) dX6_noParcel_11 ?_
  refine J.br (fun _ _ _ _ ka kb => lv_if_ne (tgt := 21) X.1.1 X.1.2.1 dX6_noParcel_14 (by decide) kb ka) (fun c14 => ?_) (fun c14 => ?_)
  · refine J.pu (fun _ _ _ _ k => lv_iconst (v := 1) X.1.1 X.1.2.1 dX6_noParcel_17 (by decide) k) ?_
    refine J.pu (fun _ _ _ _ k => lv_goto (tgt := 22) X.1.1 X.1.2.1 dX6_noParcel_18 (by decide) k) ?_
    refine J.pu (fun _ _ _ _ k => lv_iconst (v := 1) X.1.1 X.1.2.1 dX6_noParcel_22 (by decide) k) ?_
    refine J.bd' (fun v23 M23 h23 => ?_)
    refine J.cV (q := (RX6, TX6, 26)) (ci := 5) (As := [.int 1, .int 1]) (rest := []) (s2 := [.int v23]) X ⟨rfl, rfl⟩ (ct_X6_fails l hm σ n M 1 1) (mup_of h23) (fun _ _ => cwV 2 X.1.2.2.2.2 (lw_V q3075 q3077 qs111 q174 q3078) rfl rfl rfl (by decide +kernel) ⟨(Nat.le_of_ble_eq_true rfl), (Nat.le_of_ble_eq_true rfl)⟩) mH_rc rfl rfl hl.1 rfl rfl (Nat.le_of_ble_eq_true rfl) dX6_noParcel_23 ?_
    exact J.zretb (vr := fun t : Int32 × jM => jrI t.1) (fin := fun r : Int32 × jM => mH mo A σ r.2) (t := t) X hr (by rfl) (by rfl) dX6_noParcel_26
  · refine J.pu (fun _ _ _ _ k => lv_iconst (v := 0) X.1.1 X.1.2.1 dX6_noParcel_21 (by decide) k) ?_
    refine J.pu (fun _ _ _ _ k => lv_iconst (v := 1) X.1.1 X.1.2.1 dX6_noParcel_22 (by decide) k) ?_
    refine J.bd' (fun v23 M23 h23 => ?_)
    refine J.cV (q := (RX6, TX6, 26)) (ci := 5) (As := [.int 0, .int 1]) (rest := []) (s2 := [.int v23]) X ⟨rfl, rfl⟩ (ct_X6_fails l hm σ n M 0 1) (mup_of h23) (fun _ _ => cwV 2 X.1.2.2.2.2 (lw_V q3075 q3077 qs111 q174 q3078) rfl rfl rfl (by decide +kernel) ⟨(Nat.le_of_ble_eq_true rfl), (Nat.le_of_ble_eq_true rfl)⟩) mH_rc rfl rfl hl.1 rfl rfl (Nat.le_of_ble_eq_true rfl) dX6_noParcel_23 ?_
    exact J.zretb (vr := fun t : Int32 × jM => jrI t.1) (fin := fun r : Int32 × jM => mH mo A σ r.2) (t := t) X hr (by rfl) (by rfl) dX6_noParcel_26
noncomputable def X6_parcel_j29 (n : Nat) (a1 : Int32) (a2 : Int32) (s1_29 : Int32) (B29 : jM) : Option (Int32 × jM) :=
  bd (X6_fails n B29 s1_29 2) fun v30 M30 => if v30 = 0 then (if a2 = 4 then ((X6_isOn n M30 a1).bind fun v74 => if v74 = 0 then (some ((-1), M30)) else ((X6_of n M30 a1 4).bind fun v83 => some (v83, M30))) else if a2 = 5 then ((X6_isTracked n M30 a1).bind fun v93 => if v93 = 0 then (some ((-1), M30)) else ((X6_of n M30 a1 6).bind fun v103 => some (v103, M30))) else if a2 = 6 then ((X6_isTracked n M30 a1).bind fun v113 => if v113 = 0 then (some ((-1), M30)) else ((X6_lagOf n M30 a1).bind fun v121 => some (v121, M30))) else if a2 = 7 then ((X6_of n M30 a1 7).bind fun v133 => some (v133, M30)) else if a2 = 8 then ((X6_of n M30 a1 8).bind fun v141 => some (v141, M30)) else (X6_of n M30 a1 a2).bind fun v148 => some (v148, M30)) else (some (0, M30))
noncomputable def X6_parcel (n : Nat) (M : jM) (a1 : Int32) (a2 : Int32) : Option (Int32 × jM) :=
  bd (X6_noParcel n (mP M 7 0) a1) fun v7 M7 => if v7 = 0 then ((X6_inRange n M7 a2 0 8).bind fun v18 => if v18 = 0 then (X6_parcel_j29 n a1 a2 1 M7) else (X6_parcel_j29 n a1 a2 0 M7)) else (some (0, M7))
set_option maxHeartbeats 4000000 in
set_option maxRecDepth 100000 in
theorem ct_X6_parcel (l : Launch) {G : jG} {mo : Nat} {A : Nat → Nat} (hm : mOK G mo A) (σ : jH) (n : Nat) (M : jM) (a1 : Int32) (a2 : Int32) : jCt l G yX6_parcel (ws_ yX6_parcel cX6_parcel 3 (some .int)) 3 65 jrI [.ref mo, .int a1, .int a2] (mH mo A σ M) (mup mo A σ (X6_parcel n M a1 a2)) := by
  refine jCt.wm (lv := [(0, .ref mo), (1, .int a1), (2, .int a2)]) (plainFor_of_name (by decide)) (Nat.le_of_ble_eq_true rfl) rfl ?_
  intro t p e s m args below meth c ls X hr hnm hl
  have X : jCx p c cX6_parcel 3 s m args RX6 G meth := X
  have j29 : ∀ (s1_29 : Int32) (B29 : jM) (ls : Array Slot), lv_has ls 3 [(0, .ref mo), (1, .int a1), (2, .int a2)] → jGo l G 3 65 (mH mo A σ M) (fun r : Int32 × jM => mH mo A σ r.2) (fun t => jrI t.1) t p e s m args below meth c (X6_parcel_j29 n a1 a2 s1_29 B29) (mH mo A σ B29) (F0 m 29 ls [.int s1_29, .ref mo]) := by
    intro s1_29 B29 ls hl
    unfold X6_parcel_j29
    refine J.pu (fun _ _ _ _ k => lv_iconst (v := 2) X.1.1 X.1.2.1 dX6_parcel_29 (by decide) k) ?_
    refine J.bd' (fun v30 M30 h30 => ?_)
    refine J.cV (q := (RX6, TX6, 26)) (ci := 5) (As := [.int s1_29, .int 2]) (rest := []) (s2 := [.int v30]) X ⟨rfl, rfl⟩ (ct_X6_fails l hm σ n B29 s1_29 2) (mup_of h30) (fun _ _ => cwV 2 X.1.2.2.2.2 (lw_V q3075 q3077 qs111 q174 q3078) rfl rfl rfl (by decide +kernel) ⟨(Nat.le_of_ble_eq_true rfl), (Nat.le_of_ble_eq_true rfl)⟩) mH_rc rfl rfl hl.1 rfl rfl (Nat.le_of_ble_eq_true rfl) dX6_parcel_30 ?_
    refine J.br (fun _ _ _ _ ka kb => lv_if_eq (tgt := 38) X.1.1 X.1.2.1 dX6_parcel_33 (by decide) ka kb) (fun c33 => ?_) (fun c33 => ?_)
    · refine J.pu (fun _ _ _ _ k => lv_iload_n X.1.1 X.1.2.1 dX6_parcel_38 rfl (lv_at hl 2 rfl) k) ?_
      refine J.ite (fun c39_4 => ?_) (fun c39_4 => ?_)
      · refine J.pu (fun _ _ _ _ k => lv_tableIn (tgt := 72) (off := 33) X.1.1 X.1.2.1 dX6_parcel_39 (by rw [c39_4]; decide) (by rw [c39_4]; decide) (by rw [c39_4]; decide) (by decide) k) ?_
        refine J.pu (fun _ _ _ _ k => lv_aload_n X.1.1 X.1.2.1 dX6_parcel_72 rfl (lv_at hl 0 rfl) k) ?_
        refine J.pu (fun _ _ _ _ k => lv_iload_n X.1.1 X.1.2.1 dX6_parcel_73 rfl (lv_at hl 1 rfl) k) ?_
        refine J.bind (fun v74 h74 => ?_)
        refine J.cV (q := (RX6, TX6, 26)) (ci := 5) (As := [.int a1]) (rest := []) (s2 := [.int v74]) X ⟨rfl, rfl⟩ (ct_X6_isOn l hm σ n M30 a1) (jrd_of h74) (fun _ _ => cwV 1 X.1.2.2.2.2 (lw_V q2960 q2962 qs87 q174 q2963) rfl rfl rfl (by decide +kernel) ⟨(Nat.le_of_ble_eq_true rfl), (Nat.le_of_ble_eq_true rfl)⟩) mH_rc rfl rfl hl.1 rfl rfl (Nat.le_of_ble_eq_true rfl) dX6_parcel_74 ?_
        refine J.br (fun _ _ _ _ ka kb => lv_if_eq (tgt := 89) X.1.1 X.1.2.1 dX6_parcel_77 (by decide) ka kb) (fun c77 => ?_) (fun c77 => ?_)
        · refine J.pu (fun _ _ _ _ k => lv_iconst (v := (-1)) X.1.1 X.1.2.1 dX6_parcel_89 (by decide) k) ?_
          exact J.iret (vr := fun t : Int32 × jM => jrI t.1) (fin := fun r : Int32 × jM => mH mo A σ r.2) (t := t) X hr (by rfl) (by rfl) dX6_parcel_90
        · refine J.pu (fun _ _ _ _ k => lv_aload_n X.1.1 X.1.2.1 dX6_parcel_80 rfl (lv_at hl 0 rfl) k) ?_
          refine J.pu (fun _ _ _ _ k => lv_iload_n X.1.1 X.1.2.1 dX6_parcel_81 rfl (lv_at hl 1 rfl) k) ?_
          refine J.pu (fun _ _ _ _ k => lv_iconst (v := 4) X.1.1 X.1.2.1 dX6_parcel_82 (by decide) k) ?_
          refine J.bind (fun v83 h83 => ?_)
          refine J.cV (q := (RX6, TX6, 26)) (ci := 5) (As := [.int a1, .int 4]) (rest := []) (s2 := [.int v83]) X ⟨rfl, rfl⟩ (ct_X6_of l hm σ n M30 a1 4) (jrd_of h83) (fun _ _ => cwV 2 X.1.2.2.2.2 (lw_V q2964 q2966 qs88 q174 q2967) rfl rfl rfl (by decide +kernel) ⟨(Nat.le_of_ble_eq_true rfl), (Nat.le_of_ble_eq_true rfl)⟩) mH_rc rfl rfl hl.1 rfl rfl (Nat.le_of_ble_eq_true rfl) dX6_parcel_83 ?_
          refine J.pu (fun _ _ _ _ k => lv_goto (tgt := 90) X.1.1 X.1.2.1 dX6_parcel_86 (by decide) k) ?_
          exact J.iret (vr := fun t : Int32 × jM => jrI t.1) (fin := fun r : Int32 × jM => mH mo A σ r.2) (t := t) X hr (by rfl) (by rfl) dX6_parcel_90
      refine J.ite (fun c39_5 => ?_) (fun c39_5 => ?_)
      · refine J.pu (fun _ _ _ _ k => lv_tableIn (tgt := 91) (off := 52) X.1.1 X.1.2.1 dX6_parcel_39 (by rw [c39_5]; decide) (by rw [c39_5]; decide) (by rw [c39_5]; decide) (by decide) k) ?_
        refine J.pu (fun _ _ _ _ k => lv_aload_n X.1.1 X.1.2.1 dX6_parcel_91 rfl (lv_at hl 0 rfl) k) ?_
        refine J.pu (fun _ _ _ _ k => lv_iload_n X.1.1 X.1.2.1 dX6_parcel_92 rfl (lv_at hl 1 rfl) k) ?_
        refine J.bind (fun v93 h93 => ?_)
        refine J.cV (q := (RX6, TX6, 26)) (ci := 5) (As := [.int a1]) (rest := []) (s2 := [.int v93]) X ⟨rfl, rfl⟩ (ct_X6_isTracked l hm σ n M30 a1) (jrd_of h93) (fun _ _ => cwV 1 X.1.2.2.2.2 (lw_V q3023 q3025 qs101 q174 q3026) rfl rfl rfl (by decide +kernel) ⟨(Nat.le_of_ble_eq_true rfl), (Nat.le_of_ble_eq_true rfl)⟩) mH_rc rfl rfl hl.1 rfl rfl (Nat.le_of_ble_eq_true rfl) dX6_parcel_93 ?_
        refine J.br (fun _ _ _ _ ka kb => lv_if_eq (tgt := 109) X.1.1 X.1.2.1 dX6_parcel_96 (by decide) ka kb) (fun c96 => ?_) (fun c96 => ?_)
        · refine J.pu (fun _ _ _ _ k => lv_iconst (v := (-1)) X.1.1 X.1.2.1 dX6_parcel_109 (by decide) k) ?_
          exact J.iret (vr := fun t : Int32 × jM => jrI t.1) (fin := fun r : Int32 × jM => mH mo A σ r.2) (t := t) X hr (by rfl) (by rfl) dX6_parcel_110
        · refine J.pu (fun _ _ _ _ k => lv_aload_n X.1.1 X.1.2.1 dX6_parcel_99 rfl (lv_at hl 0 rfl) k) ?_
          refine J.pu (fun _ _ _ _ k => lv_iload_n X.1.1 X.1.2.1 dX6_parcel_100 rfl (lv_at hl 1 rfl) k) ?_
          refine J.pu (fun _ _ _ _ k => lv_bipush (v := 6) X.1.1 X.1.2.1 dX6_parcel_101 (by decide) k) ?_
          refine J.bind (fun v103 h103 => ?_)
          refine J.cV (q := (RX6, TX6, 26)) (ci := 5) (As := [.int a1, .int 6]) (rest := []) (s2 := [.int v103]) X ⟨rfl, rfl⟩ (ct_X6_of l hm σ n M30 a1 6) (jrd_of h103) (fun _ _ => cwV 2 X.1.2.2.2.2 (lw_V q2964 q2966 qs88 q174 q2967) rfl rfl rfl (by decide +kernel) ⟨(Nat.le_of_ble_eq_true rfl), (Nat.le_of_ble_eq_true rfl)⟩) mH_rc rfl rfl hl.1 rfl rfl (Nat.le_of_ble_eq_true rfl) dX6_parcel_103 ?_
          refine J.pu (fun _ _ _ _ k => lv_goto (tgt := 110) X.1.1 X.1.2.1 dX6_parcel_106 (by decide) k) ?_
          exact J.iret (vr := fun t : Int32 × jM => jrI t.1) (fin := fun r : Int32 × jM => mH mo A σ r.2) (t := t) X hr (by rfl) (by rfl) dX6_parcel_110
      refine J.ite (fun c39_6 => ?_) (fun c39_6 => ?_)
      · refine J.pu (fun _ _ _ _ k => lv_tableIn (tgt := 111) (off := 72) X.1.1 X.1.2.1 dX6_parcel_39 (by rw [c39_6]; decide) (by rw [c39_6]; decide) (by rw [c39_6]; decide) (by decide) k) ?_
        refine J.pu (fun _ _ _ _ k => lv_aload_n X.1.1 X.1.2.1 dX6_parcel_111 rfl (lv_at hl 0 rfl) k) ?_
        refine J.pu (fun _ _ _ _ k => lv_iload_n X.1.1 X.1.2.1 dX6_parcel_112 rfl (lv_at hl 1 rfl) k) ?_
        refine J.bind (fun v113 h113 => ?_)
        refine J.cV (q := (RX6, TX6, 26)) (ci := 5) (As := [.int a1]) (rest := []) (s2 := [.int v113]) X ⟨rfl, rfl⟩ (ct_X6_isTracked l hm σ n M30 a1) (jrd_of h113) (fun _ _ => cwV 1 X.1.2.2.2.2 (lw_V q3023 q3025 qs101 q174 q3026) rfl rfl rfl (by decide +kernel) ⟨(Nat.le_of_ble_eq_true rfl), (Nat.le_of_ble_eq_true rfl)⟩) mH_rc rfl rfl hl.1 rfl rfl (Nat.le_of_ble_eq_true rfl) dX6_parcel_113 ?_
        refine J.br (fun _ _ _ _ ka kb => lv_if_eq (tgt := 127) X.1.1 X.1.2.1 dX6_parcel_116 (by decide) ka kb) (fun c116 => ?_) (fun c116 => ?_)
        · refine J.pu (fun _ _ _ _ k => lv_iconst (v := (-1)) X.1.1 X.1.2.1 dX6_parcel_127 (by decide) k) ?_
          exact J.iret (vr := fun t : Int32 × jM => jrI t.1) (fin := fun r : Int32 × jM => mH mo A σ r.2) (t := t) X hr (by rfl) (by rfl) dX6_parcel_128
        · refine J.pu (fun _ _ _ _ k => lv_aload_n X.1.1 X.1.2.1 dX6_parcel_119 rfl (lv_at hl 0 rfl) k) ?_
          refine J.pu (fun _ _ _ _ k => lv_iload_n X.1.1 X.1.2.1 dX6_parcel_120 rfl (lv_at hl 1 rfl) k) ?_
          refine J.bind (fun v121 h121 => ?_)
          refine J.cV (q := (RX6, TX6, 26)) (ci := 5) (As := [.int a1]) (rest := []) (s2 := [.int v121]) X ⟨rfl, rfl⟩ (ct_X6_lagOf l hm σ n M30 a1) (jrd_of h121) (fun _ _ => cwV 1 X.1.2.2.2.2 (lw_V q3008 q3010 qs98 q174 q3011) rfl rfl rfl (by decide +kernel) ⟨(Nat.le_of_ble_eq_true rfl), (Nat.le_of_ble_eq_true rfl)⟩) mH_rc rfl rfl hl.1 rfl rfl (Nat.le_of_ble_eq_true rfl) dX6_parcel_121 ?_
          refine J.pu (fun _ _ _ _ k => lv_goto (tgt := 128) X.1.1 X.1.2.1 dX6_parcel_124 (by decide) k) ?_
          exact J.iret (vr := fun t : Int32 × jM => jrI t.1) (fin := fun r : Int32 × jM => mH mo A σ r.2) (t := t) X hr (by rfl) (by rfl) dX6_parcel_128
      refine J.ite (fun c39_7 => ?_) (fun c39_7 => ?_)
      · refine J.pu (fun _ _ _ _ k => lv_tableIn (tgt := 129) (off := 90) X.1.1 X.1.2.1 dX6_parcel_39 (by rw [c39_7]; decide) (by rw [c39_7]; decide) (by rw [c39_7]; decide) (by decide) k) ?_
        refine J.pu (fun _ _ _ _ k => lv_aload_n X.1.1 X.1.2.1 dX6_parcel_129 rfl (lv_at hl 0 rfl) k) ?_
        refine J.pu (fun _ _ _ _ k => lv_iload_n X.1.1 X.1.2.1 dX6_parcel_130 rfl (lv_at hl 1 rfl) k) ?_
        refine J.pu (fun _ _ _ _ k => lv_bipush (v := 7) X.1.1 X.1.2.1 dX6_parcel_131 (by decide) k) ?_
        refine J.bind (fun v133 h133 => ?_)
        refine J.cV (q := (RX6, TX6, 26)) (ci := 5) (As := [.int a1, .int 7]) (rest := []) (s2 := [.int v133]) X ⟨rfl, rfl⟩ (ct_X6_of l hm σ n M30 a1 7) (jrd_of h133) (fun _ _ => cwV 2 X.1.2.2.2.2 (lw_V q2964 q2966 qs88 q174 q2967) rfl rfl rfl (by decide +kernel) ⟨(Nat.le_of_ble_eq_true rfl), (Nat.le_of_ble_eq_true rfl)⟩) mH_rc rfl rfl hl.1 rfl rfl (Nat.le_of_ble_eq_true rfl) dX6_parcel_133 ?_
        exact J.iret (vr := fun t : Int32 × jM => jrI t.1) (fin := fun r : Int32 × jM => mH mo A σ r.2) (t := t) X hr (by rfl) (by rfl) dX6_parcel_136
      refine J.ite (fun c39_8 => ?_) (fun c39_8 => ?_)
      · refine J.pu (fun _ _ _ _ k => lv_tableIn (tgt := 137) (off := 98) X.1.1 X.1.2.1 dX6_parcel_39 (by rw [c39_8]; decide) (by rw [c39_8]; decide) (by rw [c39_8]; decide) (by decide) k) ?_
        refine J.pu (fun _ _ _ _ k => lv_aload_n X.1.1 X.1.2.1 dX6_parcel_137 rfl (lv_at hl 0 rfl) k) ?_
        refine J.pu (fun _ _ _ _ k => lv_iload_n X.1.1 X.1.2.1 dX6_parcel_138 rfl (lv_at hl 1 rfl) k) ?_
        refine J.pu (fun _ _ _ _ k => lv_bipush (v := 8) X.1.1 X.1.2.1 dX6_parcel_139 (by decide) k) ?_
        refine J.bind (fun v141 h141 => ?_)
        refine J.cV (q := (RX6, TX6, 26)) (ci := 5) (As := [.int a1, .int 8]) (rest := []) (s2 := [.int v141]) X ⟨rfl, rfl⟩ (ct_X6_of l hm σ n M30 a1 8) (jrd_of h141) (fun _ _ => cwV 2 X.1.2.2.2.2 (lw_V q2964 q2966 qs88 q174 q2967) rfl rfl rfl (by decide +kernel) ⟨(Nat.le_of_ble_eq_true rfl), (Nat.le_of_ble_eq_true rfl)⟩) mH_rc rfl rfl hl.1 rfl rfl (Nat.le_of_ble_eq_true rfl) dX6_parcel_141 ?_
        exact J.iret (vr := fun t : Int32 × jM => jrI t.1) (fin := fun r : Int32 × jM => mH mo A σ r.2) (t := t) X hr (by rfl) (by rfl) dX6_parcel_144
      by_cases b39 : a2.toInt < 4 ∨ 8 < a2.toInt
      · refine J.pu (fun _ _ _ _ k => lv_tableOut (tgt := 145) X.1.1 X.1.2.1 dX6_parcel_39 b39 (by decide) k) ?_
        refine J.pu (fun _ _ _ _ k => lv_aload_n X.1.1 X.1.2.1 dX6_parcel_145 rfl (lv_at hl 0 rfl) k) ?_
        refine J.pu (fun _ _ _ _ k => lv_iload_n X.1.1 X.1.2.1 dX6_parcel_146 rfl (lv_at hl 1 rfl) k) ?_
        refine J.pu (fun _ _ _ _ k => lv_iload_n X.1.1 X.1.2.1 dX6_parcel_147 rfl (lv_at hl 2 rfl) k) ?_
        refine J.bind (fun v148 h148 => ?_)
        refine J.cV (q := (RX6, TX6, 26)) (ci := 5) (As := [.int a1, .int a2]) (rest := []) (s2 := [.int v148]) X ⟨rfl, rfl⟩ (ct_X6_of l hm σ n M30 a1 a2) (jrd_of h148) (fun _ _ => cwV 2 X.1.2.2.2.2 (lw_V q2964 q2966 qs88 q174 q2967) rfl rfl rfl (by decide +kernel) ⟨(Nat.le_of_ble_eq_true rfl), (Nat.le_of_ble_eq_true rfl)⟩) mH_rc rfl rfl hl.1 rfl rfl (Nat.le_of_ble_eq_true rfl) dX6_parcel_148 ?_
        exact J.iret (vr := fun t : Int32 × jM => jrI t.1) (fin := fun r : Int32 × jM => mH mo A σ r.2) (t := t) X hr (by rfl) (by rfl) dX6_parcel_151
      · exfalso; have := lv_neT c39_4 (a := 4) rfl; have := lv_neT c39_5 (a := 5) rfl; have := lv_neT c39_6 (a := 6) rfl; have := lv_neT c39_7 (a := 7) rfl; have := lv_neT c39_8 (a := 8) rfl; omega
    · refine J.pu (fun _ _ _ _ k => lv_iconst (v := 0) X.1.1 X.1.2.1 dX6_parcel_36 (by decide) k) ?_
      exact J.iret (vr := fun t : Int32 × jM => jrI t.1) (fin := fun r : Int32 × jM => mH mo A σ r.2) (t := t) X hr (by rfl) (by rfl) dX6_parcel_37
  unfold X6_parcel
  refine J.pu (fun _ _ _ _ k => lv_aload_n X.1.1 X.1.2.1 dX6_parcel_0 rfl (lv_at hl 0 rfl) k) ?_
  refine J.pu (fun _ _ _ _ k => lv_iconst (v := 0) X.1.1 X.1.2.1 dX6_parcel_1 (by decide) k) ?_
  refine J.mpS (k := 7) X hm (by decide) q2737 rfl rfl rfl dX6_parcel_2 ?_
  refine J.pu (fun _ _ _ _ k => lv_aload_n X.1.1 X.1.2.1 dX6_parcel_5 rfl (lv_at hl 0 rfl) k) ?_
  refine J.pu (fun _ _ _ _ k => lv_iload_n X.1.1 X.1.2.1 dX6_parcel_6 rfl (lv_at hl 1 rfl) k) ?_
  refine J.bd' (fun v7 M7 h7 => ?_)
  refine J.cV (q := (RX6, TX6, 26)) (ci := 5) (As := [.int a1]) (rest := []) (s2 := [.int v7]) X ⟨rfl, rfl⟩ (ct_X6_noParcel l hm σ n (mP M 7 0) a1) (mup_of h7) (fun _ _ => cwV 1 X.1.2.2.2.2 (lw_V q3107 q3109 qs116 q174 q3110) rfl rfl rfl (by decide +kernel) ⟨(Nat.le_of_ble_eq_true rfl), (Nat.le_of_ble_eq_true rfl)⟩) mH_rc rfl rfl hl.1 rfl rfl (Nat.le_of_ble_eq_true rfl) dX6_parcel_7 ?_
  refine J.br (fun _ _ _ _ ka kb => lv_if_ne (tgt := 36) X.1.1 X.1.2.1 dX6_parcel_10 (by decide) kb ka) (fun c10 => ?_) (fun c10 => ?_)
  · refine J.pu (fun _ _ _ _ k => lv_aload_n X.1.1 X.1.2.1 dX6_parcel_13 rfl (lv_at hl 0 rfl) k) ?_
    refine J.pu (fun _ _ _ _ k => lv_iload_n X.1.1 X.1.2.1 dX6_parcel_14 rfl (lv_at hl 2 rfl) k) ?_
    refine J.pu (fun _ _ _ _ k => lv_iconst (v := 0) X.1.1 X.1.2.1 dX6_parcel_15 (by decide) k) ?_
    refine J.pu (fun _ _ _ _ k => lv_bipush (v := 8) X.1.1 X.1.2.1 dX6_parcel_16 (by decide) k) ?_
    refine J.bind (fun v18 h18 => ?_)
    refine J.cS (As := [.int a2, .int 0, .int 8]) (rest := [.ref mo]) (s2 := [.int v18, .ref mo]) X ⟨rfl, rfl⟩ (ct_X6_inRange l hm σ n M7 a2 0 8) (jrd_of h18) (fun _ _ => va_cwS 3 X.1.2.2.2.2 (lw_S q2825 q2826 q174 q2827) rfl rfl rfl (by decide +kernel) ⟨(Nat.le_of_ble_eq_true rfl), (Nat.le_of_ble_eq_true rfl)⟩) rfl hl.1 rfl rfl (Nat.le_of_ble_eq_true rfl) dX6_parcel_18 ?_
    refine J.br (fun _ _ _ _ ka kb => lv_if_ne (tgt := 28) X.1.1 X.1.2.1 dX6_parcel_21 (by decide) kb ka) (fun c21 => ?_) (fun c21 => ?_)
    · refine J.pu (fun _ _ _ _ k => lv_iconst (v := 1) X.1.1 X.1.2.1 dX6_parcel_24 (by decide) k) ?_
      refine J.pu (fun _ _ _ _ k => lv_goto (tgt := 29) X.1.1 X.1.2.1 dX6_parcel_25 (by decide) k) ?_
      exact j29 1 M7 ls (lv_sub hl [0, 1, 2] rfl)
    · refine J.pu (fun _ _ _ _ k => lv_iconst (v := 0) X.1.1 X.1.2.1 dX6_parcel_28 (by decide) k) ?_
      exact j29 0 M7 ls (lv_sub hl [0, 1, 2] rfl)
  · refine J.pu (fun _ _ _ _ k => lv_iconst (v := 0) X.1.1 X.1.2.1 dX6_parcel_36 (by decide) k) ?_
    exact J.iret (vr := fun t : Int32 × jM => jrI t.1) (fin := fun r : Int32 × jM => mH mo A σ r.2) (t := t) X hr (by rfl) (by rfl) dX6_parcel_37
noncomputable def X6_noChute (n : Nat) (M : jM) (a1 : Int32) : Option (Int32 × jM) :=
  (mA M 0 3).bind fun v8 => (X6_inRange n M a1 0 (v8 - 1)).bind fun v11 => if v11 = 0 then (bd (X6_fails n M 1 1) fun v23 M23 => jbo .boolean v23 (some (v23, M23))) else (bd (X6_fails n M 0 1) fun v23 M23 => jbo .boolean v23 (some (v23, M23)))
set_option maxHeartbeats 4000000 in
set_option maxRecDepth 100000 in
theorem ct_X6_noChute (l : Launch) {G : jG} {mo : Nat} {A : Nat → Nat} (hm : mOK G mo A) (σ : jH) (n : Nat) (M : jM) (a1 : Int32) : jCt l G yX6_noChute (ws_ yX6_noChute cX6_noChute 2 (some .boolean)) 1 22 jrI [.ref mo, .int a1] (mH mo A σ M) (mup mo A σ (X6_noChute n M a1)) := by
  refine jCt.wm (lv := [(0, .ref mo), (1, .int a1)]) (plainFor_of_name (by decide)) (Nat.le_of_ble_eq_true rfl) rfl ?_
  intro t p e s m args below meth c ls X hr hnm hl
  have X : jCx p c cX6_noChute 2 s m args RX6 G meth := X
  unfold X6_noChute
  refine J.pu (fun _ _ _ _ k => lv_aload_n X.1.1 X.1.2.1 dX6_noChute_0 rfl (lv_at hl 0 rfl) k) ?_
  refine J.pu (fun _ _ _ _ k => lv_iload_n X.1.1 X.1.2.1 dX6_noChute_1 rfl (lv_at hl 1 rfl) k) ?_
  refine J.pu (fun _ _ _ _ k => lv_iconst (v := 0) X.1.1 X.1.2.1 dX6_noChute_2 (by decide) k) ?_
  refine J.pu (fun _ _ _ _ k => lv_aload_n X.1.1 X.1.2.1 dX6_noChute_3 rfl (lv_at hl 0 rfl) k) ?_
  refine J.mgA (k := 0) X (by decide) q2730 rfl rfl dX6_noChute_4 ?_
  refine J.pu (fun _ _ _ _ k => lv_iconst (v := 3) X.1.1 X.1.2.1 dX6_noChute_7 (by decide) k) ?_
  refine J.mld X hm (by decide) dX6_noChute_8 (fun v8 h8 => ?_)
  refine J.pu (fun _ _ _ _ k => lv_iconst (v := 1) X.1.1 X.1.2.1 dX6_noChute_9 (by decide) k) ?_
  refine J.pu (fun _ _ _ _ k => lv_isub X.1.1 X.1.2.1 dX6_noChute_10 k) ?_
  refine J.bind (fun v11 h11 => ?_)
  refine J.cS (As := [.int a1, .int 0, .int (v8 - 1)]) (rest := [.ref mo]) (s2 := [.int v11, .ref mo]) X ⟨rfl, rfl⟩ (ct_X6_inRange l hm σ n M a1 0 (v8 - 1)) (jrd_of h11) (fun _ _ => va_cwS 3 X.1.2.2.2.2 (lw_S q2825 q2826 q174 q2827) rfl rfl rfl (by decide +kernel) ⟨(Nat.le_of_ble_eq_true rfl), (Nat.le_of_ble_eq_true rfl)⟩) rfl hl.1 rfl rfl (Nat.le_of_ble_eq_true rfl) dX6_noChute_11 ?_
  refine J.br (fun _ _ _ _ ka kb => lv_if_ne (tgt := 21) X.1.1 X.1.2.1 dX6_noChute_14 (by decide) kb ka) (fun c14 => ?_) (fun c14 => ?_)
  · refine J.pu (fun _ _ _ _ k => lv_iconst (v := 1) X.1.1 X.1.2.1 dX6_noChute_17 (by decide) k) ?_
    refine J.pu (fun _ _ _ _ k => lv_goto (tgt := 22) X.1.1 X.1.2.1 dX6_noChute_18 (by decide) k) ?_
    refine J.pu (fun _ _ _ _ k => lv_iconst (v := 1) X.1.1 X.1.2.1 dX6_noChute_22 (by decide) k) ?_
    refine J.bd' (fun v23 M23 h23 => ?_)
    refine J.cV (q := (RX6, TX6, 26)) (ci := 5) (As := [.int 1, .int 1]) (rest := []) (s2 := [.int v23]) X ⟨rfl, rfl⟩ (ct_X6_fails l hm σ n M 1 1) (mup_of h23) (fun _ _ => cwV 2 X.1.2.2.2.2 (lw_V q3075 q3077 qs111 q174 q3078) rfl rfl rfl (by decide +kernel) ⟨(Nat.le_of_ble_eq_true rfl), (Nat.le_of_ble_eq_true rfl)⟩) mH_rc rfl rfl hl.1 rfl rfl (Nat.le_of_ble_eq_true rfl) dX6_noChute_23 ?_
    exact J.zretb (vr := fun t : Int32 × jM => jrI t.1) (fin := fun r : Int32 × jM => mH mo A σ r.2) (t := t) X hr (by rfl) (by rfl) dX6_noChute_26
  · refine J.pu (fun _ _ _ _ k => lv_iconst (v := 0) X.1.1 X.1.2.1 dX6_noChute_21 (by decide) k) ?_
    refine J.pu (fun _ _ _ _ k => lv_iconst (v := 1) X.1.1 X.1.2.1 dX6_noChute_22 (by decide) k) ?_
    refine J.bd' (fun v23 M23 h23 => ?_)
    refine J.cV (q := (RX6, TX6, 26)) (ci := 5) (As := [.int 0, .int 1]) (rest := []) (s2 := [.int v23]) X ⟨rfl, rfl⟩ (ct_X6_fails l hm σ n M 0 1) (mup_of h23) (fun _ _ => cwV 2 X.1.2.2.2.2 (lw_V q3075 q3077 qs111 q174 q3078) rfl rfl rfl (by decide +kernel) ⟨(Nat.le_of_ble_eq_true rfl), (Nat.le_of_ble_eq_true rfl)⟩) mH_rc rfl rfl hl.1 rfl rfl (Nat.le_of_ble_eq_true rfl) dX6_noChute_23 ?_
    exact J.zretb (vr := fun t : Int32 × jM => jrI t.1) (fin := fun r : Int32 × jM => mH mo A σ r.2) (t := t) X hr (by rfl) (by rfl) dX6_noChute_26
noncomputable def X6_onFor_j38 (n : Nat) (M : jM) (a1 : Int32) (rec4 : Int32 × Int32 → Option (Int32)) (x3_38 : Int32) (s0_38 : Int32) (s1_38 : Int32) : Option (Int32) :=
  (X6_one n M s1_38).bind fun v38 => rec4 ((s0_38 + v38), (x3_38 + 1))
noncomputable def X6_onFor_j37 (n : Nat) (M : jM) (a1 : Int32) (rec4 : Int32 × Int32 → Option (Int32)) (x3_37 : Int32) (s0_37 : Int32) : Option (Int32) :=
  X6_onFor_j38 n M a1 rec4 x3_37 s0_37 0
noncomputable def X6_onFor_h4 (n : Nat) (M : jM) (a1 : Int32) (rec4 : Int32 × Int32 → Option (Int32)) (q4 : Int32 × Int32) : Option (Int32) :=
  let x2_4 := q4.1; let x3_4 := q4.2; (mA M 0 4).bind fun v10 => if v10 ≤ x3_4 then (some x2_4) else ((X6_isOn n M x3_4).bind fun v17 => if v17 = 0 then (X6_onFor_j37 n M a1 rec4 x3_4 x2_4) else ((X6_of n M x3_4 0).bind fun v26 => if v26 = a1 then (X6_onFor_j38 n M a1 rec4 x3_4 x2_4 1) else (X6_onFor_j37 n M a1 rec4 x3_4 x2_4)))
noncomputable def X6_onFor (n : Nat) (M : jM) (a1 : Int32) : Option (Int32) :=
  jloop (X6_onFor_h4 n M a1) n (0, 0)
set_option maxHeartbeats 4000000 in
set_option maxRecDepth 100000 in
theorem ct_X6_onFor (l : Launch) {G : jG} {mo : Nat} {A : Nat → Nat} (hm : mOK G mo A) (σ : jH) (n : Nat) (M : jM) (a1 : Int32) : jCt l G yX6_onFor (ws_ yX6_onFor cX6_onFor 4 (some .int)) 2 43 jrI [.ref mo, .int a1] (mH mo A σ M) (jrd (mH mo A σ M) (X6_onFor n M a1)) := by
  refine jCt.rd (lv := [(0, .ref mo), (1, .int a1)]) (plainFor_of_name (by decide)) (Nat.le_of_ble_eq_true rfl) rfl ?_
  intro t p e s m args below meth c ls X hr hnm hl
  have X : jCx p c cX6_onFor 4 s m args RX6 G meth := X
  have L4 : ∀ (n4 : Nat) (x2_4 : Int32) (x3_4 : Int32) (ls : Array Slot), lv_has ls 4 [(0, .ref mo), (1, .int a1), (2, .int x2_4), (3, .int x3_4)] → jGo l G 2 43 (mH mo A σ M) (fun _ : Int32 => (mH mo A σ M)) jrI t p e s m args below meth c (jloop (X6_onFor_h4 n M a1) n4 (x2_4, x3_4)) (mH mo A σ M) (F0 m 4 ls []) := by
    intro n4
    induction n4 with
    | zero => intro x2_4 x3_4 ls hl; exact J.nil_
    | succ n4 ih4 =>
      have j38 : ∀ (x3_38 : Int32) (s0_38 : Int32) (s1_38 : Int32) (ls : Array Slot), lv_has ls 4 [(0, .ref mo), (1, .int a1), (3, .int x3_38)] → jGo l G 2 43 (mH mo A σ M) (fun _ : Int32 => (mH mo A σ M)) jrI t p e s m args below meth c (X6_onFor_j38 n M a1 (jloop (X6_onFor_h4 n M a1) n4) x3_38 s0_38 s1_38) (mH mo A σ M) (F0 m 38 ls [.int s1_38, .int s0_38]) := by
        intro x3_38 s0_38 s1_38 ls hl
        unfold X6_onFor_j38
        refine J.bind (fun v38 h38 => ?_)
        refine J.cS (As := [.int s1_38]) (rest := [.int s0_38]) (s2 := [.int v38, .int s0_38]) X ⟨rfl, rfl⟩ (ct_X6_one l hm σ n M s1_38) (jrd_of h38) (fun _ _ => va_cwS 1 X.1.2.2.2.2 (lw_S q2988 q2989 q174 q2990) rfl rfl rfl (by decide +kernel) ⟨(Nat.le_of_ble_eq_true rfl), (Nat.le_of_ble_eq_true rfl)⟩) rfl hl.1 rfl rfl (Nat.le_of_ble_eq_true rfl) dX6_onFor_38 ?_
        refine J.pu (fun _ _ _ _ k => lv_iadd X.1.1 X.1.2.1 dX6_onFor_41 k) ?_
        refine J.istore_n (i := 2) (lv' := [(2, .int (s0_38 + v38)), (0, .ref mo), (1, .int a1), (3, .int x3_38)]) X.1.1 X.1.2.1 dX6_onFor_42 rfl hl (by decide) (by first | rfl | simp [va_rf_cat, jcI, jcA, jcJ, jcD, jcF]) (fun ls hl => ?_)
        refine J.iinc (k := 3) (lv' := [(3, .int (x3_38 + 1)), (2, .int (s0_38 + v38)), (0, .ref mo), (1, .int a1)]) (w := (x3_38 + 1)) X.1.1 X.1.2.1 dX6_onFor_43 hl rfl rfl (by decide) (by first | rfl | simp [va_rf_cat, jcI, jcA, jcJ, jcD, jcF]) (fun ls hl => ?_)
        refine J.pu (fun _ _ _ _ k => lv_goto (tgt := 4) X.1.1 X.1.2.1 dX6_onFor_46 (by decide) k) ?_
        exact ih4 (s0_38 + v38) (x3_38 + 1) ls (lv_sub hl [2, 3, 1, 0] rfl)
      have j37 : ∀ (x3_37 : Int32) (s0_37 : Int32) (ls : Array Slot), lv_has ls 4 [(0, .ref mo), (1, .int a1), (3, .int x3_37)] → jGo l G 2 43 (mH mo A σ M) (fun _ : Int32 => (mH mo A σ M)) jrI t p e s m args below meth c (X6_onFor_j37 n M a1 (jloop (X6_onFor_h4 n M a1) n4) x3_37 s0_37) (mH mo A σ M) (F0 m 37 ls [.int s0_37]) := by
        intro x3_37 s0_37 ls hl
        unfold X6_onFor_j37
        refine J.pu (fun _ _ _ _ k => lv_iconst (v := 0) X.1.1 X.1.2.1 dX6_onFor_37 (by decide) k) ?_
        exact j38 x3_37 s0_37 0 ls (lv_sub hl [0, 1, 2] rfl)
      intro x2_4 x3_4 ls hl
      refine J.eq (jloop_s _ _ _) ?_
      dsimp only [X6_onFor_h4]
      refine J.pu (fun _ _ _ _ k => lv_iload_n X.1.1 X.1.2.1 dX6_onFor_4 rfl (lv_at hl 3 rfl) k) ?_
      refine J.pu (fun _ _ _ _ k => lv_aload_n X.1.1 X.1.2.1 dX6_onFor_5 rfl (lv_at hl 0 rfl) k) ?_
      refine J.mgA (k := 0) X (by decide) q2730 rfl rfl dX6_onFor_6 ?_
      refine J.pu (fun _ _ _ _ k => lv_iconst (v := 4) X.1.1 X.1.2.1 dX6_onFor_9 (by decide) k) ?_
      refine J.mld X hm (by decide) dX6_onFor_10 (fun v10 h10 => ?_)
      refine J.br (fun _ _ _ _ ka kb => lv_icmp_ge (tgt := 49) X.1.1 X.1.2.1 dX6_onFor_11 (by decide) ka kb) (fun c11 => ?_) (fun c11 => ?_)
      · refine J.pu (fun _ _ _ _ k => lv_iload_n X.1.1 X.1.2.1 dX6_onFor_49 rfl (lv_at hl 2 rfl) k) ?_
        exact J.iret (vr := jrI) (fin := fun _ : Int32 => (mH mo A σ M)) (t := t) X hr (by rfl) (by rfl) dX6_onFor_50
      · refine J.pu (fun _ _ _ _ k => lv_iload_n X.1.1 X.1.2.1 dX6_onFor_14 rfl (lv_at hl 2 rfl) k) ?_
        refine J.pu (fun _ _ _ _ k => lv_aload_n X.1.1 X.1.2.1 dX6_onFor_15 rfl (lv_at hl 0 rfl) k) ?_
        refine J.pu (fun _ _ _ _ k => lv_iload_n X.1.1 X.1.2.1 dX6_onFor_16 rfl (lv_at hl 3 rfl) k) ?_
        refine J.bind (fun v17 h17 => ?_)
        refine J.cV (q := (RX6, TX6, 26)) (ci := 5) (As := [.int x3_4]) (rest := [.int x2_4]) (s2 := [.int v17, .int x2_4]) X ⟨rfl, rfl⟩ (ct_X6_isOn l hm σ n M x3_4) (jrd_of h17) (fun _ _ => cwV 1 X.1.2.2.2.2 (lw_V q2960 q2962 qs87 q174 q2963) rfl rfl rfl (by decide +kernel) ⟨(Nat.le_of_ble_eq_true rfl), (Nat.le_of_ble_eq_true rfl)⟩) mH_rc rfl rfl hl.1 rfl rfl (Nat.le_of_ble_eq_true rfl) dX6_onFor_17 ?_
        refine J.br (fun _ _ _ _ ka kb => lv_if_eq (tgt := 37) X.1.1 X.1.2.1 dX6_onFor_20 (by decide) ka kb) (fun c20 => ?_) (fun c20 => ?_)
        · exact j37 x3_4 x2_4 ls (lv_sub hl [0, 1, 3] rfl)
        · refine J.pu (fun _ _ _ _ k => lv_aload_n X.1.1 X.1.2.1 dX6_onFor_23 rfl (lv_at hl 0 rfl) k) ?_
          refine J.pu (fun _ _ _ _ k => lv_iload_n X.1.1 X.1.2.1 dX6_onFor_24 rfl (lv_at hl 3 rfl) k) ?_
          refine J.pu (fun _ _ _ _ k => lv_iconst (v := 0) X.1.1 X.1.2.1 dX6_onFor_25 (by decide) k) ?_
          refine J.bind (fun v26 h26 => ?_)
          refine J.cV (q := (RX6, TX6, 26)) (ci := 5) (As := [.int x3_4, .int 0]) (rest := [.int x2_4]) (s2 := [.int v26, .int x2_4]) X ⟨rfl, rfl⟩ (ct_X6_of l hm σ n M x3_4 0) (jrd_of h26) (fun _ _ => cwV 2 X.1.2.2.2.2 (lw_V q2964 q2966 qs88 q174 q2967) rfl rfl rfl (by decide +kernel) ⟨(Nat.le_of_ble_eq_true rfl), (Nat.le_of_ble_eq_true rfl)⟩) mH_rc rfl rfl hl.1 rfl rfl (Nat.le_of_ble_eq_true rfl) dX6_onFor_26 ?_
          refine J.pu (fun _ _ _ _ k => lv_iload_n X.1.1 X.1.2.1 dX6_onFor_29 rfl (lv_at hl 1 rfl) k) ?_
          refine J.br (fun _ _ _ _ ka kb => lv_icmp_ne (tgt := 37) X.1.1 X.1.2.1 dX6_onFor_30 (by decide) kb ka) (fun c30 => ?_) (fun c30 => ?_)
          · refine J.pu (fun _ _ _ _ k => lv_iconst (v := 1) X.1.1 X.1.2.1 dX6_onFor_33 (by decide) k) ?_
            refine J.pu (fun _ _ _ _ k => lv_goto (tgt := 38) X.1.1 X.1.2.1 dX6_onFor_34 (by decide) k) ?_
            exact j38 x3_4 x2_4 1 ls (lv_sub hl [0, 1, 3] rfl)
          · exact j37 x3_4 x2_4 ls (lv_sub hl [0, 1, 3] rfl)
  unfold X6_onFor
  refine J.pu (fun _ _ _ _ k => lv_iconst (v := 0) X.1.1 X.1.2.1 dX6_onFor_0 (by decide) k) ?_
  refine J.istore_n (i := 2) (lv' := [(2, .int 0), (0, .ref mo), (1, .int a1)]) X.1.1 X.1.2.1 dX6_onFor_1 rfl hl (by decide) (by first | rfl | simp [va_rf_cat, jcI, jcA, jcJ, jcD, jcF]) (fun ls hl => ?_)
  refine J.pu (fun _ _ _ _ k => lv_iconst (v := 0) X.1.1 X.1.2.1 dX6_onFor_2 (by decide) k) ?_
  refine J.istore_n (i := 3) (lv' := [(3, .int 0), (2, .int 0), (0, .ref mo), (1, .int a1)]) X.1.1 X.1.2.1 dX6_onFor_3 rfl hl (by decide) (by first | rfl | simp [va_rf_cat, jcI, jcA, jcJ, jcD, jcF]) (fun ls hl => ?_)
  exact L4 n 0 0 ls (lv_sub hl [2, 3, 1, 0] rfl)
noncomputable def X6_rightIn_j39 (n : Nat) (M : jM) (a1 : Int32) (rec4 : Int32 × Int32 → Option (Int32)) (x3_39 : Int32) (s0_39 : Int32) (s1_39 : Int32) : Option (Int32) :=
  (X6_one n M s1_39).bind fun v39 => rec4 ((s0_39 + v39), (x3_39 + 1))
noncomputable def X6_rightIn_h4 (n : Nat) (M : jM) (a1 : Int32) (rec4 : Int32 × Int32 → Option (Int32)) (q4 : Int32 × Int32) : Option (Int32) :=
  let x2_4 := q4.1; let x3_4 := q4.2; (X6_ofChute n M a1 6).bind fun v9 => if v9 ≤ x3_4 then (some x2_4) else ((X6_ofChute n M a1 (8 + x3_4)).bind fun v23 => (X6_of n M v23 0).bind fun v27 => if v27 = a1 then (X6_rightIn_j39 n M a1 rec4 x3_4 x2_4 1) else (X6_rightIn_j39 n M a1 rec4 x3_4 x2_4 0))
noncomputable def X6_rightIn (n : Nat) (M : jM) (a1 : Int32) : Option (Int32) :=
  jloop (X6_rightIn_h4 n M a1) n (0, 0)
set_option maxHeartbeats 4000000 in
set_option maxRecDepth 100000 in
theorem ct_X6_rightIn (l : Launch) {G : jG} {mo : Nat} {A : Nat → Nat} (hm : mOK G mo A) (σ : jH) (n : Nat) (M : jM) (a1 : Int32) : jCt l G yX6_rightIn (ws_ yX6_rightIn cX6_rightIn 4 (some .int)) 1 22 jrI [.ref mo, .int a1] (mH mo A σ M) (jrd (mH mo A σ M) (X6_rightIn n M a1)) := by
  refine jCt.rd (lv := [(0, .ref mo), (1, .int a1)]) (plainFor_of_name (by decide)) (Nat.le_of_ble_eq_true rfl) rfl ?_
  intro t p e s m args below meth c ls X hr hnm hl
  have X : jCx p c cX6_rightIn 4 s m args RX6 G meth := X
  have L4 : ∀ (n4 : Nat) (x2_4 : Int32) (x3_4 : Int32) (ls : Array Slot), lv_has ls 4 [(0, .ref mo), (1, .int a1), (2, .int x2_4), (3, .int x3_4)] → jGo l G 1 22 (mH mo A σ M) (fun _ : Int32 => (mH mo A σ M)) jrI t p e s m args below meth c (jloop (X6_rightIn_h4 n M a1) n4 (x2_4, x3_4)) (mH mo A σ M) (F0 m 4 ls []) := by
    intro n4
    induction n4 with
    | zero => intro x2_4 x3_4 ls hl; exact J.nil_
    | succ n4 ih4 =>
      have j39 : ∀ (x3_39 : Int32) (s0_39 : Int32) (s1_39 : Int32) (ls : Array Slot), lv_has ls 4 [(0, .ref mo), (1, .int a1), (3, .int x3_39)] → jGo l G 1 22 (mH mo A σ M) (fun _ : Int32 => (mH mo A σ M)) jrI t p e s m args below meth c (X6_rightIn_j39 n M a1 (jloop (X6_rightIn_h4 n M a1) n4) x3_39 s0_39 s1_39) (mH mo A σ M) (F0 m 39 ls [.int s1_39, .int s0_39]) := by
        intro x3_39 s0_39 s1_39 ls hl
        unfold X6_rightIn_j39
        refine J.bind (fun v39 h39 => ?_)
        refine J.cS (As := [.int s1_39]) (rest := [.int s0_39]) (s2 := [.int v39, .int s0_39]) X ⟨rfl, rfl⟩ (ct_X6_one l hm σ n M s1_39) (jrd_of h39) (fun _ _ => va_cwS 1 X.1.2.2.2.2 (lw_S q2988 q2989 q174 q2990) rfl rfl rfl (by decide +kernel) ⟨(Nat.le_of_ble_eq_true rfl), (Nat.le_of_ble_eq_true rfl)⟩) rfl hl.1 rfl rfl (Nat.le_of_ble_eq_true rfl) dX6_rightIn_39 ?_
        refine J.pu (fun _ _ _ _ k => lv_iadd X.1.1 X.1.2.1 dX6_rightIn_42 k) ?_
        refine J.istore_n (i := 2) (lv' := [(2, .int (s0_39 + v39)), (0, .ref mo), (1, .int a1), (3, .int x3_39)]) X.1.1 X.1.2.1 dX6_rightIn_43 rfl hl (by decide) (by first | rfl | simp [va_rf_cat, jcI, jcA, jcJ, jcD, jcF]) (fun ls hl => ?_)
        refine J.iinc (k := 3) (lv' := [(3, .int (x3_39 + 1)), (2, .int (s0_39 + v39)), (0, .ref mo), (1, .int a1)]) (w := (x3_39 + 1)) X.1.1 X.1.2.1 dX6_rightIn_44 hl rfl rfl (by decide) (by first | rfl | simp [va_rf_cat, jcI, jcA, jcJ, jcD, jcF]) (fun ls hl => ?_)
        refine J.pu (fun _ _ _ _ k => lv_goto (tgt := 4) X.1.1 X.1.2.1 dX6_rightIn_47 (by decide) k) ?_
        exact ih4 (s0_39 + v39) (x3_39 + 1) ls (lv_sub hl [2, 3, 1, 0] rfl)
      intro x2_4 x3_4 ls hl
      refine J.eq (jloop_s _ _ _) ?_
      dsimp only [X6_rightIn_h4]
      refine J.pu (fun _ _ _ _ k => lv_iload_n X.1.1 X.1.2.1 dX6_rightIn_4 rfl (lv_at hl 3 rfl) k) ?_
      refine J.pu (fun _ _ _ _ k => lv_aload_n X.1.1 X.1.2.1 dX6_rightIn_5 rfl (lv_at hl 0 rfl) k) ?_
      refine J.pu (fun _ _ _ _ k => lv_iload_n X.1.1 X.1.2.1 dX6_rightIn_6 rfl (lv_at hl 1 rfl) k) ?_
      refine J.pu (fun _ _ _ _ k => lv_bipush (v := 6) X.1.1 X.1.2.1 dX6_rightIn_7 (by decide) k) ?_
      refine J.bind (fun v9 h9 => ?_)
      refine J.cV (q := (RX6, TX6, 26)) (ci := 5) (As := [.int a1, .int 6]) (rest := [.int x3_4]) (s2 := [.int v9, .int x3_4]) X ⟨rfl, rfl⟩ (ct_X6_ofChute l hm σ n M a1 6) (jrd_of h9) (fun _ _ => cwV 2 X.1.2.2.2.2 (lw_V q2908 q2910 qs77 q174 q2911) rfl rfl rfl (by decide +kernel) ⟨(Nat.le_of_ble_eq_true rfl), (Nat.le_of_ble_eq_true rfl)⟩) mH_rc rfl rfl hl.1 rfl rfl (Nat.le_of_ble_eq_true rfl) dX6_rightIn_9 ?_
      refine J.br (fun _ _ _ _ ka kb => lv_icmp_ge (tgt := 50) X.1.1 X.1.2.1 dX6_rightIn_12 (by decide) ka kb) (fun c12 => ?_) (fun c12 => ?_)
      · refine J.pu (fun _ _ _ _ k => lv_iload_n X.1.1 X.1.2.1 dX6_rightIn_50 rfl (lv_at hl 2 rfl) k) ?_
        exact J.iret (vr := jrI) (fin := fun _ : Int32 => (mH mo A σ M)) (t := t) X hr (by rfl) (by rfl) dX6_rightIn_51
      · refine J.pu (fun _ _ _ _ k => lv_iload_n X.1.1 X.1.2.1 dX6_rightIn_15 rfl (lv_at hl 2 rfl) k) ?_
        refine J.pu (fun _ _ _ _ k => lv_aload_n X.1.1 X.1.2.1 dX6_rightIn_16 rfl (lv_at hl 0 rfl) k) ?_
        refine J.pu (fun _ _ _ _ k => lv_aload_n X.1.1 X.1.2.1 dX6_rightIn_17 rfl (lv_at hl 0 rfl) k) ?_
        refine J.pu (fun _ _ _ _ k => lv_iload_n X.1.1 X.1.2.1 dX6_rightIn_18 rfl (lv_at hl 1 rfl) k) ?_
        refine J.pu (fun _ _ _ _ k => lv_bipush (v := 8) X.1.1 X.1.2.1 dX6_rightIn_19 (by decide) k) ?_
        refine J.pu (fun _ _ _ _ k => lv_iload_n X.1.1 X.1.2.1 dX6_rightIn_21 rfl (lv_at hl 3 rfl) k) ?_
        refine J.pu (fun _ _ _ _ k => lv_iadd X.1.1 X.1.2.1 dX6_rightIn_22 k) ?_
        refine J.bind (fun v23 h23 => ?_)
        refine J.cV (q := (RX6, TX6, 26)) (ci := 5) (As := [.int a1, .int (8 + x3_4)]) (rest := [.ref mo, .int x2_4]) (s2 := [.int v23, .ref mo, .int x2_4]) X ⟨rfl, rfl⟩ (ct_X6_ofChute l hm σ n M a1 (8 + x3_4)) (jrd_of h23) (fun _ _ => cwV 2 X.1.2.2.2.2 (lw_V q2908 q2910 qs77 q174 q2911) rfl rfl rfl (by decide +kernel) ⟨(Nat.le_of_ble_eq_true rfl), (Nat.le_of_ble_eq_true rfl)⟩) mH_rc rfl rfl hl.1 rfl rfl (Nat.le_of_ble_eq_true rfl) dX6_rightIn_23 ?_
        refine J.pu (fun _ _ _ _ k => lv_iconst (v := 0) X.1.1 X.1.2.1 dX6_rightIn_26 (by decide) k) ?_
        refine J.bind (fun v27 h27 => ?_)
        refine J.cV (q := (RX6, TX6, 26)) (ci := 5) (As := [.int v23, .int 0]) (rest := [.int x2_4]) (s2 := [.int v27, .int x2_4]) X ⟨rfl, rfl⟩ (ct_X6_of l hm σ n M v23 0) (jrd_of h27) (fun _ _ => cwV 2 X.1.2.2.2.2 (lw_V q2964 q2966 qs88 q174 q2967) rfl rfl rfl (by decide +kernel) ⟨(Nat.le_of_ble_eq_true rfl), (Nat.le_of_ble_eq_true rfl)⟩) mH_rc rfl rfl hl.1 rfl rfl (Nat.le_of_ble_eq_true rfl) dX6_rightIn_27 ?_
        refine J.pu (fun _ _ _ _ k => lv_iload_n X.1.1 X.1.2.1 dX6_rightIn_30 rfl (lv_at hl 1 rfl) k) ?_
        refine J.br (fun _ _ _ _ ka kb => lv_icmp_ne (tgt := 38) X.1.1 X.1.2.1 dX6_rightIn_31 (by decide) kb ka) (fun c31 => ?_) (fun c31 => ?_)
        · refine J.pu (fun _ _ _ _ k => lv_iconst (v := 1) X.1.1 X.1.2.1 dX6_rightIn_34 (by decide) k) ?_
          refine J.pu (fun _ _ _ _ k => lv_goto (tgt := 39) X.1.1 X.1.2.1 dX6_rightIn_35 (by decide) k) ?_
          exact j39 x3_4 x2_4 1 ls (lv_sub hl [0, 1, 3] rfl)
        · refine J.pu (fun _ _ _ _ k => lv_iconst (v := 0) X.1.1 X.1.2.1 dX6_rightIn_38 (by decide) k) ?_
          exact j39 x3_4 x2_4 0 ls (lv_sub hl [0, 1, 3] rfl)
  unfold X6_rightIn
  refine J.pu (fun _ _ _ _ k => lv_iconst (v := 0) X.1.1 X.1.2.1 dX6_rightIn_0 (by decide) k) ?_
  refine J.istore_n (i := 2) (lv' := [(2, .int 0), (0, .ref mo), (1, .int a1)]) X.1.1 X.1.2.1 dX6_rightIn_1 rfl hl (by decide) (by first | rfl | simp [va_rf_cat, jcI, jcA, jcJ, jcD, jcF]) (fun ls hl => ?_)
  refine J.pu (fun _ _ _ _ k => lv_iconst (v := 0) X.1.1 X.1.2.1 dX6_rightIn_2 (by decide) k) ?_
  refine J.istore_n (i := 3) (lv' := [(3, .int 0), (2, .int 0), (0, .ref mo), (1, .int a1)]) X.1.1 X.1.2.1 dX6_rightIn_3 rfl hl (by decide) (by first | rfl | simp [va_rf_cat, jcI, jcA, jcJ, jcD, jcF]) (fun ls hl => ?_)
  exact L4 n 0 0 ls (lv_sub hl [2, 3, 1, 0] rfl)
noncomputable def X6_chute_j29 (n : Nat) (a1 : Int32) (a2 : Int32) (s1_29 : Int32) (B29 : jM) : Option (Int32 × jM) :=
  bd (X6_fails n B29 s1_29 2) fun v30 M30 => if v30 = 0 then (if a2 = 7 then ((X6_rightIn n M30 a1).bind fun v66 => some (v66, M30)) else if a2 = 8 then ((X6_ofChute n M30 a1 7).bind fun v74 => some (v74, M30)) else if a2 = 9 then ((X6_onFor n M30 a1).bind fun v80 => some (v80, M30)) else (X6_ofChute n M30 a1 a2).bind fun v87 => some (v87, M30)) else (some (0, M30))
noncomputable def X6_chute (n : Nat) (M : jM) (a1 : Int32) (a2 : Int32) : Option (Int32 × jM) :=
  bd (X6_noChute n (mP M 7 0) a1) fun v7 M7 => if v7 = 0 then ((X6_inRange n M7 a2 0 9).bind fun v18 => if v18 = 0 then (X6_chute_j29 n a1 a2 1 M7) else (X6_chute_j29 n a1 a2 0 M7)) else (some (0, M7))
set_option maxHeartbeats 4000000 in
set_option maxRecDepth 100000 in
theorem ct_X6_chute (l : Launch) {G : jG} {mo : Nat} {A : Nat → Nat} (hm : mOK G mo A) (σ : jH) (n : Nat) (M : jM) (a1 : Int32) (a2 : Int32) : jCt l G yX6_chute (ws_ yX6_chute cX6_chute 3 (some .int)) 3 66 jrI [.ref mo, .int a1, .int a2] (mH mo A σ M) (mup mo A σ (X6_chute n M a1 a2)) := by
  refine jCt.wm (lv := [(0, .ref mo), (1, .int a1), (2, .int a2)]) (plainFor_of_name (by decide)) (Nat.le_of_ble_eq_true rfl) rfl ?_
  intro t p e s m args below meth c ls X hr hnm hl
  have X : jCx p c cX6_chute 3 s m args RX6 G meth := X
  have j29 : ∀ (s1_29 : Int32) (B29 : jM) (ls : Array Slot), lv_has ls 3 [(0, .ref mo), (1, .int a1), (2, .int a2)] → jGo l G 3 66 (mH mo A σ M) (fun r : Int32 × jM => mH mo A σ r.2) (fun t => jrI t.1) t p e s m args below meth c (X6_chute_j29 n a1 a2 s1_29 B29) (mH mo A σ B29) (F0 m 29 ls [.int s1_29, .ref mo]) := by
    intro s1_29 B29 ls hl
    unfold X6_chute_j29
    refine J.pu (fun _ _ _ _ k => lv_iconst (v := 2) X.1.1 X.1.2.1 dX6_chute_29 (by decide) k) ?_
    refine J.bd' (fun v30 M30 h30 => ?_)
    refine J.cV (q := (RX6, TX6, 26)) (ci := 5) (As := [.int s1_29, .int 2]) (rest := []) (s2 := [.int v30]) X ⟨rfl, rfl⟩ (ct_X6_fails l hm σ n B29 s1_29 2) (mup_of h30) (fun _ _ => cwV 2 X.1.2.2.2.2 (lw_V q3075 q3077 qs111 q174 q3078) rfl rfl rfl (by decide +kernel) ⟨(Nat.le_of_ble_eq_true rfl), (Nat.le_of_ble_eq_true rfl)⟩) mH_rc rfl rfl hl.1 rfl rfl (Nat.le_of_ble_eq_true rfl) dX6_chute_30 ?_
    refine J.br (fun _ _ _ _ ka kb => lv_if_eq (tgt := 38) X.1.1 X.1.2.1 dX6_chute_33 (by decide) ka kb) (fun c33 => ?_) (fun c33 => ?_)
    · refine J.pu (fun _ _ _ _ k => lv_iload_n X.1.1 X.1.2.1 dX6_chute_38 rfl (lv_at hl 2 rfl) k) ?_
      refine J.ite (fun c39_7 => ?_) (fun c39_7 => ?_)
      · refine J.pu (fun _ _ _ _ k => lv_tableIn (tgt := 64) (off := 25) X.1.1 X.1.2.1 dX6_chute_39 (by rw [c39_7]; decide) (by rw [c39_7]; decide) (by rw [c39_7]; decide) (by decide) k) ?_
        refine J.pu (fun _ _ _ _ k => lv_aload_n X.1.1 X.1.2.1 dX6_chute_64 rfl (lv_at hl 0 rfl) k) ?_
        refine J.pu (fun _ _ _ _ k => lv_iload_n X.1.1 X.1.2.1 dX6_chute_65 rfl (lv_at hl 1 rfl) k) ?_
        refine J.bind (fun v66 h66 => ?_)
        refine J.cV (q := (RX6, TX6, 26)) (ci := 5) (As := [.int a1]) (rest := []) (s2 := [.int v66]) X ⟨rfl, rfl⟩ (ct_X6_rightIn l hm σ n M30 a1) (jrd_of h66) (fun _ _ => cwV 1 X.1.2.2.2.2 (lw_V q3119 q3121 qs118 q174 q3122) rfl rfl rfl (by decide +kernel) ⟨(Nat.le_of_ble_eq_true rfl), (Nat.le_of_ble_eq_true rfl)⟩) mH_rc rfl rfl hl.1 rfl rfl (Nat.le_of_ble_eq_true rfl) dX6_chute_66 ?_
        exact J.iret (vr := fun t : Int32 × jM => jrI t.1) (fin := fun r : Int32 × jM => mH mo A σ r.2) (t := t) X hr (by rfl) (by rfl) dX6_chute_69
      refine J.ite (fun c39_8 => ?_) (fun c39_8 => ?_)
      · refine J.pu (fun _ _ _ _ k => lv_tableIn (tgt := 70) (off := 31) X.1.1 X.1.2.1 dX6_chute_39 (by rw [c39_8]; decide) (by rw [c39_8]; decide) (by rw [c39_8]; decide) (by decide) k) ?_
        refine J.pu (fun _ _ _ _ k => lv_aload_n X.1.1 X.1.2.1 dX6_chute_70 rfl (lv_at hl 0 rfl) k) ?_
        refine J.pu (fun _ _ _ _ k => lv_iload_n X.1.1 X.1.2.1 dX6_chute_71 rfl (lv_at hl 1 rfl) k) ?_
        refine J.pu (fun _ _ _ _ k => lv_bipush (v := 7) X.1.1 X.1.2.1 dX6_chute_72 (by decide) k) ?_
        refine J.bind (fun v74 h74 => ?_)
        refine J.cV (q := (RX6, TX6, 26)) (ci := 5) (As := [.int a1, .int 7]) (rest := []) (s2 := [.int v74]) X ⟨rfl, rfl⟩ (ct_X6_ofChute l hm σ n M30 a1 7) (jrd_of h74) (fun _ _ => cwV 2 X.1.2.2.2.2 (lw_V q2908 q2910 qs77 q174 q2911) rfl rfl rfl (by decide +kernel) ⟨(Nat.le_of_ble_eq_true rfl), (Nat.le_of_ble_eq_true rfl)⟩) mH_rc rfl rfl hl.1 rfl rfl (Nat.le_of_ble_eq_true rfl) dX6_chute_74 ?_
        exact J.iret (vr := fun t : Int32 × jM => jrI t.1) (fin := fun r : Int32 × jM => mH mo A σ r.2) (t := t) X hr (by rfl) (by rfl) dX6_chute_77
      refine J.ite (fun c39_9 => ?_) (fun c39_9 => ?_)
      · refine J.pu (fun _ _ _ _ k => lv_tableIn (tgt := 78) (off := 39) X.1.1 X.1.2.1 dX6_chute_39 (by rw [c39_9]; decide) (by rw [c39_9]; decide) (by rw [c39_9]; decide) (by decide) k) ?_
        refine J.pu (fun _ _ _ _ k => lv_aload_n X.1.1 X.1.2.1 dX6_chute_78 rfl (lv_at hl 0 rfl) k) ?_
        refine J.pu (fun _ _ _ _ k => lv_iload_n X.1.1 X.1.2.1 dX6_chute_79 rfl (lv_at hl 1 rfl) k) ?_
        refine J.bind (fun v80 h80 => ?_)
        refine J.cV (q := (RX6, TX6, 26)) (ci := 5) (As := [.int a1]) (rest := []) (s2 := [.int v80]) X ⟨rfl, rfl⟩ (ct_X6_onFor l hm σ n M30 a1) (jrd_of h80) (fun _ _ => cwV 1 X.1.2.2.2.2 (lw_V q3123 q3125 qs119 q174 q3126) rfl rfl rfl (by decide +kernel) ⟨(Nat.le_of_ble_eq_true rfl), (Nat.le_of_ble_eq_true rfl)⟩) mH_rc rfl rfl hl.1 rfl rfl (Nat.le_of_ble_eq_true rfl) dX6_chute_80 ?_
        exact J.iret (vr := fun t : Int32 × jM => jrI t.1) (fin := fun r : Int32 × jM => mH mo A σ r.2) (t := t) X hr (by rfl) (by rfl) dX6_chute_83
      by_cases b39 : a2.toInt < 7 ∨ 9 < a2.toInt
      · refine J.pu (fun _ _ _ _ k => lv_tableOut (tgt := 84) X.1.1 X.1.2.1 dX6_chute_39 b39 (by decide) k) ?_
        refine J.pu (fun _ _ _ _ k => lv_aload_n X.1.1 X.1.2.1 dX6_chute_84 rfl (lv_at hl 0 rfl) k) ?_
        refine J.pu (fun _ _ _ _ k => lv_iload_n X.1.1 X.1.2.1 dX6_chute_85 rfl (lv_at hl 1 rfl) k) ?_
        refine J.pu (fun _ _ _ _ k => lv_iload_n X.1.1 X.1.2.1 dX6_chute_86 rfl (lv_at hl 2 rfl) k) ?_
        refine J.bind (fun v87 h87 => ?_)
        refine J.cV (q := (RX6, TX6, 26)) (ci := 5) (As := [.int a1, .int a2]) (rest := []) (s2 := [.int v87]) X ⟨rfl, rfl⟩ (ct_X6_ofChute l hm σ n M30 a1 a2) (jrd_of h87) (fun _ _ => cwV 2 X.1.2.2.2.2 (lw_V q2908 q2910 qs77 q174 q2911) rfl rfl rfl (by decide +kernel) ⟨(Nat.le_of_ble_eq_true rfl), (Nat.le_of_ble_eq_true rfl)⟩) mH_rc rfl rfl hl.1 rfl rfl (Nat.le_of_ble_eq_true rfl) dX6_chute_87 ?_
        exact J.iret (vr := fun t : Int32 × jM => jrI t.1) (fin := fun r : Int32 × jM => mH mo A σ r.2) (t := t) X hr (by rfl) (by rfl) dX6_chute_90
      · exfalso; have := lv_neT c39_7 (a := 7) rfl; have := lv_neT c39_8 (a := 8) rfl; have := lv_neT c39_9 (a := 9) rfl; omega
    · refine J.pu (fun _ _ _ _ k => lv_iconst (v := 0) X.1.1 X.1.2.1 dX6_chute_36 (by decide) k) ?_
      exact J.iret (vr := fun t : Int32 × jM => jrI t.1) (fin := fun r : Int32 × jM => mH mo A σ r.2) (t := t) X hr (by rfl) (by rfl) dX6_chute_37
  unfold X6_chute
  refine J.pu (fun _ _ _ _ k => lv_aload_n X.1.1 X.1.2.1 dX6_chute_0 rfl (lv_at hl 0 rfl) k) ?_
  refine J.pu (fun _ _ _ _ k => lv_iconst (v := 0) X.1.1 X.1.2.1 dX6_chute_1 (by decide) k) ?_
  refine J.mpS (k := 7) X hm (by decide) q2737 rfl rfl rfl dX6_chute_2 ?_
  refine J.pu (fun _ _ _ _ k => lv_aload_n X.1.1 X.1.2.1 dX6_chute_5 rfl (lv_at hl 0 rfl) k) ?_
  refine J.pu (fun _ _ _ _ k => lv_iload_n X.1.1 X.1.2.1 dX6_chute_6 rfl (lv_at hl 1 rfl) k) ?_
  refine J.bd' (fun v7 M7 h7 => ?_)
  refine J.cV (q := (RX6, TX6, 26)) (ci := 5) (As := [.int a1]) (rest := []) (s2 := [.int v7]) X ⟨rfl, rfl⟩ (ct_X6_noChute l hm σ n (mP M 7 0) a1) (mup_of h7) (fun _ _ => cwV 1 X.1.2.2.2.2 (lw_V q3115 q3117 qs117 q174 q3118) rfl rfl rfl (by decide +kernel) ⟨(Nat.le_of_ble_eq_true rfl), (Nat.le_of_ble_eq_true rfl)⟩) mH_rc rfl rfl hl.1 rfl rfl (Nat.le_of_ble_eq_true rfl) dX6_chute_7 ?_
  refine J.br (fun _ _ _ _ ka kb => lv_if_ne (tgt := 36) X.1.1 X.1.2.1 dX6_chute_10 (by decide) kb ka) (fun c10 => ?_) (fun c10 => ?_)
  · refine J.pu (fun _ _ _ _ k => lv_aload_n X.1.1 X.1.2.1 dX6_chute_13 rfl (lv_at hl 0 rfl) k) ?_
    refine J.pu (fun _ _ _ _ k => lv_iload_n X.1.1 X.1.2.1 dX6_chute_14 rfl (lv_at hl 2 rfl) k) ?_
    refine J.pu (fun _ _ _ _ k => lv_iconst (v := 0) X.1.1 X.1.2.1 dX6_chute_15 (by decide) k) ?_
    refine J.pu (fun _ _ _ _ k => lv_bipush (v := 9) X.1.1 X.1.2.1 dX6_chute_16 (by decide) k) ?_
    refine J.bind (fun v18 h18 => ?_)
    refine J.cS (As := [.int a2, .int 0, .int 9]) (rest := [.ref mo]) (s2 := [.int v18, .ref mo]) X ⟨rfl, rfl⟩ (ct_X6_inRange l hm σ n M7 a2 0 9) (jrd_of h18) (fun _ _ => va_cwS 3 X.1.2.2.2.2 (lw_S q2825 q2826 q174 q2827) rfl rfl rfl (by decide +kernel) ⟨(Nat.le_of_ble_eq_true rfl), (Nat.le_of_ble_eq_true rfl)⟩) rfl hl.1 rfl rfl (Nat.le_of_ble_eq_true rfl) dX6_chute_18 ?_
    refine J.br (fun _ _ _ _ ka kb => lv_if_ne (tgt := 28) X.1.1 X.1.2.1 dX6_chute_21 (by decide) kb ka) (fun c21 => ?_) (fun c21 => ?_)
    · refine J.pu (fun _ _ _ _ k => lv_iconst (v := 1) X.1.1 X.1.2.1 dX6_chute_24 (by decide) k) ?_
      refine J.pu (fun _ _ _ _ k => lv_goto (tgt := 29) X.1.1 X.1.2.1 dX6_chute_25 (by decide) k) ?_
      exact j29 1 M7 ls (lv_sub hl [0, 1, 2] rfl)
    · refine J.pu (fun _ _ _ _ k => lv_iconst (v := 0) X.1.1 X.1.2.1 dX6_chute_28 (by decide) k) ?_
      exact j29 0 M7 ls (lv_sub hl [0, 1, 2] rfl)
  · refine J.pu (fun _ _ _ _ k => lv_iconst (v := 0) X.1.1 X.1.2.1 dX6_chute_36 (by decide) k) ?_
    exact J.iret (vr := fun t : Int32 × jM => jrI t.1) (fin := fun r : Int32 × jM => mH mo A σ r.2) (t := t) X hr (by rfl) (by rfl) dX6_chute_37
noncomputable def X6_held (n : Nat) (M : jM) (a1 : Int32) (a2 : Int32) : Option (Int32 × jM) :=
  bd (X6_noChute n (mP M 7 0) a1) fun v7 M7 => if v7 = 0 then ((X6_ofChute n M7 a1 6).bind fun v21 => (X6_inRange n M7 a2 0 (v21 - 1)).bind fun v26 => if v26 = 0 then (some ((-1), M7)) else ((X6_ofChute n M7 a1 (8 + a2)).bind fun v38 => some (v38, M7))) else (some (0, M7))
set_option maxHeartbeats 4000000 in
set_option maxRecDepth 100000 in
theorem ct_X6_held (l : Launch) {G : jG} {mo : Nat} {A : Nat → Nat} (hm : mOK G mo A) (σ : jH) (n : Nat) (M : jM) (a1 : Int32) (a2 : Int32) : jCt l G yX6_held (ws_ yX6_held cX6_held 3 (some .int)) 2 43 jrI [.ref mo, .int a1, .int a2] (mH mo A σ M) (mup mo A σ (X6_held n M a1 a2)) := by
  refine jCt.wm (lv := [(0, .ref mo), (1, .int a1), (2, .int a2)]) (plainFor_of_name (by decide)) (Nat.le_of_ble_eq_true rfl) rfl ?_
  intro t p e s m args below meth c ls X hr hnm hl
  have X : jCx p c cX6_held 3 s m args RX6 G meth := X
  unfold X6_held
  refine J.pu (fun _ _ _ _ k => lv_aload_n X.1.1 X.1.2.1 dX6_held_0 rfl (lv_at hl 0 rfl) k) ?_
  refine J.pu (fun _ _ _ _ k => lv_iconst (v := 0) X.1.1 X.1.2.1 dX6_held_1 (by decide) k) ?_
  refine J.mpS (k := 7) X hm (by decide) q2737 rfl rfl rfl dX6_held_2 ?_
  refine J.pu (fun _ _ _ _ k => lv_aload_n X.1.1 X.1.2.1 dX6_held_5 rfl (lv_at hl 0 rfl) k) ?_
  refine J.pu (fun _ _ _ _ k => lv_iload_n X.1.1 X.1.2.1 dX6_held_6 rfl (lv_at hl 1 rfl) k) ?_
  refine J.bd' (fun v7 M7 h7 => ?_)
  refine J.cV (q := (RX6, TX6, 26)) (ci := 5) (As := [.int a1]) (rest := []) (s2 := [.int v7]) X ⟨rfl, rfl⟩ (ct_X6_noChute l hm σ n (mP M 7 0) a1) (mup_of h7) (fun _ _ => cwV 1 X.1.2.2.2.2 (lw_V q3115 q3117 qs117 q174 q3118) rfl rfl rfl (by decide +kernel) ⟨(Nat.le_of_ble_eq_true rfl), (Nat.le_of_ble_eq_true rfl)⟩) mH_rc rfl rfl hl.1 rfl rfl (Nat.le_of_ble_eq_true rfl) dX6_held_7 ?_
  refine J.br (fun _ _ _ _ ka kb => lv_if_eq (tgt := 15) X.1.1 X.1.2.1 dX6_held_10 (by decide) ka kb) (fun c10 => ?_) (fun c10 => ?_)
  · refine J.pu (fun _ _ _ _ k => lv_iload_n X.1.1 X.1.2.1 dX6_held_15 rfl (lv_at hl 2 rfl) k) ?_
    refine J.pu (fun _ _ _ _ k => lv_iconst (v := 0) X.1.1 X.1.2.1 dX6_held_16 (by decide) k) ?_
    refine J.pu (fun _ _ _ _ k => lv_aload_n X.1.1 X.1.2.1 dX6_held_17 rfl (lv_at hl 0 rfl) k) ?_
    refine J.pu (fun _ _ _ _ k => lv_iload_n X.1.1 X.1.2.1 dX6_held_18 rfl (lv_at hl 1 rfl) k) ?_
    refine J.pu (fun _ _ _ _ k => lv_bipush (v := 6) X.1.1 X.1.2.1 dX6_held_19 (by decide) k) ?_
    refine J.bind (fun v21 h21 => ?_)
    refine J.cV (q := (RX6, TX6, 26)) (ci := 5) (As := [.int a1, .int 6]) (rest := [.int 0, .int a2]) (s2 := [.int v21, .int 0, .int a2]) X ⟨rfl, rfl⟩ (ct_X6_ofChute l hm σ n M7 a1 6) (jrd_of h21) (fun _ _ => cwV 2 X.1.2.2.2.2 (lw_V q2908 q2910 qs77 q174 q2911) rfl rfl rfl (by decide +kernel) ⟨(Nat.le_of_ble_eq_true rfl), (Nat.le_of_ble_eq_true rfl)⟩) mH_rc rfl rfl hl.1 rfl rfl (Nat.le_of_ble_eq_true rfl) dX6_held_21 ?_
    refine J.pu (fun _ _ _ _ k => lv_iconst (v := 1) X.1.1 X.1.2.1 dX6_held_24 (by decide) k) ?_
    refine J.pu (fun _ _ _ _ k => lv_isub X.1.1 X.1.2.1 dX6_held_25 k) ?_
    refine J.bind (fun v26 h26 => ?_)
    refine J.cS (As := [.int a2, .int 0, .int (v21 - 1)]) (rest := []) (s2 := [.int v26]) X ⟨rfl, rfl⟩ (ct_X6_inRange l hm σ n M7 a2 0 (v21 - 1)) (jrd_of h26) (fun _ _ => va_cwS 3 X.1.2.2.2.2 (lw_S q2825 q2826 q174 q2827) rfl rfl rfl (by decide +kernel) ⟨(Nat.le_of_ble_eq_true rfl), (Nat.le_of_ble_eq_true rfl)⟩) rfl hl.1 rfl rfl (Nat.le_of_ble_eq_true rfl) dX6_held_26 ?_
    refine J.br (fun _ _ _ _ ka kb => lv_if_eq (tgt := 44) X.1.1 X.1.2.1 dX6_held_29 (by decide) ka kb) (fun c29 => ?_) (fun c29 => ?_)
    · refine J.pu (fun _ _ _ _ k => lv_iconst (v := (-1)) X.1.1 X.1.2.1 dX6_held_44 (by decide) k) ?_
      exact J.iret (vr := fun t : Int32 × jM => jrI t.1) (fin := fun r : Int32 × jM => mH mo A σ r.2) (t := t) X hr (by rfl) (by rfl) dX6_held_45
    · refine J.pu (fun _ _ _ _ k => lv_aload_n X.1.1 X.1.2.1 dX6_held_32 rfl (lv_at hl 0 rfl) k) ?_
      refine J.pu (fun _ _ _ _ k => lv_iload_n X.1.1 X.1.2.1 dX6_held_33 rfl (lv_at hl 1 rfl) k) ?_
      refine J.pu (fun _ _ _ _ k => lv_bipush (v := 8) X.1.1 X.1.2.1 dX6_held_34 (by decide) k) ?_
      refine J.pu (fun _ _ _ _ k => lv_iload_n X.1.1 X.1.2.1 dX6_held_36 rfl (lv_at hl 2 rfl) k) ?_
      refine J.pu (fun _ _ _ _ k => lv_iadd X.1.1 X.1.2.1 dX6_held_37 k) ?_
      refine J.bind (fun v38 h38 => ?_)
      refine J.cV (q := (RX6, TX6, 26)) (ci := 5) (As := [.int a1, .int (8 + a2)]) (rest := []) (s2 := [.int v38]) X ⟨rfl, rfl⟩ (ct_X6_ofChute l hm σ n M7 a1 (8 + a2)) (jrd_of h38) (fun _ _ => cwV 2 X.1.2.2.2.2 (lw_V q2908 q2910 qs77 q174 q2911) rfl rfl rfl (by decide +kernel) ⟨(Nat.le_of_ble_eq_true rfl), (Nat.le_of_ble_eq_true rfl)⟩) mH_rc rfl rfl hl.1 rfl rfl (Nat.le_of_ble_eq_true rfl) dX6_held_38 ?_
      refine J.pu (fun _ _ _ _ k => lv_goto (tgt := 45) X.1.1 X.1.2.1 dX6_held_41 (by decide) k) ?_
      exact J.iret (vr := fun t : Int32 × jM => jrI t.1) (fin := fun r : Int32 × jM => mH mo A σ r.2) (t := t) X hr (by rfl) (by rfl) dX6_held_45
  · refine J.pu (fun _ _ _ _ k => lv_iconst (v := 0) X.1.1 X.1.2.1 dX6_held_13 (by decide) k) ?_
    exact J.iret (vr := fun t : Int32 × jM => jrI t.1) (fin := fun r : Int32 × jM => mH mo A σ r.2) (t := t) X hr (by rfl) (by rfl) dX6_held_14
noncomputable def X6_steps (n : Nat) (M : jM) (a1 : Int32) (a2 : Int32) : Option (Int32 × jM) :=
  bd (X6_noCell n (mP M 7 0) a1) fun v7 M7 => if v7 = 0 then (bd (X6_noCell n M7 a2) fun v15 M15 => if v15 = 0 then ((X6_stepsFrom n M15 a1 a2).bind fun v28 => some (v28, M15)) else (some (0, M15))) else (some (0, M7))
set_option maxHeartbeats 4000000 in
set_option maxRecDepth 100000 in
theorem ct_X6_steps (l : Launch) {G : jG} {mo : Nat} {A : Nat → Nat} (hm : mOK G mo A) (σ : jH) (n : Nat) (M : jM) (a1 : Int32) (a2 : Int32) : jCt l G yX6_steps (ws_ yX6_steps cX6_steps 3 (some .int)) 2 44 jrI [.ref mo, .int a1, .int a2] (mH mo A σ M) (mup mo A σ (X6_steps n M a1 a2)) := by
  refine jCt.wm (lv := [(0, .ref mo), (1, .int a1), (2, .int a2)]) (plainFor_of_name (by decide)) (Nat.le_of_ble_eq_true rfl) rfl ?_
  intro t p e s m args below meth c ls X hr hnm hl
  have X : jCx p c cX6_steps 3 s m args RX6 G meth := X
  unfold X6_steps
  refine J.pu (fun _ _ _ _ k => lv_aload_n X.1.1 X.1.2.1 dX6_steps_0 rfl (lv_at hl 0 rfl) k) ?_
  refine J.pu (fun _ _ _ _ k => lv_iconst (v := 0) X.1.1 X.1.2.1 dX6_steps_1 (by decide) k) ?_
  refine J.mpS (k := 7) X hm (by decide) q2737 rfl rfl rfl dX6_steps_2 ?_
  refine J.pu (fun _ _ _ _ k => lv_aload_n X.1.1 X.1.2.1 dX6_steps_5 rfl (lv_at hl 0 rfl) k) ?_
  refine J.pu (fun _ _ _ _ k => lv_iload_n X.1.1 X.1.2.1 dX6_steps_6 rfl (lv_at hl 1 rfl) k) ?_
  refine J.bd' (fun v7 M7 h7 => ?_)
  refine J.cV (q := (RX6, TX6, 26)) (ci := 5) (As := [.int a1]) (rest := []) (s2 := [.int v7]) X ⟨rfl, rfl⟩ (ct_X6_noCell l hm σ n (mP M 7 0) a1) (mup_of h7) (fun _ _ => cwV 1 X.1.2.2.2.2 (lw_V q3095 q3097 qs114 q174 q3098) rfl rfl rfl (by decide +kernel) ⟨(Nat.le_of_ble_eq_true rfl), (Nat.le_of_ble_eq_true rfl)⟩) mH_rc rfl rfl hl.1 rfl rfl (Nat.le_of_ble_eq_true rfl) dX6_steps_7 ?_
  refine J.br (fun _ _ _ _ ka kb => lv_if_ne (tgt := 21) X.1.1 X.1.2.1 dX6_steps_10 (by decide) kb ka) (fun c10 => ?_) (fun c10 => ?_)
  · refine J.pu (fun _ _ _ _ k => lv_aload_n X.1.1 X.1.2.1 dX6_steps_13 rfl (lv_at hl 0 rfl) k) ?_
    refine J.pu (fun _ _ _ _ k => lv_iload_n X.1.1 X.1.2.1 dX6_steps_14 rfl (lv_at hl 2 rfl) k) ?_
    refine J.bd' (fun v15 M15 h15 => ?_)
    refine J.cV (q := (RX6, TX6, 26)) (ci := 5) (As := [.int a2]) (rest := []) (s2 := [.int v15]) X ⟨rfl, rfl⟩ (ct_X6_noCell l hm σ n M7 a2) (mup_of h15) (fun _ _ => cwV 1 X.1.2.2.2.2 (lw_V q3095 q3097 qs114 q174 q3098) rfl rfl rfl (by decide +kernel) ⟨(Nat.le_of_ble_eq_true rfl), (Nat.le_of_ble_eq_true rfl)⟩) mH_rc rfl rfl hl.1 rfl rfl (Nat.le_of_ble_eq_true rfl) dX6_steps_15 ?_
    refine J.br (fun _ _ _ _ ka kb => lv_if_eq (tgt := 25) X.1.1 X.1.2.1 dX6_steps_18 (by decide) ka kb) (fun c18 => ?_) (fun c18 => ?_)
    · refine J.pu (fun _ _ _ _ k => lv_aload_n X.1.1 X.1.2.1 dX6_steps_25 rfl (lv_at hl 0 rfl) k) ?_
      refine J.pu (fun _ _ _ _ k => lv_iload_n X.1.1 X.1.2.1 dX6_steps_26 rfl (lv_at hl 1 rfl) k) ?_
      refine J.pu (fun _ _ _ _ k => lv_iload_n X.1.1 X.1.2.1 dX6_steps_27 rfl (lv_at hl 2 rfl) k) ?_
      refine J.bind (fun v28 h28 => ?_)
      refine J.cV (q := (RX6, TX6, 26)) (ci := 5) (As := [.int a1, .int a2]) (rest := []) (s2 := [.int v28]) X ⟨rfl, rfl⟩ (ct_X6_stepsFrom l hm σ n M15 a1 a2) (jrd_of h28) (fun _ _ => cwV 2 X.1.2.2.2.2 (lw_V q3012 q3014 qs99 q174 q3015) rfl rfl rfl (by decide +kernel) ⟨(Nat.le_of_ble_eq_true rfl), (Nat.le_of_ble_eq_true rfl)⟩) mH_rc rfl rfl hl.1 rfl rfl (Nat.le_of_ble_eq_true rfl) dX6_steps_28 ?_
      exact J.iret (vr := fun t : Int32 × jM => jrI t.1) (fin := fun r : Int32 × jM => mH mo A σ r.2) (t := t) X hr (by rfl) (by rfl) dX6_steps_31
    · refine J.pu (fun _ _ _ _ k => lv_iconst (v := 0) X.1.1 X.1.2.1 dX6_steps_21 (by decide) k) ?_
      refine J.pu (fun _ _ _ _ k => lv_goto (tgt := 31) X.1.1 X.1.2.1 dX6_steps_22 (by decide) k) ?_
      exact J.iret (vr := fun t : Int32 × jM => jrI t.1) (fin := fun r : Int32 × jM => mH mo A σ r.2) (t := t) X hr (by rfl) (by rfl) dX6_steps_31
  · refine J.pu (fun _ _ _ _ k => lv_iconst (v := 0) X.1.1 X.1.2.1 dX6_steps_21 (by decide) k) ?_
    refine J.pu (fun _ _ _ _ k => lv_goto (tgt := 31) X.1.1 X.1.2.1 dX6_steps_22 (by decide) k) ?_
    exact J.iret (vr := fun t : Int32 × jM => jrI t.1) (fin := fun r : Int32 × jM => mH mo A σ r.2) (t := t) X hr (by rfl) (by rfl) dX6_steps_31
noncomputable def X6_ahead (n : Nat) (M : jM) (a1 : Int32) (a2 : Int32) : Option (Int32) :=
  (X6_stepsFrom n M a1 a2).bind fun v3 => if v3 = 0 then ((mA M 0 0).bind fun v16 => some v16) else (some v3)
set_option maxHeartbeats 4000000 in
set_option maxRecDepth 100000 in
theorem ct_X6_ahead (l : Launch) {G : jG} {mo : Nat} {A : Nat → Nat} (hm : mOK G mo A) (σ : jH) (n : Nat) (M : jM) (a1 : Int32) (a2 : Int32) : jCt l G yX6_ahead (ws_ yX6_ahead cX6_ahead 4 (some .int)) 2 44 jrI [.ref mo, .int a1, .int a2] (mH mo A σ M) (jrd (mH mo A σ M) (X6_ahead n M a1 a2)) := by
  refine jCt.rd (lv := [(0, .ref mo), (1, .int a1), (2, .int a2)]) (plainFor_of_name (by decide)) (Nat.le_of_ble_eq_true rfl) rfl ?_
  intro t p e s m args below meth c ls X hr hnm hl
  have X : jCx p c cX6_ahead 4 s m args RX6 G meth := X
  unfold X6_ahead
  refine J.pu (fun _ _ _ _ k => lv_aload_n X.1.1 X.1.2.1 dX6_ahead_0 rfl (lv_at hl 0 rfl) k) ?_
  refine J.pu (fun _ _ _ _ k => lv_iload_n X.1.1 X.1.2.1 dX6_ahead_1 rfl (lv_at hl 1 rfl) k) ?_
  refine J.pu (fun _ _ _ _ k => lv_iload_n X.1.1 X.1.2.1 dX6_ahead_2 rfl (lv_at hl 2 rfl) k) ?_
  refine J.bind (fun v3 h3 => ?_)
  refine J.cV (q := (RX6, TX6, 26)) (ci := 5) (As := [.int a1, .int a2]) (rest := []) (s2 := [.int v3]) X ⟨rfl, rfl⟩ (ct_X6_stepsFrom l hm σ n M a1 a2) (jrd_of h3) (fun _ _ => cwV 2 X.1.2.2.2.2 (lw_V q3012 q3014 qs99 q174 q3015) rfl rfl rfl (by decide +kernel) ⟨(Nat.le_of_ble_eq_true rfl), (Nat.le_of_ble_eq_true rfl)⟩) mH_rc rfl rfl hl.1 rfl rfl (Nat.le_of_ble_eq_true rfl) dX6_ahead_3 ?_
  refine J.istore_n (i := 3) (lv' := [(3, .int v3), (0, .ref mo), (1, .int a1), (2, .int a2)]) X.1.1 X.1.2.1 dX6_ahead_6 rfl hl (by decide) (by first | rfl | simp [va_rf_cat, jcI, jcA, jcJ, jcD, jcF]) (fun ls hl => ?_)
  refine J.pu (fun _ _ _ _ k => lv_iload_n X.1.1 X.1.2.1 dX6_ahead_7 rfl (lv_at hl 0 rfl) k) ?_
  refine J.br (fun _ _ _ _ ka kb => lv_if_ne (tgt := 20) X.1.1 X.1.2.1 dX6_ahead_8 (by decide) kb ka) (fun c8 => ?_) (fun c8 => ?_)
  · refine J.pu (fun _ _ _ _ k => lv_aload_n X.1.1 X.1.2.1 dX6_ahead_11 rfl (lv_at hl 1 rfl) k) ?_
    refine J.mgA (k := 0) X (by decide) q2730 rfl rfl dX6_ahead_12 ?_
    refine J.pu (fun _ _ _ _ k => lv_iconst (v := 0) X.1.1 X.1.2.1 dX6_ahead_15 (by decide) k) ?_
    refine J.mld X hm (by decide) dX6_ahead_16 (fun v16 h16 => ?_)
    refine J.pu (fun _ _ _ _ k => lv_goto (tgt := 21) X.1.1 X.1.2.1 dX6_ahead_17 (by decide) k) ?_
    exact J.iret (vr := jrI) (fin := fun _ : Int32 => (mH mo A σ M)) (t := t) X hr (by rfl) (by rfl) dX6_ahead_21
  · refine J.pu (fun _ _ _ _ k => lv_iload_n X.1.1 X.1.2.1 dX6_ahead_20 rfl (lv_at hl 0 rfl) k) ?_
    exact J.iret (vr := jrI) (fin := fun _ : Int32 => (mH mo A σ M)) (t := t) X hr (by rfl) (by rfl) dX6_ahead_21
noncomputable def X6_scannerIn_j51 (n : Nat) (M : jM) (a1 : Int32) (rec4 : Int32 × Int32 → Option (Int32)) (x3_51 : Int32) (s0_51 : Int32) : Option (Int32) :=
  rec4 (s0_51, (x3_51 + 1))
noncomputable def X6_scannerIn_h4 (n : Nat) (M : jM) (a1 : Int32) (rec4 : Int32 × Int32 → Option (Int32)) (q4 : Int32 × Int32) : Option (Int32) :=
  let x2_4 := q4.1; let x3_4 := q4.2; (mA M 0 2).bind fun v10 => if v10 ≤ x3_4 then (some x2_4) else ((X6_of n M a1 4).bind fun v18 => (mA M 0 (19 + x3_4)).bind fun v29 => (X6_ahead n M v18 v29).bind fun v30 => if x2_4 = (-1) then (X6_scannerIn_j51 n M a1 rec4 x3_4 v30) else ((J12_min n x2_4 v30).bind fun v48 => X6_scannerIn_j51 n M a1 rec4 x3_4 v48))
noncomputable def X6_scannerIn (n : Nat) (M : jM) (a1 : Int32) : Option (Int32) :=
  jloop (X6_scannerIn_h4 n M a1) n ((-1), 0)
set_option maxHeartbeats 4000000 in
set_option maxRecDepth 100000 in
theorem ct_X6_scannerIn (l : Launch) {G : jG} {mo : Nat} {A : Nat → Nat} (hm : mOK G mo A) (σ : jH) (n : Nat) (M : jM) (a1 : Int32) : jCt l G yX6_scannerIn (ws_ yX6_scannerIn cX6_scannerIn 5 (some .int)) 3 67 jrI [.ref mo, .int a1] (mH mo A σ M) (jrd (mH mo A σ M) (X6_scannerIn n M a1)) := by
  refine jCt.rd (lv := [(0, .ref mo), (1, .int a1)]) (plainFor_of_name (by decide)) (Nat.le_of_ble_eq_true rfl) rfl ?_
  intro t p e s m args below meth c ls X hr hnm hl
  have X : jCx p c cX6_scannerIn 5 s m args RX6 G meth := X
  have L4 : ∀ (n4 : Nat) (x2_4 : Int32) (x3_4 : Int32) (ls : Array Slot), lv_has ls 5 [(0, .ref mo), (1, .int a1), (2, .int x2_4), (3, .int x3_4)] → jGo l G 3 67 (mH mo A σ M) (fun _ : Int32 => (mH mo A σ M)) jrI t p e s m args below meth c (jloop (X6_scannerIn_h4 n M a1) n4 (x2_4, x3_4)) (mH mo A σ M) (F0 m 4 ls []) := by
    intro n4
    induction n4 with
    | zero => intro x2_4 x3_4 ls hl; exact J.nil_
    | succ n4 ih4 =>
      have j51 : ∀ (x3_51 : Int32) (s0_51 : Int32) (ls : Array Slot), lv_has ls 5 [(0, .ref mo), (1, .int a1), (3, .int x3_51)] → jGo l G 3 67 (mH mo A σ M) (fun _ : Int32 => (mH mo A σ M)) jrI t p e s m args below meth c (X6_scannerIn_j51 n M a1 (jloop (X6_scannerIn_h4 n M a1) n4) x3_51 s0_51) (mH mo A σ M) (F0 m 51 ls [.int s0_51]) := by
        intro x3_51 s0_51 ls hl
        unfold X6_scannerIn_j51
        refine J.istore_n (i := 2) (lv' := [(2, .int s0_51), (0, .ref mo), (1, .int a1), (3, .int x3_51)]) X.1.1 X.1.2.1 dX6_scannerIn_51 rfl hl (by decide) (by first | rfl | simp [va_rf_cat, jcI, jcA, jcJ, jcD, jcF]) (fun ls hl => ?_)
        refine J.iinc (k := 3) (lv' := [(3, .int (x3_51 + 1)), (2, .int s0_51), (0, .ref mo), (1, .int a1)]) (w := (x3_51 + 1)) X.1.1 X.1.2.1 dX6_scannerIn_52 hl rfl rfl (by decide) (by first | rfl | simp [va_rf_cat, jcI, jcA, jcJ, jcD, jcF]) (fun ls hl => ?_)
        refine J.pu (fun _ _ _ _ k => lv_goto (tgt := 4) X.1.1 X.1.2.1 dX6_scannerIn_55 (by decide) k) ?_
        exact ih4 s0_51 (x3_51 + 1) ls (lv_sub hl [2, 3, 1, 0] rfl)
      intro x2_4 x3_4 ls hl
      refine J.eq (jloop_s _ _ _) ?_
      dsimp only [X6_scannerIn_h4]
      refine J.pu (fun _ _ _ _ k => lv_iload_n X.1.1 X.1.2.1 dX6_scannerIn_4 rfl (lv_at hl 3 rfl) k) ?_
      refine J.pu (fun _ _ _ _ k => lv_aload_n X.1.1 X.1.2.1 dX6_scannerIn_5 rfl (lv_at hl 0 rfl) k) ?_
      refine J.mgA (k := 0) X (by decide) q2730 rfl rfl dX6_scannerIn_6 ?_
      refine J.pu (fun _ _ _ _ k => lv_iconst (v := 2) X.1.1 X.1.2.1 dX6_scannerIn_9 (by decide) k) ?_
      refine J.mld X hm (by decide) dX6_scannerIn_10 (fun v10 h10 => ?_)
      refine J.br (fun _ _ _ _ ka kb => lv_icmp_ge (tgt := 58) X.1.1 X.1.2.1 dX6_scannerIn_11 (by decide) ka kb) (fun c11 => ?_) (fun c11 => ?_)
      · refine J.pu (fun _ _ _ _ k => lv_iload_n X.1.1 X.1.2.1 dX6_scannerIn_58 rfl (lv_at hl 2 rfl) k) ?_
        exact J.iret (vr := jrI) (fin := fun _ : Int32 => (mH mo A σ M)) (t := t) X hr (by rfl) (by rfl) dX6_scannerIn_59
      · refine J.pu (fun _ _ _ _ k => lv_aload_n X.1.1 X.1.2.1 dX6_scannerIn_14 rfl (lv_at hl 0 rfl) k) ?_
        refine J.pu (fun _ _ _ _ k => lv_aload_n X.1.1 X.1.2.1 dX6_scannerIn_15 rfl (lv_at hl 0 rfl) k) ?_
        refine J.pu (fun _ _ _ _ k => lv_iload_n X.1.1 X.1.2.1 dX6_scannerIn_16 rfl (lv_at hl 1 rfl) k) ?_
        refine J.pu (fun _ _ _ _ k => lv_iconst (v := 4) X.1.1 X.1.2.1 dX6_scannerIn_17 (by decide) k) ?_
        refine J.bind (fun v18 h18 => ?_)
        refine J.cV (q := (RX6, TX6, 26)) (ci := 5) (As := [.int a1, .int 4]) (rest := [.ref mo]) (s2 := [.int v18, .ref mo]) X ⟨rfl, rfl⟩ (ct_X6_of l hm σ n M a1 4) (jrd_of h18) (fun _ _ => cwV 2 X.1.2.2.2.2 (lw_V q2964 q2966 qs88 q174 q2967) rfl rfl rfl (by decide +kernel) ⟨(Nat.le_of_ble_eq_true rfl), (Nat.le_of_ble_eq_true rfl)⟩) mH_rc rfl rfl hl.1 rfl rfl (Nat.le_of_ble_eq_true rfl) dX6_scannerIn_18 ?_
        refine J.pu (fun _ _ _ _ k => lv_aload_n X.1.1 X.1.2.1 dX6_scannerIn_21 rfl (lv_at hl 0 rfl) k) ?_
        refine J.mgA (k := 0) X (by decide) q2730 rfl rfl dX6_scannerIn_22 ?_
        refine J.pu (fun _ _ _ _ k => lv_bipush (v := 19) X.1.1 X.1.2.1 dX6_scannerIn_25 (by decide) k) ?_
        refine J.pu (fun _ _ _ _ k => lv_iload_n X.1.1 X.1.2.1 dX6_scannerIn_27 rfl (lv_at hl 3 rfl) k) ?_
        refine J.pu (fun _ _ _ _ k => lv_iadd X.1.1 X.1.2.1 dX6_scannerIn_28 k) ?_
        refine J.mld X hm (by decide) dX6_scannerIn_29 (fun v29 h29 => ?_)
        refine J.bind (fun v30 h30 => ?_)
        refine J.cV (q := (RX6, TX6, 26)) (ci := 5) (As := [.int v18, .int v29]) (rest := []) (s2 := [.int v30]) X ⟨rfl, rfl⟩ (ct_X6_ahead l hm σ n M v18 v29) (jrd_of h30) (fun _ _ => cwV 2 X.1.2.2.2.2 (lw_V q3143 q3145 qs121 q174 q3146) rfl rfl rfl (by decide +kernel) ⟨(Nat.le_of_ble_eq_true rfl), (Nat.le_of_ble_eq_true rfl)⟩) mH_rc rfl rfl hl.1 rfl rfl (Nat.le_of_ble_eq_true rfl) dX6_scannerIn_30 ?_
        refine J.istore (lv' := [(4, .int v30), (0, .ref mo), (1, .int a1), (2, .int x2_4), (3, .int x3_4)]) X.1.1 X.1.2.1 dX6_scannerIn_33 hl (by decide) (by first | rfl | simp [va_rf_cat, jcI, jcA, jcJ, jcD, jcF]) (fun ls hl => ?_)
        refine J.pu (fun _ _ _ _ k => lv_iload_n X.1.1 X.1.2.1 dX6_scannerIn_35 rfl (lv_at hl 3 rfl) k) ?_
        refine J.pu (fun _ _ _ _ k => lv_iconst (v := (-1)) X.1.1 X.1.2.1 dX6_scannerIn_36 (by decide) k) ?_
        refine J.br (fun _ _ _ _ ka kb => lv_icmp_ne (tgt := 45) X.1.1 X.1.2.1 dX6_scannerIn_37 (by decide) kb ka) (fun c37 => ?_) (fun c37 => ?_)
        · refine J.pu (fun _ _ _ _ k => lv_iload X.1.1 X.1.2.1 dX6_scannerIn_40 (lv_at hl 0 rfl) k) ?_
          refine J.pu (fun _ _ _ _ k => lv_goto (tgt := 51) X.1.1 X.1.2.1 dX6_scannerIn_42 (by decide) k) ?_
          exact j51 x3_4 v30 ls (lv_sub hl [1, 2, 4] rfl)
        · refine J.pu (fun _ _ _ _ k => lv_iload_n X.1.1 X.1.2.1 dX6_scannerIn_45 rfl (lv_at hl 3 rfl) k) ?_
          refine J.pu (fun _ _ _ _ k => lv_iload X.1.1 X.1.2.1 dX6_scannerIn_46 (lv_at hl 0 rfl) k) ?_
          refine J.bind (fun v48 h48 => ?_)
          refine J.cS (As := [.int x2_4, .int v30]) (rest := []) (s2 := [.int v48]) X ⟨rfl, rfl⟩ (ct_J12_min l G (mH mo A σ M) n x2_4 v30) (jrd_of h48) (fun _ _ => va_cwS 2 X.1.2.2.2.2 (lw_S q3147 q347 q152 q348) rfl rfl rfl (by decide +kernel) ⟨(Nat.le_of_ble_eq_true rfl), (Nat.le_of_ble_eq_true rfl)⟩) rfl hl.1 rfl rfl (Nat.le_of_ble_eq_true rfl) dX6_scannerIn_48 ?_
          exact j51 x3_4 v48 ls (lv_sub hl [1, 2, 4] rfl)
  unfold X6_scannerIn
  refine J.pu (fun _ _ _ _ k => lv_iconst (v := (-1)) X.1.1 X.1.2.1 dX6_scannerIn_0 (by decide) k) ?_
  refine J.istore_n (i := 2) (lv' := [(2, .int (-1)), (0, .ref mo), (1, .int a1)]) X.1.1 X.1.2.1 dX6_scannerIn_1 rfl hl (by decide) (by first | rfl | simp [va_rf_cat, jcI, jcA, jcJ, jcD, jcF]) (fun ls hl => ?_)
  refine J.pu (fun _ _ _ _ k => lv_iconst (v := 0) X.1.1 X.1.2.1 dX6_scannerIn_2 (by decide) k) ?_
  refine J.istore_n (i := 3) (lv' := [(3, .int 0), (2, .int (-1)), (0, .ref mo), (1, .int a1)]) X.1.1 X.1.2.1 dX6_scannerIn_3 rfl hl (by decide) (by first | rfl | simp [va_rf_cat, jcI, jcA, jcJ, jcD, jcF]) (fun ls hl => ?_)
  exact L4 n (-1) 0 ls (lv_sub hl [2, 3, 1, 0] rfl)
noncomputable def X6_toScanner (n : Nat) (M : jM) (a1 : Int32) : Option (Int32 × jM) :=
  bd (X6_noParcel n (mP M 7 0) a1) fun v7 M7 => if v7 = 0 then ((X6_isOn n M7 a1).bind fun v17 => if v17 = 0 then (some ((-1), M7)) else ((X6_scannerIn n M7 a1).bind fun v25 => some (v25, M7))) else (some (0, M7))
set_option maxHeartbeats 4000000 in
set_option maxRecDepth 100000 in
theorem ct_X6_toScanner (l : Launch) {G : jG} {mo : Nat} {A : Nat → Nat} (hm : mOK G mo A) (σ : jH) (n : Nat) (M : jM) (a1 : Int32) : jCt l G yX6_toScanner (ws_ yX6_toScanner cX6_toScanner 2 (some .int)) 4 91 jrI [.ref mo, .int a1] (mH mo A σ M) (mup mo A σ (X6_toScanner n M a1)) := by
  refine jCt.wm (lv := [(0, .ref mo), (1, .int a1)]) (plainFor_of_name (by decide)) (Nat.le_of_ble_eq_true rfl) rfl ?_
  intro t p e s m args below meth c ls X hr hnm hl
  have X : jCx p c cX6_toScanner 2 s m args RX6 G meth := X
  unfold X6_toScanner
  refine J.pu (fun _ _ _ _ k => lv_aload_n X.1.1 X.1.2.1 dX6_toScanner_0 rfl (lv_at hl 0 rfl) k) ?_
  refine J.pu (fun _ _ _ _ k => lv_iconst (v := 0) X.1.1 X.1.2.1 dX6_toScanner_1 (by decide) k) ?_
  refine J.mpS (k := 7) X hm (by decide) q2737 rfl rfl rfl dX6_toScanner_2 ?_
  refine J.pu (fun _ _ _ _ k => lv_aload_n X.1.1 X.1.2.1 dX6_toScanner_5 rfl (lv_at hl 0 rfl) k) ?_
  refine J.pu (fun _ _ _ _ k => lv_iload_n X.1.1 X.1.2.1 dX6_toScanner_6 rfl (lv_at hl 1 rfl) k) ?_
  refine J.bd' (fun v7 M7 h7 => ?_)
  refine J.cV (q := (RX6, TX6, 26)) (ci := 5) (As := [.int a1]) (rest := []) (s2 := [.int v7]) X ⟨rfl, rfl⟩ (ct_X6_noParcel l hm σ n (mP M 7 0) a1) (mup_of h7) (fun _ _ => cwV 1 X.1.2.2.2.2 (lw_V q3107 q3109 qs116 q174 q3110) rfl rfl rfl (by decide +kernel) ⟨(Nat.le_of_ble_eq_true rfl), (Nat.le_of_ble_eq_true rfl)⟩) mH_rc rfl rfl hl.1 rfl rfl (Nat.le_of_ble_eq_true rfl) dX6_toScanner_7 ?_
  refine J.br (fun _ _ _ _ ka kb => lv_if_eq (tgt := 15) X.1.1 X.1.2.1 dX6_toScanner_10 (by decide) ka kb) (fun c10 => ?_) (fun c10 => ?_)
  · refine J.pu (fun _ _ _ _ k => lv_aload_n X.1.1 X.1.2.1 dX6_toScanner_15 rfl (lv_at hl 0 rfl) k) ?_
    refine J.pu (fun _ _ _ _ k => lv_iload_n X.1.1 X.1.2.1 dX6_toScanner_16 rfl (lv_at hl 1 rfl) k) ?_
    refine J.bind (fun v17 h17 => ?_)
    refine J.cV (q := (RX6, TX6, 26)) (ci := 5) (As := [.int a1]) (rest := []) (s2 := [.int v17]) X ⟨rfl, rfl⟩ (ct_X6_isOn l hm σ n M7 a1) (jrd_of h17) (fun _ _ => cwV 1 X.1.2.2.2.2 (lw_V q2960 q2962 qs87 q174 q2963) rfl rfl rfl (by decide +kernel) ⟨(Nat.le_of_ble_eq_true rfl), (Nat.le_of_ble_eq_true rfl)⟩) mH_rc rfl rfl hl.1 rfl rfl (Nat.le_of_ble_eq_true rfl) dX6_toScanner_17 ?_
    refine J.br (fun _ _ _ _ ka kb => lv_if_eq (tgt := 31) X.1.1 X.1.2.1 dX6_toScanner_20 (by decide) ka kb) (fun c20 => ?_) (fun c20 => ?_)
    · refine J.pu (fun _ _ _ _ k => lv_iconst (v := (-1)) X.1.1 X.1.2.1 dX6_toScanner_31 (by decide) k) ?_
      exact J.iret (vr := fun t : Int32 × jM => jrI t.1) (fin := fun r : Int32 × jM => mH mo A σ r.2) (t := t) X hr (by rfl) (by rfl) dX6_toScanner_32
    · refine J.pu (fun _ _ _ _ k => lv_aload_n X.1.1 X.1.2.1 dX6_toScanner_23 rfl (lv_at hl 0 rfl) k) ?_
      refine J.pu (fun _ _ _ _ k => lv_iload_n X.1.1 X.1.2.1 dX6_toScanner_24 rfl (lv_at hl 1 rfl) k) ?_
      refine J.bind (fun v25 h25 => ?_)
      refine J.cV (q := (RX6, TX6, 26)) (ci := 5) (As := [.int a1]) (rest := []) (s2 := [.int v25]) X ⟨rfl, rfl⟩ (ct_X6_scannerIn l hm σ n M7 a1) (jrd_of h25) (fun _ _ => cwV 1 X.1.2.2.2.2 (lw_V q3139 q3141 qs120 q174 q3142) rfl rfl rfl (by decide +kernel) ⟨(Nat.le_of_ble_eq_true rfl), (Nat.le_of_ble_eq_true rfl)⟩) mH_rc rfl rfl hl.1 rfl rfl (Nat.le_of_ble_eq_true rfl) dX6_toScanner_25 ?_
      refine J.pu (fun _ _ _ _ k => lv_goto (tgt := 32) X.1.1 X.1.2.1 dX6_toScanner_28 (by decide) k) ?_
      exact J.iret (vr := fun t : Int32 × jM => jrI t.1) (fin := fun r : Int32 × jM => mH mo A σ r.2) (t := t) X hr (by rfl) (by rfl) dX6_toScanner_32
  · refine J.pu (fun _ _ _ _ k => lv_iconst (v := 0) X.1.1 X.1.2.1 dX6_toScanner_13 (by decide) k) ?_
    exact J.iret (vr := fun t : Int32 × jM => jrI t.1) (fin := fun r : Int32 × jM => mH mo A σ r.2) (t := t) X hr (by rfl) (by rfl) dX6_toScanner_14
noncomputable def X6_chuteIn (n : Nat) (M : jM) (a1 : Int32) : Option (Int32) :=
  (X6_of n M a1 6).bind fun v5 => (X6_of n M a1 0).bind fun v12 => (X6_ofChute n M v12 0).bind fun v16 => (X6_ahead n M v5 v16).bind fun v19 => some v19
set_option maxHeartbeats 4000000 in
set_option maxRecDepth 100000 in
theorem ct_X6_chuteIn (l : Launch) {G : jG} {mo : Nat} {A : Nat → Nat} (hm : mOK G mo A) (σ : jH) (n : Nat) (M : jM) (a1 : Int32) : jCt l G yX6_chuteIn (ws_ yX6_chuteIn cX6_chuteIn 2 (some .int)) 3 67 jrI [.ref mo, .int a1] (mH mo A σ M) (jrd (mH mo A σ M) (X6_chuteIn n M a1)) := by
  refine jCt.rd (lv := [(0, .ref mo), (1, .int a1)]) (plainFor_of_name (by decide)) (Nat.le_of_ble_eq_true rfl) rfl ?_
  intro t p e s m args below meth c ls X hr hnm hl
  have X : jCx p c cX6_chuteIn 2 s m args RX6 G meth := X
  unfold X6_chuteIn
  refine J.pu (fun _ _ _ _ k => lv_aload_n X.1.1 X.1.2.1 dX6_chuteIn_0 rfl (lv_at hl 0 rfl) k) ?_
  refine J.pu (fun _ _ _ _ k => lv_aload_n X.1.1 X.1.2.1 dX6_chuteIn_1 rfl (lv_at hl 0 rfl) k) ?_
  refine J.pu (fun _ _ _ _ k => lv_iload_n X.1.1 X.1.2.1 dX6_chuteIn_2 rfl (lv_at hl 1 rfl) k) ?_
  refine J.pu (fun _ _ _ _ k => lv_bipush (v := 6) X.1.1 X.1.2.1 dX6_chuteIn_3 (by decide) k) ?_
  refine J.bind (fun v5 h5 => ?_)
  refine J.cV (q := (RX6, TX6, 26)) (ci := 5) (As := [.int a1, .int 6]) (rest := [.ref mo]) (s2 := [.int v5, .ref mo]) X ⟨rfl, rfl⟩ (ct_X6_of l hm σ n M a1 6) (jrd_of h5) (fun _ _ => cwV 2 X.1.2.2.2.2 (lw_V q2964 q2966 qs88 q174 q2967) rfl rfl rfl (by decide +kernel) ⟨(Nat.le_of_ble_eq_true rfl), (Nat.le_of_ble_eq_true rfl)⟩) mH_rc rfl rfl hl.1 rfl rfl (Nat.le_of_ble_eq_true rfl) dX6_chuteIn_5 ?_
  refine J.pu (fun _ _ _ _ k => lv_aload_n X.1.1 X.1.2.1 dX6_chuteIn_8 rfl (lv_at hl 0 rfl) k) ?_
  refine J.pu (fun _ _ _ _ k => lv_aload_n X.1.1 X.1.2.1 dX6_chuteIn_9 rfl (lv_at hl 0 rfl) k) ?_
  refine J.pu (fun _ _ _ _ k => lv_iload_n X.1.1 X.1.2.1 dX6_chuteIn_10 rfl (lv_at hl 1 rfl) k) ?_
  refine J.pu (fun _ _ _ _ k => lv_iconst (v := 0) X.1.1 X.1.2.1 dX6_chuteIn_11 (by decide) k) ?_
  refine J.bind (fun v12 h12 => ?_)
  refine J.cV (q := (RX6, TX6, 26)) (ci := 5) (As := [.int a1, .int 0]) (rest := [.ref mo, .int v5, .ref mo]) (s2 := [.int v12, .ref mo, .int v5, .ref mo]) X ⟨rfl, rfl⟩ (ct_X6_of l hm σ n M a1 0) (jrd_of h12) (fun _ _ => cwV 2 X.1.2.2.2.2 (lw_V q2964 q2966 qs88 q174 q2967) rfl rfl rfl (by decide +kernel) ⟨(Nat.le_of_ble_eq_true rfl), (Nat.le_of_ble_eq_true rfl)⟩) mH_rc rfl rfl hl.1 rfl rfl (Nat.le_of_ble_eq_true rfl) dX6_chuteIn_12 ?_
  refine J.pu (fun _ _ _ _ k => lv_iconst (v := 0) X.1.1 X.1.2.1 dX6_chuteIn_15 (by decide) k) ?_
  refine J.bind (fun v16 h16 => ?_)
  refine J.cV (q := (RX6, TX6, 26)) (ci := 5) (As := [.int v12, .int 0]) (rest := [.int v5, .ref mo]) (s2 := [.int v16, .int v5, .ref mo]) X ⟨rfl, rfl⟩ (ct_X6_ofChute l hm σ n M v12 0) (jrd_of h16) (fun _ _ => cwV 2 X.1.2.2.2.2 (lw_V q2908 q2910 qs77 q174 q2911) rfl rfl rfl (by decide +kernel) ⟨(Nat.le_of_ble_eq_true rfl), (Nat.le_of_ble_eq_true rfl)⟩) mH_rc rfl rfl hl.1 rfl rfl (Nat.le_of_ble_eq_true rfl) dX6_chuteIn_16 ?_
  refine J.bind (fun v19 h19 => ?_)
  refine J.cV (q := (RX6, TX6, 26)) (ci := 5) (As := [.int v5, .int v16]) (rest := []) (s2 := [.int v19]) X ⟨rfl, rfl⟩ (ct_X6_ahead l hm σ n M v5 v16) (jrd_of h19) (fun _ _ => cwV 2 X.1.2.2.2.2 (lw_V q3143 q3145 qs121 q174 q3146) rfl rfl rfl (by decide +kernel) ⟨(Nat.le_of_ble_eq_true rfl), (Nat.le_of_ble_eq_true rfl)⟩) mH_rc rfl rfl hl.1 rfl rfl (Nat.le_of_ble_eq_true rfl) dX6_chuteIn_19 ?_
  exact J.iret (vr := jrI) (fin := fun _ : Int32 => (mH mo A σ M)) (t := t) X hr (by rfl) (by rfl) dX6_chuteIn_22
noncomputable def X6_toChute (n : Nat) (M : jM) (a1 : Int32) : Option (Int32 × jM) :=
  bd (X6_noParcel n (mP M 7 0) a1) fun v7 M7 => if v7 = 0 then ((X6_isTracked n M7 a1).bind fun v17 => if v17 = 0 then (some ((-1), M7)) else ((X6_chuteIn n M7 a1).bind fun v25 => some (v25, M7))) else (some (0, M7))
set_option maxHeartbeats 4000000 in
set_option maxRecDepth 100000 in
theorem ct_X6_toChute (l : Launch) {G : jG} {mo : Nat} {A : Nat → Nat} (hm : mOK G mo A) (σ : jH) (n : Nat) (M : jM) (a1 : Int32) : jCt l G yX6_toChute (ws_ yX6_toChute cX6_toChute 2 (some .int)) 4 88 jrI [.ref mo, .int a1] (mH mo A σ M) (mup mo A σ (X6_toChute n M a1)) := by
  refine jCt.wm (lv := [(0, .ref mo), (1, .int a1)]) (plainFor_of_name (by decide)) (Nat.le_of_ble_eq_true rfl) rfl ?_
  intro t p e s m args below meth c ls X hr hnm hl
  have X : jCx p c cX6_toChute 2 s m args RX6 G meth := X
  unfold X6_toChute
  refine J.pu (fun _ _ _ _ k => lv_aload_n X.1.1 X.1.2.1 dX6_toChute_0 rfl (lv_at hl 0 rfl) k) ?_
  refine J.pu (fun _ _ _ _ k => lv_iconst (v := 0) X.1.1 X.1.2.1 dX6_toChute_1 (by decide) k) ?_
  refine J.mpS (k := 7) X hm (by decide) q2737 rfl rfl rfl dX6_toChute_2 ?_
  refine J.pu (fun _ _ _ _ k => lv_aload_n X.1.1 X.1.2.1 dX6_toChute_5 rfl (lv_at hl 0 rfl) k) ?_
  refine J.pu (fun _ _ _ _ k => lv_iload_n X.1.1 X.1.2.1 dX6_toChute_6 rfl (lv_at hl 1 rfl) k) ?_
  refine J.bd' (fun v7 M7 h7 => ?_)
  refine J.cV (q := (RX6, TX6, 26)) (ci := 5) (As := [.int a1]) (rest := []) (s2 := [.int v7]) X ⟨rfl, rfl⟩ (ct_X6_noParcel l hm σ n (mP M 7 0) a1) (mup_of h7) (fun _ _ => cwV 1 X.1.2.2.2.2 (lw_V q3107 q3109 qs116 q174 q3110) rfl rfl rfl (by decide +kernel) ⟨(Nat.le_of_ble_eq_true rfl), (Nat.le_of_ble_eq_true rfl)⟩) mH_rc rfl rfl hl.1 rfl rfl (Nat.le_of_ble_eq_true rfl) dX6_toChute_7 ?_
  refine J.br (fun _ _ _ _ ka kb => lv_if_eq (tgt := 15) X.1.1 X.1.2.1 dX6_toChute_10 (by decide) ka kb) (fun c10 => ?_) (fun c10 => ?_)
  · refine J.pu (fun _ _ _ _ k => lv_aload_n X.1.1 X.1.2.1 dX6_toChute_15 rfl (lv_at hl 0 rfl) k) ?_
    refine J.pu (fun _ _ _ _ k => lv_iload_n X.1.1 X.1.2.1 dX6_toChute_16 rfl (lv_at hl 1 rfl) k) ?_
    refine J.bind (fun v17 h17 => ?_)
    refine J.cV (q := (RX6, TX6, 26)) (ci := 5) (As := [.int a1]) (rest := []) (s2 := [.int v17]) X ⟨rfl, rfl⟩ (ct_X6_isTracked l hm σ n M7 a1) (jrd_of h17) (fun _ _ => cwV 1 X.1.2.2.2.2 (lw_V q3023 q3025 qs101 q174 q3026) rfl rfl rfl (by decide +kernel) ⟨(Nat.le_of_ble_eq_true rfl), (Nat.le_of_ble_eq_true rfl)⟩) mH_rc rfl rfl hl.1 rfl rfl (Nat.le_of_ble_eq_true rfl) dX6_toChute_17 ?_
    refine J.br (fun _ _ _ _ ka kb => lv_if_eq (tgt := 31) X.1.1 X.1.2.1 dX6_toChute_20 (by decide) ka kb) (fun c20 => ?_) (fun c20 => ?_)
    · refine J.pu (fun _ _ _ _ k => lv_iconst (v := (-1)) X.1.1 X.1.2.1 dX6_toChute_31 (by decide) k) ?_
      exact J.iret (vr := fun t : Int32 × jM => jrI t.1) (fin := fun r : Int32 × jM => mH mo A σ r.2) (t := t) X hr (by rfl) (by rfl) dX6_toChute_32
    · refine J.pu (fun _ _ _ _ k => lv_aload_n X.1.1 X.1.2.1 dX6_toChute_23 rfl (lv_at hl 0 rfl) k) ?_
      refine J.pu (fun _ _ _ _ k => lv_iload_n X.1.1 X.1.2.1 dX6_toChute_24 rfl (lv_at hl 1 rfl) k) ?_
      refine J.bind (fun v25 h25 => ?_)
      refine J.cV (q := (RX6, TX6, 26)) (ci := 5) (As := [.int a1]) (rest := []) (s2 := [.int v25]) X ⟨rfl, rfl⟩ (ct_X6_chuteIn l hm σ n M7 a1) (jrd_of h25) (fun _ _ => cwV 1 X.1.2.2.2.2 (lw_V q3152 q3154 qs122 q174 q3155) rfl rfl rfl (by decide +kernel) ⟨(Nat.le_of_ble_eq_true rfl), (Nat.le_of_ble_eq_true rfl)⟩) mH_rc rfl rfl hl.1 rfl rfl (Nat.le_of_ble_eq_true rfl) dX6_toChute_25 ?_
      refine J.pu (fun _ _ _ _ k => lv_goto (tgt := 32) X.1.1 X.1.2.1 dX6_toChute_28 (by decide) k) ?_
      exact J.iret (vr := fun t : Int32 × jM => jrI t.1) (fin := fun r : Int32 × jM => mH mo A σ r.2) (t := t) X hr (by rfl) (by rfl) dX6_toChute_32
  · refine J.pu (fun _ _ _ _ k => lv_iconst (v := 0) X.1.1 X.1.2.1 dX6_toChute_13 (by decide) k) ?_
    exact J.iret (vr := fun t : Int32 × jM => jrI t.1) (fin := fun r : Int32 × jM => mH mo A σ r.2) (t := t) X hr (by rfl) (by rfl) dX6_toChute_14
noncomputable def X6_reasonOf (n : Nat) (M : jM) (a1 : Int32) : Option (Int32) :=
  (X6_of n M a1 0).bind fun v3 => (X6_of n M a1 3).bind fun v10 => if v10 = 3 then (some 1) else ((X6_isOn n M a1).bind fun v21 => if v21 = 0 then ((X6_of n M a1 7).bind fun v31 => if v31 = v3 then (some 0) else (some 2)) else ((X6_of n M a1 1).bind fun v47 => if v47 ≤ 0 then ((X6_isTracked n M a1).bind fun v57 => if v57 = 0 then (some 4) else ((X6_isClosed n M v3).bind fun v67 => if v67 = 0 then ((X6_lagOf n M a1).bind fun v77 => (X6_ofChute n M v3 2).bind fun v83 => if v77 ≤ v83 then (some 7) else (some 6)) else (some 5))) else (some 3)))
set_option maxHeartbeats 4000000 in
set_option maxRecDepth 100000 in
theorem ct_X6_reasonOf (l : Launch) {G : jG} {mo : Nat} {A : Nat → Nat} (hm : mOK G mo A) (σ : jH) (n : Nat) (M : jM) (a1 : Int32) : jCt l G yX6_reasonOf (ws_ yX6_reasonOf cX6_reasonOf 3 (some .int)) 3 65 jrI [.ref mo, .int a1] (mH mo A σ M) (jrd (mH mo A σ M) (X6_reasonOf n M a1)) := by
  refine jCt.rd (lv := [(0, .ref mo), (1, .int a1)]) (plainFor_of_name (by decide)) (Nat.le_of_ble_eq_true rfl) rfl ?_
  intro t p e s m args below meth c ls X hr hnm hl
  have X : jCx p c cX6_reasonOf 3 s m args RX6 G meth := X
  unfold X6_reasonOf
  refine J.pu (fun _ _ _ _ k => lv_aload_n X.1.1 X.1.2.1 dX6_reasonOf_0 rfl (lv_at hl 0 rfl) k) ?_
  refine J.pu (fun _ _ _ _ k => lv_iload_n X.1.1 X.1.2.1 dX6_reasonOf_1 rfl (lv_at hl 1 rfl) k) ?_
  refine J.pu (fun _ _ _ _ k => lv_iconst (v := 0) X.1.1 X.1.2.1 dX6_reasonOf_2 (by decide) k) ?_
  refine J.bind (fun v3 h3 => ?_)
  refine J.cV (q := (RX6, TX6, 26)) (ci := 5) (As := [.int a1, .int 0]) (rest := []) (s2 := [.int v3]) X ⟨rfl, rfl⟩ (ct_X6_of l hm σ n M a1 0) (jrd_of h3) (fun _ _ => cwV 2 X.1.2.2.2.2 (lw_V q2964 q2966 qs88 q174 q2967) rfl rfl rfl (by decide +kernel) ⟨(Nat.le_of_ble_eq_true rfl), (Nat.le_of_ble_eq_true rfl)⟩) mH_rc rfl rfl hl.1 rfl rfl (Nat.le_of_ble_eq_true rfl) dX6_reasonOf_3 ?_
  refine J.istore_n (i := 2) (lv' := [(2, .int v3), (0, .ref mo), (1, .int a1)]) X.1.1 X.1.2.1 dX6_reasonOf_6 rfl hl (by decide) (by first | rfl | simp [va_rf_cat, jcI, jcA, jcJ, jcD, jcF]) (fun ls hl => ?_)
  refine J.pu (fun _ _ _ _ k => lv_aload_n X.1.1 X.1.2.1 dX6_reasonOf_7 rfl (lv_at hl 1 rfl) k) ?_
  refine J.pu (fun _ _ _ _ k => lv_iload_n X.1.1 X.1.2.1 dX6_reasonOf_8 rfl (lv_at hl 2 rfl) k) ?_
  refine J.pu (fun _ _ _ _ k => lv_iconst (v := 3) X.1.1 X.1.2.1 dX6_reasonOf_9 (by decide) k) ?_
  refine J.bind (fun v10 h10 => ?_)
  refine J.cV (q := (RX6, TX6, 26)) (ci := 5) (As := [.int a1, .int 3]) (rest := []) (s2 := [.int v10]) X ⟨rfl, rfl⟩ (ct_X6_of l hm σ n M a1 3) (jrd_of h10) (fun _ _ => cwV 2 X.1.2.2.2.2 (lw_V q2964 q2966 qs88 q174 q2967) rfl rfl rfl (by decide +kernel) ⟨(Nat.le_of_ble_eq_true rfl), (Nat.le_of_ble_eq_true rfl)⟩) mH_rc rfl rfl hl.1 rfl rfl (Nat.le_of_ble_eq_true rfl) dX6_reasonOf_10 ?_
  refine J.pu (fun _ _ _ _ k => lv_iconst (v := 3) X.1.1 X.1.2.1 dX6_reasonOf_13 (by decide) k) ?_
  refine J.br (fun _ _ _ _ ka kb => lv_icmp_ne (tgt := 19) X.1.1 X.1.2.1 dX6_reasonOf_14 (by decide) kb ka) (fun c14 => ?_) (fun c14 => ?_)
  · refine J.pu (fun _ _ _ _ k => lv_iconst (v := 1) X.1.1 X.1.2.1 dX6_reasonOf_17 (by decide) k) ?_
    exact J.iret (vr := jrI) (fin := fun _ : Int32 => (mH mo A σ M)) (t := t) X hr (by rfl) (by rfl) dX6_reasonOf_18
  · refine J.pu (fun _ _ _ _ k => lv_aload_n X.1.1 X.1.2.1 dX6_reasonOf_19 rfl (lv_at hl 1 rfl) k) ?_
    refine J.pu (fun _ _ _ _ k => lv_iload_n X.1.1 X.1.2.1 dX6_reasonOf_20 rfl (lv_at hl 2 rfl) k) ?_
    refine J.bind (fun v21 h21 => ?_)
    refine J.cV (q := (RX6, TX6, 26)) (ci := 5) (As := [.int a1]) (rest := []) (s2 := [.int v21]) X ⟨rfl, rfl⟩ (ct_X6_isOn l hm σ n M a1) (jrd_of h21) (fun _ _ => cwV 1 X.1.2.2.2.2 (lw_V q2960 q2962 qs87 q174 q2963) rfl rfl rfl (by decide +kernel) ⟨(Nat.le_of_ble_eq_true rfl), (Nat.le_of_ble_eq_true rfl)⟩) mH_rc rfl rfl hl.1 rfl rfl (Nat.le_of_ble_eq_true rfl) dX6_reasonOf_21 ?_
    refine J.br (fun _ _ _ _ ka kb => lv_if_ne (tgt := 44) X.1.1 X.1.2.1 dX6_reasonOf_24 (by decide) kb ka) (fun c24 => ?_) (fun c24 => ?_)
    · refine J.pu (fun _ _ _ _ k => lv_aload_n X.1.1 X.1.2.1 dX6_reasonOf_27 rfl (lv_at hl 1 rfl) k) ?_
      refine J.pu (fun _ _ _ _ k => lv_iload_n X.1.1 X.1.2.1 dX6_reasonOf_28 rfl (lv_at hl 2 rfl) k) ?_
      refine J.pu (fun _ _ _ _ k => lv_bipush (v := 7) X.1.1 X.1.2.1 dX6_reasonOf_29 (by decide) k) ?_
      refine J.bind (fun v31 h31 => ?_)
      refine J.cV (q := (RX6, TX6, 26)) (ci := 5) (As := [.int a1, .int 7]) (rest := []) (s2 := [.int v31]) X ⟨rfl, rfl⟩ (ct_X6_of l hm σ n M a1 7) (jrd_of h31) (fun _ _ => cwV 2 X.1.2.2.2.2 (lw_V q2964 q2966 qs88 q174 q2967) rfl rfl rfl (by decide +kernel) ⟨(Nat.le_of_ble_eq_true rfl), (Nat.le_of_ble_eq_true rfl)⟩) mH_rc rfl rfl hl.1 rfl rfl (Nat.le_of_ble_eq_true rfl) dX6_reasonOf_31 ?_
      refine J.pu (fun _ _ _ _ k => lv_iload_n X.1.1 X.1.2.1 dX6_reasonOf_34 rfl (lv_at hl 0 rfl) k) ?_
      refine J.br (fun _ _ _ _ ka kb => lv_icmp_ne (tgt := 42) X.1.1 X.1.2.1 dX6_reasonOf_35 (by decide) kb ka) (fun c35 => ?_) (fun c35 => ?_)
      · refine J.pu (fun _ _ _ _ k => lv_iconst (v := 0) X.1.1 X.1.2.1 dX6_reasonOf_38 (by decide) k) ?_
        refine J.pu (fun _ _ _ _ k => lv_goto (tgt := 43) X.1.1 X.1.2.1 dX6_reasonOf_39 (by decide) k) ?_
        exact J.iret (vr := jrI) (fin := fun _ : Int32 => (mH mo A σ M)) (t := t) X hr (by rfl) (by rfl) dX6_reasonOf_43
      · refine J.pu (fun _ _ _ _ k => lv_iconst (v := 2) X.1.1 X.1.2.1 dX6_reasonOf_42 (by decide) k) ?_
        exact J.iret (vr := jrI) (fin := fun _ : Int32 => (mH mo A σ M)) (t := t) X hr (by rfl) (by rfl) dX6_reasonOf_43
    · refine J.pu (fun _ _ _ _ k => lv_aload_n X.1.1 X.1.2.1 dX6_reasonOf_44 rfl (lv_at hl 1 rfl) k) ?_
      refine J.pu (fun _ _ _ _ k => lv_iload_n X.1.1 X.1.2.1 dX6_reasonOf_45 rfl (lv_at hl 2 rfl) k) ?_
      refine J.pu (fun _ _ _ _ k => lv_iconst (v := 1) X.1.1 X.1.2.1 dX6_reasonOf_46 (by decide) k) ?_
      refine J.bind (fun v47 h47 => ?_)
      refine J.cV (q := (RX6, TX6, 26)) (ci := 5) (As := [.int a1, .int 1]) (rest := []) (s2 := [.int v47]) X ⟨rfl, rfl⟩ (ct_X6_of l hm σ n M a1 1) (jrd_of h47) (fun _ _ => cwV 2 X.1.2.2.2.2 (lw_V q2964 q2966 qs88 q174 q2967) rfl rfl rfl (by decide +kernel) ⟨(Nat.le_of_ble_eq_true rfl), (Nat.le_of_ble_eq_true rfl)⟩) mH_rc rfl rfl hl.1 rfl rfl (Nat.le_of_ble_eq_true rfl) dX6_reasonOf_47 ?_
      refine J.br (fun _ _ _ _ ka kb => lv_if_le (tgt := 55) X.1.1 X.1.2.1 dX6_reasonOf_50 (by decide) ka kb) (fun c50 => ?_) (fun c50 => ?_)
      · refine J.pu (fun _ _ _ _ k => lv_aload_n X.1.1 X.1.2.1 dX6_reasonOf_55 rfl (lv_at hl 1 rfl) k) ?_
        refine J.pu (fun _ _ _ _ k => lv_iload_n X.1.1 X.1.2.1 dX6_reasonOf_56 rfl (lv_at hl 2 rfl) k) ?_
        refine J.bind (fun v57 h57 => ?_)
        refine J.cV (q := (RX6, TX6, 26)) (ci := 5) (As := [.int a1]) (rest := []) (s2 := [.int v57]) X ⟨rfl, rfl⟩ (ct_X6_isTracked l hm σ n M a1) (jrd_of h57) (fun _ _ => cwV 1 X.1.2.2.2.2 (lw_V q3023 q3025 qs101 q174 q3026) rfl rfl rfl (by decide +kernel) ⟨(Nat.le_of_ble_eq_true rfl), (Nat.le_of_ble_eq_true rfl)⟩) mH_rc rfl rfl hl.1 rfl rfl (Nat.le_of_ble_eq_true rfl) dX6_reasonOf_57 ?_
        refine J.br (fun _ _ _ _ ka kb => lv_if_ne (tgt := 65) X.1.1 X.1.2.1 dX6_reasonOf_60 (by decide) kb ka) (fun c60 => ?_) (fun c60 => ?_)
        · refine J.pu (fun _ _ _ _ k => lv_iconst (v := 4) X.1.1 X.1.2.1 dX6_reasonOf_63 (by decide) k) ?_
          exact J.iret (vr := jrI) (fin := fun _ : Int32 => (mH mo A σ M)) (t := t) X hr (by rfl) (by rfl) dX6_reasonOf_64
        · refine J.pu (fun _ _ _ _ k => lv_aload_n X.1.1 X.1.2.1 dX6_reasonOf_65 rfl (lv_at hl 1 rfl) k) ?_
          refine J.pu (fun _ _ _ _ k => lv_iload_n X.1.1 X.1.2.1 dX6_reasonOf_66 rfl (lv_at hl 0 rfl) k) ?_
          refine J.bind (fun v67 h67 => ?_)
          refine J.cV (q := (RX6, TX6, 26)) (ci := 5) (As := [.int v3]) (rest := []) (s2 := [.int v67]) X ⟨rfl, rfl⟩ (ct_X6_isClosed l hm σ n M v3) (jrd_of h67) (fun _ _ => cwV 1 X.1.2.2.2.2 (lw_V q3031 q3033 qs103 q174 q3034) rfl rfl rfl (by decide +kernel) ⟨(Nat.le_of_ble_eq_true rfl), (Nat.le_of_ble_eq_true rfl)⟩) mH_rc rfl rfl hl.1 rfl rfl (Nat.le_of_ble_eq_true rfl) dX6_reasonOf_67 ?_
          refine J.br (fun _ _ _ _ ka kb => lv_if_eq (tgt := 75) X.1.1 X.1.2.1 dX6_reasonOf_70 (by decide) ka kb) (fun c70 => ?_) (fun c70 => ?_)
          · refine J.pu (fun _ _ _ _ k => lv_aload_n X.1.1 X.1.2.1 dX6_reasonOf_75 rfl (lv_at hl 1 rfl) k) ?_
            refine J.pu (fun _ _ _ _ k => lv_iload_n X.1.1 X.1.2.1 dX6_reasonOf_76 rfl (lv_at hl 2 rfl) k) ?_
            refine J.bind (fun v77 h77 => ?_)
            refine J.cV (q := (RX6, TX6, 26)) (ci := 5) (As := [.int a1]) (rest := []) (s2 := [.int v77]) X ⟨rfl, rfl⟩ (ct_X6_lagOf l hm σ n M a1) (jrd_of h77) (fun _ _ => cwV 1 X.1.2.2.2.2 (lw_V q3008 q3010 qs98 q174 q3011) rfl rfl rfl (by decide +kernel) ⟨(Nat.le_of_ble_eq_true rfl), (Nat.le_of_ble_eq_true rfl)⟩) mH_rc rfl rfl hl.1 rfl rfl (Nat.le_of_ble_eq_true rfl) dX6_reasonOf_77 ?_
            refine J.pu (fun _ _ _ _ k => lv_aload_n X.1.1 X.1.2.1 dX6_reasonOf_80 rfl (lv_at hl 1 rfl) k) ?_
            refine J.pu (fun _ _ _ _ k => lv_iload_n X.1.1 X.1.2.1 dX6_reasonOf_81 rfl (lv_at hl 0 rfl) k) ?_
            refine J.pu (fun _ _ _ _ k => lv_iconst (v := 2) X.1.1 X.1.2.1 dX6_reasonOf_82 (by decide) k) ?_
            refine J.bind (fun v83 h83 => ?_)
            refine J.cV (q := (RX6, TX6, 26)) (ci := 5) (As := [.int v3, .int 2]) (rest := [.int v77]) (s2 := [.int v83, .int v77]) X ⟨rfl, rfl⟩ (ct_X6_ofChute l hm σ n M v3 2) (jrd_of h83) (fun _ _ => cwV 2 X.1.2.2.2.2 (lw_V q2908 q2910 qs77 q174 q2911) rfl rfl rfl (by decide +kernel) ⟨(Nat.le_of_ble_eq_true rfl), (Nat.le_of_ble_eq_true rfl)⟩) mH_rc rfl rfl hl.1 rfl rfl (Nat.le_of_ble_eq_true rfl) dX6_reasonOf_83 ?_
            refine J.br (fun _ _ _ _ ka kb => lv_icmp_le (tgt := 94) X.1.1 X.1.2.1 dX6_reasonOf_86 (by decide) ka kb) (fun c86 => ?_) (fun c86 => ?_)
            · refine J.pu (fun _ _ _ _ k => lv_bipush (v := 7) X.1.1 X.1.2.1 dX6_reasonOf_94 (by decide) k) ?_
              exact J.iret (vr := jrI) (fin := fun _ : Int32 => (mH mo A σ M)) (t := t) X hr (by rfl) (by rfl) dX6_reasonOf_96
            · refine J.pu (fun _ _ _ _ k => lv_bipush (v := 6) X.1.1 X.1.2.1 dX6_reasonOf_89 (by decide) k) ?_
              refine J.pu (fun _ _ _ _ k => lv_goto (tgt := 96) X.1.1 X.1.2.1 dX6_reasonOf_91 (by decide) k) ?_
              exact J.iret (vr := jrI) (fin := fun _ : Int32 => (mH mo A σ M)) (t := t) X hr (by rfl) (by rfl) dX6_reasonOf_96
          · refine J.pu (fun _ _ _ _ k => lv_iconst (v := 5) X.1.1 X.1.2.1 dX6_reasonOf_73 (by decide) k) ?_
            exact J.iret (vr := jrI) (fin := fun _ : Int32 => (mH mo A σ M)) (t := t) X hr (by rfl) (by rfl) dX6_reasonOf_74
      · refine J.pu (fun _ _ _ _ k => lv_iconst (v := 3) X.1.1 X.1.2.1 dX6_reasonOf_53 (by decide) k) ?_
        exact J.iret (vr := jrI) (fin := fun _ : Int32 => (mH mo A σ M)) (t := t) X hr (by rfl) (by rfl) dX6_reasonOf_54
noncomputable def X6_causeOf (n : Nat) (M : jM) (a1 : Int32) : Option (Int32) :=
  (X6_reasonOf n M a1).bind fun v2 => if v2 = 1 then ((X6_of n M a1 2).bind fun v53 => some (100 + v53)) else if v2 = 2 then ((X6_of n M a1 7).bind fun v65 => some (200 + v65)) else if v2 = 3 then ((X6_of n M a1 1).bind fun v76 => some (400 + v76)) else if v2 = 4 then ((X6_scannerIn n M a1).bind fun v87 => (J12_max n 0 v87).bind fun v90 => some (600 + v90)) else if v2 = 5 then ((X6_of n M a1 0).bind fun v101 => some (700 + v101)) else if v2 = 6 then ((X6_lagOf n M a1).bind fun v111 => some (900 + v111)) else if v2 = 7 then ((X6_chuteIn n M a1).bind fun v121 => some (1100 + v121)) else some 0
set_option maxHeartbeats 4000000 in
set_option maxRecDepth 100000 in
theorem ct_X6_causeOf (l : Launch) {G : jG} {mo : Nat} {A : Nat → Nat} (hm : mOK G mo A) (σ : jH) (n : Nat) (M : jM) (a1 : Int32) : jCt l G yX6_causeOf (ws_ yX6_causeOf cX6_causeOf 2 (some .int)) 4 91 jrI [.ref mo, .int a1] (mH mo A σ M) (jrd (mH mo A σ M) (X6_causeOf n M a1)) := by
  refine jCt.rd (lv := [(0, .ref mo), (1, .int a1)]) (plainFor_of_name (by decide)) (Nat.le_of_ble_eq_true rfl) rfl ?_
  intro t p e s m args below meth c ls X hr hnm hl
  have X : jCx p c cX6_causeOf 2 s m args RX6 G meth := X
  unfold X6_causeOf
  refine J.pu (fun _ _ _ _ k => lv_aload_n X.1.1 X.1.2.1 dX6_causeOf_0 rfl (lv_at hl 0 rfl) k) ?_
  refine J.pu (fun _ _ _ _ k => lv_iload_n X.1.1 X.1.2.1 dX6_causeOf_1 rfl (lv_at hl 1 rfl) k) ?_
  refine J.bind (fun v2 h2 => ?_)
  refine J.cV (q := (RX6, TX6, 26)) (ci := 5) (As := [.int a1]) (rest := []) (s2 := [.int v2]) X ⟨rfl, rfl⟩ (ct_X6_reasonOf l hm σ n M a1) (jrd_of h2) (fun _ _ => cwV 1 X.1.2.2.2.2 (lw_V q3160 q3162 qs123 q174 q3163) rfl rfl rfl (by decide +kernel) ⟨(Nat.le_of_ble_eq_true rfl), (Nat.le_of_ble_eq_true rfl)⟩) mH_rc rfl rfl hl.1 rfl rfl (Nat.le_of_ble_eq_true rfl) dX6_causeOf_2 ?_
  refine J.ite (fun c5_1 => ?_) (fun c5_1 => ?_)
  · refine J.pu (fun _ _ _ _ k => lv_tableIn (tgt := 48) (off := 43) X.1.1 X.1.2.1 dX6_causeOf_5 (by rw [c5_1]; decide) (by rw [c5_1]; decide) (by rw [c5_1]; decide) (by decide) k) ?_
    refine J.pu (fun _ _ _ _ k => lv_bipush (v := 100) X.1.1 X.1.2.1 dX6_causeOf_48 (by decide) k) ?_
    refine J.pu (fun _ _ _ _ k => lv_aload_n X.1.1 X.1.2.1 dX6_causeOf_50 rfl (lv_at hl 0 rfl) k) ?_
    refine J.pu (fun _ _ _ _ k => lv_iload_n X.1.1 X.1.2.1 dX6_causeOf_51 rfl (lv_at hl 1 rfl) k) ?_
    refine J.pu (fun _ _ _ _ k => lv_iconst (v := 2) X.1.1 X.1.2.1 dX6_causeOf_52 (by decide) k) ?_
    refine J.bind (fun v53 h53 => ?_)
    refine J.cV (q := (RX6, TX6, 26)) (ci := 5) (As := [.int a1, .int 2]) (rest := [.int 100]) (s2 := [.int v53, .int 100]) X ⟨rfl, rfl⟩ (ct_X6_of l hm σ n M a1 2) (jrd_of h53) (fun _ _ => cwV 2 X.1.2.2.2.2 (lw_V q2964 q2966 qs88 q174 q2967) rfl rfl rfl (by decide +kernel) ⟨(Nat.le_of_ble_eq_true rfl), (Nat.le_of_ble_eq_true rfl)⟩) mH_rc rfl rfl hl.1 rfl rfl (Nat.le_of_ble_eq_true rfl) dX6_causeOf_53 ?_
    refine J.pu (fun _ _ _ _ k => lv_iadd X.1.1 X.1.2.1 dX6_causeOf_56 k) ?_
    exact J.iret (vr := jrI) (fin := fun _ : Int32 => (mH mo A σ M)) (t := t) X hr (by rfl) (by rfl) dX6_causeOf_57
  refine J.ite (fun c5_2 => ?_) (fun c5_2 => ?_)
  · refine J.pu (fun _ _ _ _ k => lv_tableIn (tgt := 58) (off := 53) X.1.1 X.1.2.1 dX6_causeOf_5 (by rw [c5_2]; decide) (by rw [c5_2]; decide) (by rw [c5_2]; decide) (by decide) k) ?_
    refine J.pu (fun _ _ _ _ k => lv_sipush (v := 200) X.1.1 X.1.2.1 dX6_causeOf_58 (by decide) k) ?_
    refine J.pu (fun _ _ _ _ k => lv_aload_n X.1.1 X.1.2.1 dX6_causeOf_61 rfl (lv_at hl 0 rfl) k) ?_
    refine J.pu (fun _ _ _ _ k => lv_iload_n X.1.1 X.1.2.1 dX6_causeOf_62 rfl (lv_at hl 1 rfl) k) ?_
    refine J.pu (fun _ _ _ _ k => lv_bipush (v := 7) X.1.1 X.1.2.1 dX6_causeOf_63 (by decide) k) ?_
    refine J.bind (fun v65 h65 => ?_)
    refine J.cV (q := (RX6, TX6, 26)) (ci := 5) (As := [.int a1, .int 7]) (rest := [.int 200]) (s2 := [.int v65, .int 200]) X ⟨rfl, rfl⟩ (ct_X6_of l hm σ n M a1 7) (jrd_of h65) (fun _ _ => cwV 2 X.1.2.2.2.2 (lw_V q2964 q2966 qs88 q174 q2967) rfl rfl rfl (by decide +kernel) ⟨(Nat.le_of_ble_eq_true rfl), (Nat.le_of_ble_eq_true rfl)⟩) mH_rc rfl rfl hl.1 rfl rfl (Nat.le_of_ble_eq_true rfl) dX6_causeOf_65 ?_
    refine J.pu (fun _ _ _ _ k => lv_iadd X.1.1 X.1.2.1 dX6_causeOf_68 k) ?_
    exact J.iret (vr := jrI) (fin := fun _ : Int32 => (mH mo A σ M)) (t := t) X hr (by rfl) (by rfl) dX6_causeOf_69
  refine J.ite (fun c5_3 => ?_) (fun c5_3 => ?_)
  · refine J.pu (fun _ _ _ _ k => lv_tableIn (tgt := 70) (off := 65) X.1.1 X.1.2.1 dX6_causeOf_5 (by rw [c5_3]; decide) (by rw [c5_3]; decide) (by rw [c5_3]; decide) (by decide) k) ?_
    refine J.pu (fun _ _ _ _ k => lv_sipush (v := 400) X.1.1 X.1.2.1 dX6_causeOf_70 (by decide) k) ?_
    refine J.pu (fun _ _ _ _ k => lv_aload_n X.1.1 X.1.2.1 dX6_causeOf_73 rfl (lv_at hl 0 rfl) k) ?_
    refine J.pu (fun _ _ _ _ k => lv_iload_n X.1.1 X.1.2.1 dX6_causeOf_74 rfl (lv_at hl 1 rfl) k) ?_
    refine J.pu (fun _ _ _ _ k => lv_iconst (v := 1) X.1.1 X.1.2.1 dX6_causeOf_75 (by decide) k) ?_
    refine J.bind (fun v76 h76 => ?_)
    refine J.cV (q := (RX6, TX6, 26)) (ci := 5) (As := [.int a1, .int 1]) (rest := [.int 400]) (s2 := [.int v76, .int 400]) X ⟨rfl, rfl⟩ (ct_X6_of l hm σ n M a1 1) (jrd_of h76) (fun _ _ => cwV 2 X.1.2.2.2.2 (lw_V q2964 q2966 qs88 q174 q2967) rfl rfl rfl (by decide +kernel) ⟨(Nat.le_of_ble_eq_true rfl), (Nat.le_of_ble_eq_true rfl)⟩) mH_rc rfl rfl hl.1 rfl rfl (Nat.le_of_ble_eq_true rfl) dX6_causeOf_76 ?_
    refine J.pu (fun _ _ _ _ k => lv_iadd X.1.1 X.1.2.1 dX6_causeOf_79 k) ?_
    exact J.iret (vr := jrI) (fin := fun _ : Int32 => (mH mo A σ M)) (t := t) X hr (by rfl) (by rfl) dX6_causeOf_80
  refine J.ite (fun c5_4 => ?_) (fun c5_4 => ?_)
  · refine J.pu (fun _ _ _ _ k => lv_tableIn (tgt := 81) (off := 76) X.1.1 X.1.2.1 dX6_causeOf_5 (by rw [c5_4]; decide) (by rw [c5_4]; decide) (by rw [c5_4]; decide) (by decide) k) ?_
    refine J.pu (fun _ _ _ _ k => lv_sipush (v := 600) X.1.1 X.1.2.1 dX6_causeOf_81 (by decide) k) ?_
    refine J.pu (fun _ _ _ _ k => lv_iconst (v := 0) X.1.1 X.1.2.1 dX6_causeOf_84 (by decide) k) ?_
    refine J.pu (fun _ _ _ _ k => lv_aload_n X.1.1 X.1.2.1 dX6_causeOf_85 rfl (lv_at hl 0 rfl) k) ?_
    refine J.pu (fun _ _ _ _ k => lv_iload_n X.1.1 X.1.2.1 dX6_causeOf_86 rfl (lv_at hl 1 rfl) k) ?_
    refine J.bind (fun v87 h87 => ?_)
    refine J.cV (q := (RX6, TX6, 26)) (ci := 5) (As := [.int a1]) (rest := [.int 0, .int 600]) (s2 := [.int v87, .int 0, .int 600]) X ⟨rfl, rfl⟩ (ct_X6_scannerIn l hm σ n M a1) (jrd_of h87) (fun _ _ => cwV 1 X.1.2.2.2.2 (lw_V q3139 q3141 qs120 q174 q3142) rfl rfl rfl (by decide +kernel) ⟨(Nat.le_of_ble_eq_true rfl), (Nat.le_of_ble_eq_true rfl)⟩) mH_rc rfl rfl hl.1 rfl rfl (Nat.le_of_ble_eq_true rfl) dX6_causeOf_87 ?_
    refine J.bind (fun v90 h90 => ?_)
    refine J.cS (As := [.int 0, .int v87]) (rest := [.int 600]) (s2 := [.int v90, .int 600]) X ⟨rfl, rfl⟩ (ct_J12_max l G (mH mo A σ M) n 0 v87) (jrd_of h90) (fun _ _ => va_cwS 2 X.1.2.2.2.2 (lw_S q2995 q329 q152 q330) rfl rfl rfl (by decide +kernel) ⟨(Nat.le_of_ble_eq_true rfl), (Nat.le_of_ble_eq_true rfl)⟩) rfl hl.1 rfl rfl (Nat.le_of_ble_eq_true rfl) dX6_causeOf_90 ?_
    refine J.pu (fun _ _ _ _ k => lv_iadd X.1.1 X.1.2.1 dX6_causeOf_93 k) ?_
    exact J.iret (vr := jrI) (fin := fun _ : Int32 => (mH mo A σ M)) (t := t) X hr (by rfl) (by rfl) dX6_causeOf_94
  refine J.ite (fun c5_5 => ?_) (fun c5_5 => ?_)
  · refine J.pu (fun _ _ _ _ k => lv_tableIn (tgt := 95) (off := 90) X.1.1 X.1.2.1 dX6_causeOf_5 (by rw [c5_5]; decide) (by rw [c5_5]; decide) (by rw [c5_5]; decide) (by decide) k) ?_
    refine J.pu (fun _ _ _ _ k => lv_sipush (v := 700) X.1.1 X.1.2.1 dX6_causeOf_95 (by decide) k) ?_
    refine J.pu (fun _ _ _ _ k => lv_aload_n X.1.1 X.1.2.1 dX6_causeOf_98 rfl (lv_at hl 0 rfl) k) ?_
    refine J.pu (fun _ _ _ _ k => lv_iload_n X.1.1 X.1.2.1 dX6_causeOf_99 rfl (lv_at hl 1 rfl) k) ?_
    refine J.pu (fun _ _ _ _ k => lv_iconst (v := 0) X.1.1 X.1.2.1 dX6_causeOf_100 (by decide) k) ?_
    refine J.bind (fun v101 h101 => ?_)
    refine J.cV (q := (RX6, TX6, 26)) (ci := 5) (As := [.int a1, .int 0]) (rest := [.int 700]) (s2 := [.int v101, .int 700]) X ⟨rfl, rfl⟩ (ct_X6_of l hm σ n M a1 0) (jrd_of h101) (fun _ _ => cwV 2 X.1.2.2.2.2 (lw_V q2964 q2966 qs88 q174 q2967) rfl rfl rfl (by decide +kernel) ⟨(Nat.le_of_ble_eq_true rfl), (Nat.le_of_ble_eq_true rfl)⟩) mH_rc rfl rfl hl.1 rfl rfl (Nat.le_of_ble_eq_true rfl) dX6_causeOf_101 ?_
    refine J.pu (fun _ _ _ _ k => lv_iadd X.1.1 X.1.2.1 dX6_causeOf_104 k) ?_
    exact J.iret (vr := jrI) (fin := fun _ : Int32 => (mH mo A σ M)) (t := t) X hr (by rfl) (by rfl) dX6_causeOf_105
  refine J.ite (fun c5_6 => ?_) (fun c5_6 => ?_)
  · refine J.pu (fun _ _ _ _ k => lv_tableIn (tgt := 106) (off := 101) X.1.1 X.1.2.1 dX6_causeOf_5 (by rw [c5_6]; decide) (by rw [c5_6]; decide) (by rw [c5_6]; decide) (by decide) k) ?_
    refine J.pu (fun _ _ _ _ k => lv_sipush (v := 900) X.1.1 X.1.2.1 dX6_causeOf_106 (by decide) k) ?_
    refine J.pu (fun _ _ _ _ k => lv_aload_n X.1.1 X.1.2.1 dX6_causeOf_109 rfl (lv_at hl 0 rfl) k) ?_
    refine J.pu (fun _ _ _ _ k => lv_iload_n X.1.1 X.1.2.1 dX6_causeOf_110 rfl (lv_at hl 1 rfl) k) ?_
    refine J.bind (fun v111 h111 => ?_)
    refine J.cV (q := (RX6, TX6, 26)) (ci := 5) (As := [.int a1]) (rest := [.int 900]) (s2 := [.int v111, .int 900]) X ⟨rfl, rfl⟩ (ct_X6_lagOf l hm σ n M a1) (jrd_of h111) (fun _ _ => cwV 1 X.1.2.2.2.2 (lw_V q3008 q3010 qs98 q174 q3011) rfl rfl rfl (by decide +kernel) ⟨(Nat.le_of_ble_eq_true rfl), (Nat.le_of_ble_eq_true rfl)⟩) mH_rc rfl rfl hl.1 rfl rfl (Nat.le_of_ble_eq_true rfl) dX6_causeOf_111 ?_
    refine J.pu (fun _ _ _ _ k => lv_iadd X.1.1 X.1.2.1 dX6_causeOf_114 k) ?_
    exact J.iret (vr := jrI) (fin := fun _ : Int32 => (mH mo A σ M)) (t := t) X hr (by rfl) (by rfl) dX6_causeOf_115
  refine J.ite (fun c5_7 => ?_) (fun c5_7 => ?_)
  · refine J.pu (fun _ _ _ _ k => lv_tableIn (tgt := 116) (off := 111) X.1.1 X.1.2.1 dX6_causeOf_5 (by rw [c5_7]; decide) (by rw [c5_7]; decide) (by rw [c5_7]; decide) (by decide) k) ?_
    refine J.pu (fun _ _ _ _ k => lv_sipush (v := 1100) X.1.1 X.1.2.1 dX6_causeOf_116 (by decide) k) ?_
    refine J.pu (fun _ _ _ _ k => lv_aload_n X.1.1 X.1.2.1 dX6_causeOf_119 rfl (lv_at hl 0 rfl) k) ?_
    refine J.pu (fun _ _ _ _ k => lv_iload_n X.1.1 X.1.2.1 dX6_causeOf_120 rfl (lv_at hl 1 rfl) k) ?_
    refine J.bind (fun v121 h121 => ?_)
    refine J.cV (q := (RX6, TX6, 26)) (ci := 5) (As := [.int a1]) (rest := [.int 1100]) (s2 := [.int v121, .int 1100]) X ⟨rfl, rfl⟩ (ct_X6_chuteIn l hm σ n M a1) (jrd_of h121) (fun _ _ => cwV 1 X.1.2.2.2.2 (lw_V q3152 q3154 qs122 q174 q3155) rfl rfl rfl (by decide +kernel) ⟨(Nat.le_of_ble_eq_true rfl), (Nat.le_of_ble_eq_true rfl)⟩) mH_rc rfl rfl hl.1 rfl rfl (Nat.le_of_ble_eq_true rfl) dX6_causeOf_121 ?_
    refine J.pu (fun _ _ _ _ k => lv_iadd X.1.1 X.1.2.1 dX6_causeOf_124 k) ?_
    exact J.iret (vr := jrI) (fin := fun _ : Int32 => (mH mo A σ M)) (t := t) X hr (by rfl) (by rfl) dX6_causeOf_125
  by_cases b5 : v2.toInt < 1 ∨ 7 < v2.toInt
  · refine J.pu (fun _ _ _ _ k => lv_tableOut (tgt := 126) X.1.1 X.1.2.1 dX6_causeOf_5 b5 (by decide) k) ?_
    refine J.pu (fun _ _ _ _ k => lv_iconst (v := 0) X.1.1 X.1.2.1 dX6_causeOf_126 (by decide) k) ?_
    exact J.iret (vr := jrI) (fin := fun _ : Int32 => (mH mo A σ M)) (t := t) X hr (by rfl) (by rfl) dX6_causeOf_127
  · exfalso; have := lv_neT c5_1 (a := 1) rfl; have := lv_neT c5_2 (a := 2) rfl; have := lv_neT c5_3 (a := 3) rfl; have := lv_neT c5_4 (a := 4) rfl; have := lv_neT c5_5 (a := 5) rfl; have := lv_neT c5_6 (a := 6) rfl; have := lv_neT c5_7 (a := 7) rfl; omega
noncomputable def X6_deeperOf (n : Nat) (M : jM) (a1 : Int32) : Option (Int32) :=
  (X6_of n M a1 0).bind fun v3 => (X6_reasonOf n M a1).bind fun v9 => if v9 = 2 then (some (300 + v3)) else if v9 = 3 then ((X6_scannerIn n M a1).bind fun v60 => (J12_max n 0 v60).bind fun v63 => some (500 + v63)) else if v9 = 5 then ((X6_ofChute n M v3 6).bind fun v75 => some (800 + v75)) else if v9 = 6 then ((X6_ofChute n M v3 2).bind fun v86 => some (1000 + v86)) else some 0
set_option maxHeartbeats 4000000 in
set_option maxRecDepth 100000 in
theorem ct_X6_deeperOf (l : Launch) {G : jG} {mo : Nat} {A : Nat → Nat} (hm : mOK G mo A) (σ : jH) (n : Nat) (M : jM) (a1 : Int32) : jCt l G yX6_deeperOf (ws_ yX6_deeperOf cX6_deeperOf 3 (some .int)) 4 91 jrI [.ref mo, .int a1] (mH mo A σ M) (jrd (mH mo A σ M) (X6_deeperOf n M a1)) := by
  refine jCt.rd (lv := [(0, .ref mo), (1, .int a1)]) (plainFor_of_name (by decide)) (Nat.le_of_ble_eq_true rfl) rfl ?_
  intro t p e s m args below meth c ls X hr hnm hl
  have X : jCx p c cX6_deeperOf 3 s m args RX6 G meth := X
  unfold X6_deeperOf
  refine J.pu (fun _ _ _ _ k => lv_aload_n X.1.1 X.1.2.1 dX6_deeperOf_0 rfl (lv_at hl 0 rfl) k) ?_
  refine J.pu (fun _ _ _ _ k => lv_iload_n X.1.1 X.1.2.1 dX6_deeperOf_1 rfl (lv_at hl 1 rfl) k) ?_
  refine J.pu (fun _ _ _ _ k => lv_iconst (v := 0) X.1.1 X.1.2.1 dX6_deeperOf_2 (by decide) k) ?_
  refine J.bind (fun v3 h3 => ?_)
  refine J.cV (q := (RX6, TX6, 26)) (ci := 5) (As := [.int a1, .int 0]) (rest := []) (s2 := [.int v3]) X ⟨rfl, rfl⟩ (ct_X6_of l hm σ n M a1 0) (jrd_of h3) (fun _ _ => cwV 2 X.1.2.2.2.2 (lw_V q2964 q2966 qs88 q174 q2967) rfl rfl rfl (by decide +kernel) ⟨(Nat.le_of_ble_eq_true rfl), (Nat.le_of_ble_eq_true rfl)⟩) mH_rc rfl rfl hl.1 rfl rfl (Nat.le_of_ble_eq_true rfl) dX6_deeperOf_3 ?_
  refine J.istore_n (i := 2) (lv' := [(2, .int v3), (0, .ref mo), (1, .int a1)]) X.1.1 X.1.2.1 dX6_deeperOf_6 rfl hl (by decide) (by first | rfl | simp [va_rf_cat, jcI, jcA, jcJ, jcD, jcF]) (fun ls hl => ?_)
  refine J.pu (fun _ _ _ _ k => lv_aload_n X.1.1 X.1.2.1 dX6_deeperOf_7 rfl (lv_at hl 1 rfl) k) ?_
  refine J.pu (fun _ _ _ _ k => lv_iload_n X.1.1 X.1.2.1 dX6_deeperOf_8 rfl (lv_at hl 2 rfl) k) ?_
  refine J.bind (fun v9 h9 => ?_)
  refine J.cV (q := (RX6, TX6, 26)) (ci := 5) (As := [.int a1]) (rest := []) (s2 := [.int v9]) X ⟨rfl, rfl⟩ (ct_X6_reasonOf l hm σ n M a1) (jrd_of h9) (fun _ _ => cwV 1 X.1.2.2.2.2 (lw_V q3160 q3162 qs123 q174 q3163) rfl rfl rfl (by decide +kernel) ⟨(Nat.le_of_ble_eq_true rfl), (Nat.le_of_ble_eq_true rfl)⟩) mH_rc rfl rfl hl.1 rfl rfl (Nat.le_of_ble_eq_true rfl) dX6_deeperOf_9 ?_
  refine J.ite (fun c12_2 => ?_) (fun c12_2 => ?_)
  · refine J.pu (fun _ _ _ _ k => lv_tableIn (tgt := 48) (off := 36) X.1.1 X.1.2.1 dX6_deeperOf_12 (by rw [c12_2]; decide) (by rw [c12_2]; decide) (by rw [c12_2]; decide) (by decide) k) ?_
    refine J.pu (fun _ _ _ _ k => lv_sipush (v := 300) X.1.1 X.1.2.1 dX6_deeperOf_48 (by decide) k) ?_
    refine J.pu (fun _ _ _ _ k => lv_iload_n X.1.1 X.1.2.1 dX6_deeperOf_51 rfl (lv_at hl 0 rfl) k) ?_
    refine J.pu (fun _ _ _ _ k => lv_iadd X.1.1 X.1.2.1 dX6_deeperOf_52 k) ?_
    exact J.iret (vr := jrI) (fin := fun _ : Int32 => (mH mo A σ M)) (t := t) X hr (by rfl) (by rfl) dX6_deeperOf_53
  refine J.ite (fun c12_3 => ?_) (fun c12_3 => ?_)
  · refine J.pu (fun _ _ _ _ k => lv_tableIn (tgt := 54) (off := 42) X.1.1 X.1.2.1 dX6_deeperOf_12 (by rw [c12_3]; decide) (by rw [c12_3]; decide) (by rw [c12_3]; decide) (by decide) k) ?_
    refine J.pu (fun _ _ _ _ k => lv_sipush (v := 500) X.1.1 X.1.2.1 dX6_deeperOf_54 (by decide) k) ?_
    refine J.pu (fun _ _ _ _ k => lv_iconst (v := 0) X.1.1 X.1.2.1 dX6_deeperOf_57 (by decide) k) ?_
    refine J.pu (fun _ _ _ _ k => lv_aload_n X.1.1 X.1.2.1 dX6_deeperOf_58 rfl (lv_at hl 1 rfl) k) ?_
    refine J.pu (fun _ _ _ _ k => lv_iload_n X.1.1 X.1.2.1 dX6_deeperOf_59 rfl (lv_at hl 2 rfl) k) ?_
    refine J.bind (fun v60 h60 => ?_)
    refine J.cV (q := (RX6, TX6, 26)) (ci := 5) (As := [.int a1]) (rest := [.int 0, .int 500]) (s2 := [.int v60, .int 0, .int 500]) X ⟨rfl, rfl⟩ (ct_X6_scannerIn l hm σ n M a1) (jrd_of h60) (fun _ _ => cwV 1 X.1.2.2.2.2 (lw_V q3139 q3141 qs120 q174 q3142) rfl rfl rfl (by decide +kernel) ⟨(Nat.le_of_ble_eq_true rfl), (Nat.le_of_ble_eq_true rfl)⟩) mH_rc rfl rfl hl.1 rfl rfl (Nat.le_of_ble_eq_true rfl) dX6_deeperOf_60 ?_
    refine J.bind (fun v63 h63 => ?_)
    refine J.cS (As := [.int 0, .int v60]) (rest := [.int 500]) (s2 := [.int v63, .int 500]) X ⟨rfl, rfl⟩ (ct_J12_max l G (mH mo A σ M) n 0 v60) (jrd_of h63) (fun _ _ => va_cwS 2 X.1.2.2.2.2 (lw_S q2995 q329 q152 q330) rfl rfl rfl (by decide +kernel) ⟨(Nat.le_of_ble_eq_true rfl), (Nat.le_of_ble_eq_true rfl)⟩) rfl hl.1 rfl rfl (Nat.le_of_ble_eq_true rfl) dX6_deeperOf_63 ?_
    refine J.pu (fun _ _ _ _ k => lv_iadd X.1.1 X.1.2.1 dX6_deeperOf_66 k) ?_
    exact J.iret (vr := jrI) (fin := fun _ : Int32 => (mH mo A σ M)) (t := t) X hr (by rfl) (by rfl) dX6_deeperOf_67
  refine J.ite (fun c12_5 => ?_) (fun c12_5 => ?_)
  · refine J.pu (fun _ _ _ _ k => lv_tableIn (tgt := 68) (off := 56) X.1.1 X.1.2.1 dX6_deeperOf_12 (by rw [c12_5]; decide) (by rw [c12_5]; decide) (by rw [c12_5]; decide) (by decide) k) ?_
    refine J.pu (fun _ _ _ _ k => lv_sipush (v := 800) X.1.1 X.1.2.1 dX6_deeperOf_68 (by decide) k) ?_
    refine J.pu (fun _ _ _ _ k => lv_aload_n X.1.1 X.1.2.1 dX6_deeperOf_71 rfl (lv_at hl 1 rfl) k) ?_
    refine J.pu (fun _ _ _ _ k => lv_iload_n X.1.1 X.1.2.1 dX6_deeperOf_72 rfl (lv_at hl 0 rfl) k) ?_
    refine J.pu (fun _ _ _ _ k => lv_bipush (v := 6) X.1.1 X.1.2.1 dX6_deeperOf_73 (by decide) k) ?_
    refine J.bind (fun v75 h75 => ?_)
    refine J.cV (q := (RX6, TX6, 26)) (ci := 5) (As := [.int v3, .int 6]) (rest := [.int 800]) (s2 := [.int v75, .int 800]) X ⟨rfl, rfl⟩ (ct_X6_ofChute l hm σ n M v3 6) (jrd_of h75) (fun _ _ => cwV 2 X.1.2.2.2.2 (lw_V q2908 q2910 qs77 q174 q2911) rfl rfl rfl (by decide +kernel) ⟨(Nat.le_of_ble_eq_true rfl), (Nat.le_of_ble_eq_true rfl)⟩) mH_rc rfl rfl hl.1 rfl rfl (Nat.le_of_ble_eq_true rfl) dX6_deeperOf_75 ?_
    refine J.pu (fun _ _ _ _ k => lv_iadd X.1.1 X.1.2.1 dX6_deeperOf_78 k) ?_
    exact J.iret (vr := jrI) (fin := fun _ : Int32 => (mH mo A σ M)) (t := t) X hr (by rfl) (by rfl) dX6_deeperOf_79
  refine J.ite (fun c12_6 => ?_) (fun c12_6 => ?_)
  · refine J.pu (fun _ _ _ _ k => lv_tableIn (tgt := 80) (off := 68) X.1.1 X.1.2.1 dX6_deeperOf_12 (by rw [c12_6]; decide) (by rw [c12_6]; decide) (by rw [c12_6]; decide) (by decide) k) ?_
    refine J.pu (fun _ _ _ _ k => lv_sipush (v := 1000) X.1.1 X.1.2.1 dX6_deeperOf_80 (by decide) k) ?_
    refine J.pu (fun _ _ _ _ k => lv_aload_n X.1.1 X.1.2.1 dX6_deeperOf_83 rfl (lv_at hl 1 rfl) k) ?_
    refine J.pu (fun _ _ _ _ k => lv_iload_n X.1.1 X.1.2.1 dX6_deeperOf_84 rfl (lv_at hl 0 rfl) k) ?_
    refine J.pu (fun _ _ _ _ k => lv_iconst (v := 2) X.1.1 X.1.2.1 dX6_deeperOf_85 (by decide) k) ?_
    refine J.bind (fun v86 h86 => ?_)
    refine J.cV (q := (RX6, TX6, 26)) (ci := 5) (As := [.int v3, .int 2]) (rest := [.int 1000]) (s2 := [.int v86, .int 1000]) X ⟨rfl, rfl⟩ (ct_X6_ofChute l hm σ n M v3 2) (jrd_of h86) (fun _ _ => cwV 2 X.1.2.2.2.2 (lw_V q2908 q2910 qs77 q174 q2911) rfl rfl rfl (by decide +kernel) ⟨(Nat.le_of_ble_eq_true rfl), (Nat.le_of_ble_eq_true rfl)⟩) mH_rc rfl rfl hl.1 rfl rfl (Nat.le_of_ble_eq_true rfl) dX6_deeperOf_86 ?_
    refine J.pu (fun _ _ _ _ k => lv_iadd X.1.1 X.1.2.1 dX6_deeperOf_89 k) ?_
    exact J.iret (vr := jrI) (fin := fun _ : Int32 => (mH mo A σ M)) (t := t) X hr (by rfl) (by rfl) dX6_deeperOf_90
  by_cases b12 : v9.toInt < 2 ∨ 6 < v9.toInt
  · refine J.pu (fun _ _ _ _ k => lv_tableOut (tgt := 91) X.1.1 X.1.2.1 dX6_deeperOf_12 b12 (by decide) k) ?_
    refine J.pu (fun _ _ _ _ k => lv_iconst (v := 0) X.1.1 X.1.2.1 dX6_deeperOf_91 (by decide) k) ?_
    exact J.iret (vr := jrI) (fin := fun _ : Int32 => (mH mo A σ M)) (t := t) X hr (by rfl) (by rfl) dX6_deeperOf_92
  · by_cases e12_4 : v9 = 4
    · refine J.pu (fun _ _ _ _ k => lv_tableIn (tgt := 91) (off := 79) X.1.1 X.1.2.1 dX6_deeperOf_12 (by rw [e12_4]; decide) (by rw [e12_4]; decide) (by rw [e12_4]; decide) (by decide) k) ?_
      refine J.pu (fun _ _ _ _ k => lv_iconst (v := 0) X.1.1 X.1.2.1 dX6_deeperOf_91 (by decide) k) ?_
      exact J.iret (vr := jrI) (fin := fun _ : Int32 => (mH mo A σ M)) (t := t) X hr (by rfl) (by rfl) dX6_deeperOf_92
    exfalso; have := lv_neT c12_2 (a := 2) rfl; have := lv_neT c12_3 (a := 3) rfl; have := lv_neT c12_5 (a := 5) rfl; have := lv_neT c12_6 (a := 6) rfl; have := lv_neT e12_4 (a := 4) rfl; omega
noncomputable def X6_why_j28 (n : Nat) (a1 : Int32) (a2 : Int32) (s1_28 : Int32) (B28 : jM) : Option (Int32 × jM) :=
  bd (X6_fails n B28 s1_28 2) fun v29 M29 => if v29 = 0 then (if a2 = 0 then ((X6_reasonOf n M29 a1).bind fun v43 => some (v43, M29)) else (if a2 = 1 then ((X6_causeOf n M29 a1).bind fun v56 => some (v56, M29)) else ((X6_deeperOf n M29 a1).bind fun v64 => some (v64, M29)))) else (some (0, M29))
noncomputable def X6_why (n : Nat) (M : jM) (a1 : Int32) (a2 : Int32) : Option (Int32 × jM) :=
  bd (X6_noParcel n (mP M 7 0) a1) fun v7 M7 => if v7 = 0 then ((X6_inRange n M7 a2 0 2).bind fun v17 => if v17 = 0 then (X6_why_j28 n a1 a2 1 M7) else (X6_why_j28 n a1 a2 0 M7)) else (some (0, M7))
set_option maxHeartbeats 4000000 in
set_option maxRecDepth 100000 in
theorem ct_X6_why (l : Launch) {G : jG} {mo : Nat} {A : Nat → Nat} (hm : mOK G mo A) (σ : jH) (n : Nat) (M : jM) (a1 : Int32) (a2 : Int32) : jCt l G yX6_why (ws_ yX6_why cX6_why 3 (some .int)) 5 113 jrI [.ref mo, .int a1, .int a2] (mH mo A σ M) (mup mo A σ (X6_why n M a1 a2)) := by
  refine jCt.wm (lv := [(0, .ref mo), (1, .int a1), (2, .int a2)]) (plainFor_of_name (by decide)) (Nat.le_of_ble_eq_true rfl) rfl ?_
  intro t p e s m args below meth c ls X hr hnm hl
  have X : jCx p c cX6_why 3 s m args RX6 G meth := X
  have j28 : ∀ (s1_28 : Int32) (B28 : jM) (ls : Array Slot), lv_has ls 3 [(0, .ref mo), (1, .int a1), (2, .int a2)] → jGo l G 5 113 (mH mo A σ M) (fun r : Int32 × jM => mH mo A σ r.2) (fun t => jrI t.1) t p e s m args below meth c (X6_why_j28 n a1 a2 s1_28 B28) (mH mo A σ B28) (F0 m 28 ls [.int s1_28, .ref mo]) := by
    intro s1_28 B28 ls hl
    unfold X6_why_j28
    refine J.pu (fun _ _ _ _ k => lv_iconst (v := 2) X.1.1 X.1.2.1 dX6_why_28 (by decide) k) ?_
    refine J.bd' (fun v29 M29 h29 => ?_)
    refine J.cV (q := (RX6, TX6, 26)) (ci := 5) (As := [.int s1_28, .int 2]) (rest := []) (s2 := [.int v29]) X ⟨rfl, rfl⟩ (ct_X6_fails l hm σ n B28 s1_28 2) (mup_of h29) (fun _ _ => cwV 2 X.1.2.2.2.2 (lw_V q3075 q3077 qs111 q174 q3078) rfl rfl rfl (by decide +kernel) ⟨(Nat.le_of_ble_eq_true rfl), (Nat.le_of_ble_eq_true rfl)⟩) mH_rc rfl rfl hl.1 rfl rfl (Nat.le_of_ble_eq_true rfl) dX6_why_29 ?_
    refine J.br (fun _ _ _ _ ka kb => lv_if_eq (tgt := 37) X.1.1 X.1.2.1 dX6_why_32 (by decide) ka kb) (fun c32 => ?_) (fun c32 => ?_)
    · refine J.pu (fun _ _ _ _ k => lv_iload_n X.1.1 X.1.2.1 dX6_why_37 rfl (lv_at hl 2 rfl) k) ?_
      refine J.br (fun _ _ _ _ ka kb => lv_if_ne (tgt := 49) X.1.1 X.1.2.1 dX6_why_38 (by decide) kb ka) (fun c38 => ?_) (fun c38 => ?_)
      · refine J.pu (fun _ _ _ _ k => lv_aload_n X.1.1 X.1.2.1 dX6_why_41 rfl (lv_at hl 0 rfl) k) ?_
        refine J.pu (fun _ _ _ _ k => lv_iload_n X.1.1 X.1.2.1 dX6_why_42 rfl (lv_at hl 1 rfl) k) ?_
        refine J.bind (fun v43 h43 => ?_)
        refine J.cV (q := (RX6, TX6, 26)) (ci := 5) (As := [.int a1]) (rest := []) (s2 := [.int v43]) X ⟨rfl, rfl⟩ (ct_X6_reasonOf l hm σ n M29 a1) (jrd_of h43) (fun _ _ => cwV 1 X.1.2.2.2.2 (lw_V q3160 q3162 qs123 q174 q3163) rfl rfl rfl (by decide +kernel) ⟨(Nat.le_of_ble_eq_true rfl), (Nat.le_of_ble_eq_true rfl)⟩) mH_rc rfl rfl hl.1 rfl rfl (Nat.le_of_ble_eq_true rfl) dX6_why_43 ?_
        refine J.pu (fun _ _ _ _ k => lv_goto (tgt := 67) X.1.1 X.1.2.1 dX6_why_46 (by decide) k) ?_
        exact J.iret (vr := fun t : Int32 × jM => jrI t.1) (fin := fun r : Int32 × jM => mH mo A σ r.2) (t := t) X hr (by rfl) (by rfl) dX6_why_67
      · refine J.pu (fun _ _ _ _ k => lv_iload_n X.1.1 X.1.2.1 dX6_why_49 rfl (lv_at hl 2 rfl) k) ?_
        refine J.pu (fun _ _ _ _ k => lv_iconst (v := 1) X.1.1 X.1.2.1 dX6_why_50 (by decide) k) ?_
        refine J.br (fun _ _ _ _ ka kb => lv_icmp_ne (tgt := 62) X.1.1 X.1.2.1 dX6_why_51 (by decide) kb ka) (fun c51 => ?_) (fun c51 => ?_)
        · refine J.pu (fun _ _ _ _ k => lv_aload_n X.1.1 X.1.2.1 dX6_why_54 rfl (lv_at hl 0 rfl) k) ?_
          refine J.pu (fun _ _ _ _ k => lv_iload_n X.1.1 X.1.2.1 dX6_why_55 rfl (lv_at hl 1 rfl) k) ?_
          refine J.bind (fun v56 h56 => ?_)
          refine J.cV (q := (RX6, TX6, 26)) (ci := 5) (As := [.int a1]) (rest := []) (s2 := [.int v56]) X ⟨rfl, rfl⟩ (ct_X6_causeOf l hm σ n M29 a1) (jrd_of h56) (fun _ _ => cwV 1 X.1.2.2.2.2 (lw_V q3164 q3166 qs124 q174 q3167) rfl rfl rfl (by decide +kernel) ⟨(Nat.le_of_ble_eq_true rfl), (Nat.le_of_ble_eq_true rfl)⟩) mH_rc rfl rfl hl.1 rfl rfl (Nat.le_of_ble_eq_true rfl) dX6_why_56 ?_
          refine J.pu (fun _ _ _ _ k => lv_goto (tgt := 67) X.1.1 X.1.2.1 dX6_why_59 (by decide) k) ?_
          exact J.iret (vr := fun t : Int32 × jM => jrI t.1) (fin := fun r : Int32 × jM => mH mo A σ r.2) (t := t) X hr (by rfl) (by rfl) dX6_why_67
        · refine J.pu (fun _ _ _ _ k => lv_aload_n X.1.1 X.1.2.1 dX6_why_62 rfl (lv_at hl 0 rfl) k) ?_
          refine J.pu (fun _ _ _ _ k => lv_iload_n X.1.1 X.1.2.1 dX6_why_63 rfl (lv_at hl 1 rfl) k) ?_
          refine J.bind (fun v64 h64 => ?_)
          refine J.cV (q := (RX6, TX6, 26)) (ci := 5) (As := [.int a1]) (rest := []) (s2 := [.int v64]) X ⟨rfl, rfl⟩ (ct_X6_deeperOf l hm σ n M29 a1) (jrd_of h64) (fun _ _ => cwV 1 X.1.2.2.2.2 (lw_V q3168 q3170 qs125 q174 q3171) rfl rfl rfl (by decide +kernel) ⟨(Nat.le_of_ble_eq_true rfl), (Nat.le_of_ble_eq_true rfl)⟩) mH_rc rfl rfl hl.1 rfl rfl (Nat.le_of_ble_eq_true rfl) dX6_why_64 ?_
          exact J.iret (vr := fun t : Int32 × jM => jrI t.1) (fin := fun r : Int32 × jM => mH mo A σ r.2) (t := t) X hr (by rfl) (by rfl) dX6_why_67
    · refine J.pu (fun _ _ _ _ k => lv_iconst (v := 0) X.1.1 X.1.2.1 dX6_why_35 (by decide) k) ?_
      exact J.iret (vr := fun t : Int32 × jM => jrI t.1) (fin := fun r : Int32 × jM => mH mo A σ r.2) (t := t) X hr (by rfl) (by rfl) dX6_why_36
  unfold X6_why
  refine J.pu (fun _ _ _ _ k => lv_aload_n X.1.1 X.1.2.1 dX6_why_0 rfl (lv_at hl 0 rfl) k) ?_
  refine J.pu (fun _ _ _ _ k => lv_iconst (v := 0) X.1.1 X.1.2.1 dX6_why_1 (by decide) k) ?_
  refine J.mpS (k := 7) X hm (by decide) q2737 rfl rfl rfl dX6_why_2 ?_
  refine J.pu (fun _ _ _ _ k => lv_aload_n X.1.1 X.1.2.1 dX6_why_5 rfl (lv_at hl 0 rfl) k) ?_
  refine J.pu (fun _ _ _ _ k => lv_iload_n X.1.1 X.1.2.1 dX6_why_6 rfl (lv_at hl 1 rfl) k) ?_
  refine J.bd' (fun v7 M7 h7 => ?_)
  refine J.cV (q := (RX6, TX6, 26)) (ci := 5) (As := [.int a1]) (rest := []) (s2 := [.int v7]) X ⟨rfl, rfl⟩ (ct_X6_noParcel l hm σ n (mP M 7 0) a1) (mup_of h7) (fun _ _ => cwV 1 X.1.2.2.2.2 (lw_V q3107 q3109 qs116 q174 q3110) rfl rfl rfl (by decide +kernel) ⟨(Nat.le_of_ble_eq_true rfl), (Nat.le_of_ble_eq_true rfl)⟩) mH_rc rfl rfl hl.1 rfl rfl (Nat.le_of_ble_eq_true rfl) dX6_why_7 ?_
  refine J.br (fun _ _ _ _ ka kb => lv_if_ne (tgt := 35) X.1.1 X.1.2.1 dX6_why_10 (by decide) kb ka) (fun c10 => ?_) (fun c10 => ?_)
  · refine J.pu (fun _ _ _ _ k => lv_aload_n X.1.1 X.1.2.1 dX6_why_13 rfl (lv_at hl 0 rfl) k) ?_
    refine J.pu (fun _ _ _ _ k => lv_iload_n X.1.1 X.1.2.1 dX6_why_14 rfl (lv_at hl 2 rfl) k) ?_
    refine J.pu (fun _ _ _ _ k => lv_iconst (v := 0) X.1.1 X.1.2.1 dX6_why_15 (by decide) k) ?_
    refine J.pu (fun _ _ _ _ k => lv_iconst (v := 2) X.1.1 X.1.2.1 dX6_why_16 (by decide) k) ?_
    refine J.bind (fun v17 h17 => ?_)
    refine J.cS (As := [.int a2, .int 0, .int 2]) (rest := [.ref mo]) (s2 := [.int v17, .ref mo]) X ⟨rfl, rfl⟩ (ct_X6_inRange l hm σ n M7 a2 0 2) (jrd_of h17) (fun _ _ => va_cwS 3 X.1.2.2.2.2 (lw_S q2825 q2826 q174 q2827) rfl rfl rfl (by decide +kernel) ⟨(Nat.le_of_ble_eq_true rfl), (Nat.le_of_ble_eq_true rfl)⟩) rfl hl.1 rfl rfl (Nat.le_of_ble_eq_true rfl) dX6_why_17 ?_
    refine J.br (fun _ _ _ _ ka kb => lv_if_ne (tgt := 27) X.1.1 X.1.2.1 dX6_why_20 (by decide) kb ka) (fun c20 => ?_) (fun c20 => ?_)
    · refine J.pu (fun _ _ _ _ k => lv_iconst (v := 1) X.1.1 X.1.2.1 dX6_why_23 (by decide) k) ?_
      refine J.pu (fun _ _ _ _ k => lv_goto (tgt := 28) X.1.1 X.1.2.1 dX6_why_24 (by decide) k) ?_
      exact j28 1 M7 ls (lv_sub hl [0, 1, 2] rfl)
    · refine J.pu (fun _ _ _ _ k => lv_iconst (v := 0) X.1.1 X.1.2.1 dX6_why_27 (by decide) k) ?_
      exact j28 0 M7 ls (lv_sub hl [0, 1, 2] rfl)
  · refine J.pu (fun _ _ _ _ k => lv_iconst (v := 0) X.1.1 X.1.2.1 dX6_why_35 (by decide) k) ?_
    exact J.iret (vr := fun t : Int32 × jM => jrI t.1) (fin := fun r : Int32 × jM => mH mo A σ r.2) (t := t) X hr (by rfl) (by rfl) dX6_why_36
noncomputable def X6_whyNoPut (n : Nat) (M : jM) : Option (Int32 × jM) :=
  (X6_barsPut n (mP M 7 0)).bind fun v6 => some (v6, (mP M 7 0))
set_option maxHeartbeats 4000000 in
set_option maxRecDepth 100000 in
theorem ct_X6_whyNoPut (l : Launch) {G : jG} {mo : Nat} {A : Nat → Nat} (hm : mOK G mo A) (σ : jH) (n : Nat) (M : jM) : jCt l G yX6_whyNoPut (ws_ yX6_whyNoPut cX6_whyNoPut 1 (some .int)) 4 85 jrI [.ref mo] (mH mo A σ M) (mup mo A σ (X6_whyNoPut n M)) := by
  refine jCt.wm (lv := [(0, .ref mo)]) (plainFor_of_name (by decide)) (Nat.le_of_ble_eq_true rfl) rfl ?_
  intro t p e s m args below meth c ls X hr hnm hl
  have X : jCx p c cX6_whyNoPut 1 s m args RX6 G meth := X
  unfold X6_whyNoPut
  refine J.pu (fun _ _ _ _ k => lv_aload_n X.1.1 X.1.2.1 dX6_whyNoPut_0 rfl (lv_at hl 0 rfl) k) ?_
  refine J.pu (fun _ _ _ _ k => lv_iconst (v := 0) X.1.1 X.1.2.1 dX6_whyNoPut_1 (by decide) k) ?_
  refine J.mpS (k := 7) X hm (by decide) q2737 rfl rfl rfl dX6_whyNoPut_2 ?_
  refine J.pu (fun _ _ _ _ k => lv_aload_n X.1.1 X.1.2.1 dX6_whyNoPut_5 rfl (lv_at hl 0 rfl) k) ?_
  refine J.bind (fun v6 h6 => ?_)
  refine J.cV (q := (RX6, TX6, 26)) (ci := 5) (As := []) (rest := []) (s2 := [.int v6]) X ⟨rfl, rfl⟩ (ct_X6_barsPut l hm σ n (mP M 7 0)) (jrd_of h6) (fun _ _ => cwV 0 X.1.2.2.2.2 (lw_V q2952 q2954 qs85 q174 q2955) rfl rfl rfl (by decide +kernel) ⟨(Nat.le_of_ble_eq_true rfl), (Nat.le_of_ble_eq_true rfl)⟩) mH_rc rfl rfl hl.1 rfl rfl (Nat.le_of_ble_eq_true rfl) dX6_whyNoPut_6 ?_
  exact J.iret (vr := fun t : Int32 × jM => jrI t.1) (fin := fun r : Int32 × jM => mH mo A σ r.2) (t := t) X hr (by rfl) (by rfl) dX6_whyNoPut_9
noncomputable def X6_whyNoSlip (n : Nat) (M : jM) (a1 : Int32) : Option (Int32 × jM) :=
  bd (X6_noParcel n (mP M 7 0) a1) fun v7 M7 => if v7 = 0 then ((X6_barsSlip n M7 a1).bind fun v19 => some (v19, M7)) else (some (0, M7))
set_option maxHeartbeats 4000000 in
set_option maxRecDepth 100000 in
theorem ct_X6_whyNoSlip (l : Launch) {G : jG} {mo : Nat} {A : Nat → Nat} (hm : mOK G mo A) (σ : jH) (n : Nat) (M : jM) (a1 : Int32) : jCt l G yX6_whyNoSlip (ws_ yX6_whyNoSlip cX6_whyNoSlip 2 (some .int)) 4 86 jrI [.ref mo, .int a1] (mH mo A σ M) (mup mo A σ (X6_whyNoSlip n M a1)) := by
  refine jCt.wm (lv := [(0, .ref mo), (1, .int a1)]) (plainFor_of_name (by decide)) (Nat.le_of_ble_eq_true rfl) rfl ?_
  intro t p e s m args below meth c ls X hr hnm hl
  have X : jCx p c cX6_whyNoSlip 2 s m args RX6 G meth := X
  unfold X6_whyNoSlip
  refine J.pu (fun _ _ _ _ k => lv_aload_n X.1.1 X.1.2.1 dX6_whyNoSlip_0 rfl (lv_at hl 0 rfl) k) ?_
  refine J.pu (fun _ _ _ _ k => lv_iconst (v := 0) X.1.1 X.1.2.1 dX6_whyNoSlip_1 (by decide) k) ?_
  refine J.mpS (k := 7) X hm (by decide) q2737 rfl rfl rfl dX6_whyNoSlip_2 ?_
  refine J.pu (fun _ _ _ _ k => lv_aload_n X.1.1 X.1.2.1 dX6_whyNoSlip_5 rfl (lv_at hl 0 rfl) k) ?_
  refine J.pu (fun _ _ _ _ k => lv_iload_n X.1.1 X.1.2.1 dX6_whyNoSlip_6 rfl (lv_at hl 1 rfl) k) ?_
  refine J.bd' (fun v7 M7 h7 => ?_)
  refine J.cV (q := (RX6, TX6, 26)) (ci := 5) (As := [.int a1]) (rest := []) (s2 := [.int v7]) X ⟨rfl, rfl⟩ (ct_X6_noParcel l hm σ n (mP M 7 0) a1) (mup_of h7) (fun _ _ => cwV 1 X.1.2.2.2.2 (lw_V q3107 q3109 qs116 q174 q3110) rfl rfl rfl (by decide +kernel) ⟨(Nat.le_of_ble_eq_true rfl), (Nat.le_of_ble_eq_true rfl)⟩) mH_rc rfl rfl hl.1 rfl rfl (Nat.le_of_ble_eq_true rfl) dX6_whyNoSlip_7 ?_
  refine J.br (fun _ _ _ _ ka kb => lv_if_eq (tgt := 17) X.1.1 X.1.2.1 dX6_whyNoSlip_10 (by decide) ka kb) (fun c10 => ?_) (fun c10 => ?_)
  · refine J.pu (fun _ _ _ _ k => lv_aload_n X.1.1 X.1.2.1 dX6_whyNoSlip_17 rfl (lv_at hl 0 rfl) k) ?_
    refine J.pu (fun _ _ _ _ k => lv_iload_n X.1.1 X.1.2.1 dX6_whyNoSlip_18 rfl (lv_at hl 1 rfl) k) ?_
    refine J.bind (fun v19 h19 => ?_)
    refine J.cV (q := (RX6, TX6, 26)) (ci := 5) (As := [.int a1]) (rest := []) (s2 := [.int v19]) X ⟨rfl, rfl⟩ (ct_X6_barsSlip l hm σ n M7 a1) (jrd_of h19) (fun _ _ => cwV 1 X.1.2.2.2.2 (lw_V q3043 q3045 qs106 q174 q3046) rfl rfl rfl (by decide +kernel) ⟨(Nat.le_of_ble_eq_true rfl), (Nat.le_of_ble_eq_true rfl)⟩) mH_rc rfl rfl hl.1 rfl rfl (Nat.le_of_ble_eq_true rfl) dX6_whyNoSlip_19 ?_
    exact J.iret (vr := fun t : Int32 × jM => jrI t.1) (fin := fun r : Int32 × jM => mH mo A σ r.2) (t := t) X hr (by rfl) (by rfl) dX6_whyNoSlip_22
  · refine J.pu (fun _ _ _ _ k => lv_iconst (v := 0) X.1.1 X.1.2.1 dX6_whyNoSlip_13 (by decide) k) ?_
    refine J.pu (fun _ _ _ _ k => lv_goto (tgt := 22) X.1.1 X.1.2.1 dX6_whyNoSlip_14 (by decide) k) ?_
    exact J.iret (vr := fun t : Int32 × jM => jrI t.1) (fin := fun r : Int32 × jM => mH mo A σ r.2) (t := t) X hr (by rfl) (by rfl) dX6_whyNoSlip_22
noncomputable def X6_goesAside (n : Nat) (M : jM) : Option (Unit × jM) :=
  bd (X6_copies n M 0 0 2 0) fun v10 M10 => some ((), M10)
set_option maxHeartbeats 4000000 in
set_option maxRecDepth 100000 in
theorem ct_X6_goesAside (l : Launch) {G : jG} {mo : Nat} {A : Nat → Nat} (hm : mOK G mo A) (σ : jH) (n : Nat) (M : jM) : jCt l G yX6_goesAside (ws_ yX6_goesAside cX6_goesAside 1 none) 1 24 jrV [.ref mo] (mH mo A σ M) (mup mo A σ (X6_goesAside n M)) := by
  refine jCt.wm (lv := [(0, .ref mo)]) (plainFor_of_name (by decide)) (Nat.le_of_ble_eq_true rfl) rfl ?_
  intro t p e s m args below meth c ls X hr hnm hl
  have X : jCx p c cX6_goesAside 1 s m args RX6 G meth := X
  unfold X6_goesAside
  refine J.pu (fun _ _ _ _ k => lv_aload_n X.1.1 X.1.2.1 dX6_goesAside_0 rfl (lv_at hl 0 rfl) k) ?_
  refine J.mgA (k := 0) X (by decide) q2730 rfl rfl dX6_goesAside_1 ?_
  refine J.pu (fun _ _ _ _ k => lv_iconst (v := 0) X.1.1 X.1.2.1 dX6_goesAside_4 (by decide) k) ?_
  refine J.pu (fun _ _ _ _ k => lv_aload_n X.1.1 X.1.2.1 dX6_goesAside_5 rfl (lv_at hl 0 rfl) k) ?_
  refine J.mgA (k := 2) X (by decide) q2732 rfl rfl dX6_goesAside_6 ?_
  refine J.pu (fun _ _ _ _ k => lv_iconst (v := 0) X.1.1 X.1.2.1 dX6_goesAside_9 (by decide) k) ?_
  refine J.bd' (fun v10 M10 h10 => ?_)
  refine J.cS (As := [.ref (A 0), .int 0, .ref (A 2), .int 0]) (rest := []) (s2 := []) X ⟨rfl, rfl⟩ (ct_X6_copies l hm σ n M 0 0 2 0 (by decide) (by decide)) (mup_of h10) (fun _ _ => va_cwS 4 X.1.2.2.2.2 (lw_S q2832 q2833 q174 q2834) rfl rfl rfl (by decide +kernel) ⟨(Nat.le_of_ble_eq_true rfl), (Nat.le_of_ble_eq_true rfl)⟩) rfl hl.1 rfl rfl (Nat.le_of_ble_eq_true rfl) dX6_goesAside_10 ?_
  exact J.vret (vr := fun t : Unit × jM => jrV t.1) (fin := fun r : Unit × jM => mH mo A σ r.2) (t := t) X hr (by rfl) (by rfl) dX6_goesAside_13
noncomputable def X6_goesBack (n : Nat) (M : jM) (a1 : Int32) : Option (Int32 × jM) :=
  bd (X6_copies n M 2 0 0 0) fun v10 M10 => some (a1, M10)
set_option maxHeartbeats 4000000 in
set_option maxRecDepth 100000 in
theorem ct_X6_goesBack (l : Launch) {G : jG} {mo : Nat} {A : Nat → Nat} (hm : mOK G mo A) (σ : jH) (n : Nat) (M : jM) (a1 : Int32) : jCt l G yX6_goesBack (ws_ yX6_goesBack cX6_goesBack 2 (some .int)) 1 24 jrI [.ref mo, .int a1] (mH mo A σ M) (mup mo A σ (X6_goesBack n M a1)) := by
  refine jCt.wm (lv := [(0, .ref mo), (1, .int a1)]) (plainFor_of_name (by decide)) (Nat.le_of_ble_eq_true rfl) rfl ?_
  intro t p e s m args below meth c ls X hr hnm hl
  have X : jCx p c cX6_goesBack 2 s m args RX6 G meth := X
  unfold X6_goesBack
  refine J.pu (fun _ _ _ _ k => lv_aload_n X.1.1 X.1.2.1 dX6_goesBack_0 rfl (lv_at hl 0 rfl) k) ?_
  refine J.mgA (k := 2) X (by decide) q2732 rfl rfl dX6_goesBack_1 ?_
  refine J.pu (fun _ _ _ _ k => lv_iconst (v := 0) X.1.1 X.1.2.1 dX6_goesBack_4 (by decide) k) ?_
  refine J.pu (fun _ _ _ _ k => lv_aload_n X.1.1 X.1.2.1 dX6_goesBack_5 rfl (lv_at hl 0 rfl) k) ?_
  refine J.mgA (k := 0) X (by decide) q2730 rfl rfl dX6_goesBack_6 ?_
  refine J.pu (fun _ _ _ _ k => lv_iconst (v := 0) X.1.1 X.1.2.1 dX6_goesBack_9 (by decide) k) ?_
  refine J.bd' (fun v10 M10 h10 => ?_)
  refine J.cS (As := [.ref (A 2), .int 0, .ref (A 0), .int 0]) (rest := []) (s2 := []) X ⟨rfl, rfl⟩ (ct_X6_copies l hm σ n M 2 0 0 0 (by decide) (by decide)) (mup_of h10) (fun _ _ => va_cwS 4 X.1.2.2.2.2 (lw_S q2832 q2833 q174 q2834) rfl rfl rfl (by decide +kernel) ⟨(Nat.le_of_ble_eq_true rfl), (Nat.le_of_ble_eq_true rfl)⟩) rfl hl.1 rfl rfl (Nat.le_of_ble_eq_true rfl) dX6_goesBack_10 ?_
  refine J.pu (fun _ _ _ _ k => lv_iload_n X.1.1 X.1.2.1 dX6_goesBack_13 rfl (lv_at hl 1 rfl) k) ?_
  exact J.iret (vr := fun t : Int32 × jM => jrI t.1) (fin := fun r : Int32 × jM => mH mo A σ r.2) (t := t) X hr (by rfl) (by rfl) dX6_goesBack_14
noncomputable def X6_leavesIn_j46 (n : Nat) (a1 : Int32) (x2_46 : Int32) (B46 : jM) : Option (Int32 × jM) :=
  (X6_isOn n B46 a1).bind fun v49 => if v49 = 0 then (bd (X6_goesBack n B46 x2_46) fun v60 M60 => some (v60, M60)) else (bd (X6_goesBack n B46 (-1)) fun v60 M60 => some (v60, M60))
noncomputable def X6_leavesIn_h21 (n : Nat) (a1 : Int32) (rec21 : Int32 × jM → Option (Int32 × jM)) (q21 : Int32 × jM) : Option (Int32 × jM) :=
  let x2_21 := q21.1; let B21 := q21.2; if 500 ≤ x2_21 then (X6_leavesIn_j46 n a1 x2_21 B21) else ((X6_isOn n B21 a1).bind fun v30 => if v30 = 0 then (X6_leavesIn_j46 n a1 x2_21 B21) else (bd (X6_ticksOne n B21) fun v37 M37 => rec21 ((x2_21 + 1), M37)))
noncomputable def X6_leavesIn (n : Nat) (M : jM) (a1 : Int32) : Option (Int32 × jM) :=
  bd (X6_noParcel n (mP M 7 0) a1) fun v7 M7 => if v7 = 0 then (bd (X6_goesAside n M7) fun v16 M16 => jloop (X6_leavesIn_h21 n a1) n (0, M16)) else (some (0, M7))
set_option maxHeartbeats 4000000 in
set_option maxRecDepth 100000 in
theorem ct_X6_leavesIn (l : Launch) {G : jG} {mo : Nat} {A : Nat → Nat} (hm : mOK G mo A) (σ : jH) (n : Nat) (M : jM) (a1 : Int32) : jCt l G yX6_leavesIn (ws_ yX6_leavesIn cX6_leavesIn 3 (some .int)) 6 134 jrI [.ref mo, .int a1] (mH mo A σ M) (mup mo A σ (X6_leavesIn n M a1)) := by
  refine jCt.wm (lv := [(0, .ref mo), (1, .int a1)]) (plainFor_of_name (by decide)) (Nat.le_of_ble_eq_true rfl) rfl ?_
  intro t p e s m args below meth c ls X hr hnm hl
  have X : jCx p c cX6_leavesIn 3 s m args RX6 G meth := X
  have j46 : ∀ (x2_46 : Int32) (B46 : jM) (ls : Array Slot), lv_has ls 3 [(0, .ref mo), (1, .int a1), (2, .int x2_46)] → jGo l G 6 134 (mH mo A σ M) (fun r : Int32 × jM => mH mo A σ r.2) (fun t => jrI t.1) t p e s m args below meth c (X6_leavesIn_j46 n a1 x2_46 B46) (mH mo A σ B46) (F0 m 46 ls []) := by
    intro x2_46 B46 ls hl
    unfold X6_leavesIn_j46
    refine J.pu (fun _ _ _ _ k => lv_aload_n X.1.1 X.1.2.1 dX6_leavesIn_46 rfl (lv_at hl 0 rfl) k) ?_
    refine J.pu (fun _ _ _ _ k => lv_aload_n X.1.1 X.1.2.1 dX6_leavesIn_47 rfl (lv_at hl 0 rfl) k) ?_
    refine J.pu (fun _ _ _ _ k => lv_iload_n X.1.1 X.1.2.1 dX6_leavesIn_48 rfl (lv_at hl 1 rfl) k) ?_
    refine J.bind (fun v49 h49 => ?_)
    refine J.cV (q := (RX6, TX6, 26)) (ci := 5) (As := [.int a1]) (rest := [.ref mo]) (s2 := [.int v49, .ref mo]) X ⟨rfl, rfl⟩ (ct_X6_isOn l hm σ n B46 a1) (jrd_of h49) (fun _ _ => cwV 1 X.1.2.2.2.2 (lw_V q2960 q2962 qs87 q174 q2963) rfl rfl rfl (by decide +kernel) ⟨(Nat.le_of_ble_eq_true rfl), (Nat.le_of_ble_eq_true rfl)⟩) mH_rc rfl rfl hl.1 rfl rfl (Nat.le_of_ble_eq_true rfl) dX6_leavesIn_49 ?_
    refine J.br (fun _ _ _ _ ka kb => lv_if_eq (tgt := 59) X.1.1 X.1.2.1 dX6_leavesIn_52 (by decide) ka kb) (fun c52 => ?_) (fun c52 => ?_)
    · refine J.pu (fun _ _ _ _ k => lv_iload_n X.1.1 X.1.2.1 dX6_leavesIn_59 rfl (lv_at hl 2 rfl) k) ?_
      refine J.bd' (fun v60 M60 h60 => ?_)
      refine J.cV (q := (RX6, TX6, 26)) (ci := 5) (As := [.int x2_46]) (rest := []) (s2 := [.int v60]) X ⟨rfl, rfl⟩ (ct_X6_goesBack l hm σ n B46 x2_46) (mup_of h60) (fun _ _ => cwV 1 X.1.2.2.2.2 (lw_V q3188 q3190 qs127 q174 q3191) rfl rfl rfl (by decide +kernel) ⟨(Nat.le_of_ble_eq_true rfl), (Nat.le_of_ble_eq_true rfl)⟩) mH_rc rfl rfl hl.1 rfl rfl (Nat.le_of_ble_eq_true rfl) dX6_leavesIn_60 ?_
      exact J.iret (vr := fun t : Int32 × jM => jrI t.1) (fin := fun r : Int32 × jM => mH mo A σ r.2) (t := t) X hr (by rfl) (by rfl) dX6_leavesIn_63
    · refine J.pu (fun _ _ _ _ k => lv_iconst (v := (-1)) X.1.1 X.1.2.1 dX6_leavesIn_55 (by decide) k) ?_
      refine J.pu (fun _ _ _ _ k => lv_goto (tgt := 60) X.1.1 X.1.2.1 dX6_leavesIn_56 (by decide) k) ?_
      refine J.bd' (fun v60 M60 h60 => ?_)
      refine J.cV (q := (RX6, TX6, 26)) (ci := 5) (As := [.int (-1)]) (rest := []) (s2 := [.int v60]) X ⟨rfl, rfl⟩ (ct_X6_goesBack l hm σ n B46 (-1)) (mup_of h60) (fun _ _ => cwV 1 X.1.2.2.2.2 (lw_V q3188 q3190 qs127 q174 q3191) rfl rfl rfl (by decide +kernel) ⟨(Nat.le_of_ble_eq_true rfl), (Nat.le_of_ble_eq_true rfl)⟩) mH_rc rfl rfl hl.1 rfl rfl (Nat.le_of_ble_eq_true rfl) dX6_leavesIn_60 ?_
      exact J.iret (vr := fun t : Int32 × jM => jrI t.1) (fin := fun r : Int32 × jM => mH mo A σ r.2) (t := t) X hr (by rfl) (by rfl) dX6_leavesIn_63
  have L21 : ∀ (n21 : Nat) (x2_21 : Int32) (B21 : jM) (ls : Array Slot), lv_has ls 3 [(0, .ref mo), (1, .int a1), (2, .int x2_21)] → jGo l G 6 134 (mH mo A σ M) (fun r : Int32 × jM => mH mo A σ r.2) (fun t => jrI t.1) t p e s m args below meth c (jloop (X6_leavesIn_h21 n a1) n21 (x2_21, B21)) (mH mo A σ B21) (F0 m 21 ls []) := by
    intro n21
    induction n21 with
    | zero => intro x2_21 B21 ls hl; exact J.nil_
    | succ n21 ih21 =>
      intro x2_21 B21 ls hl
      refine J.eq (jloop_s _ _ _) ?_
      dsimp only [X6_leavesIn_h21]
      refine J.pu (fun _ _ _ _ k => lv_iload_n X.1.1 X.1.2.1 dX6_leavesIn_21 rfl (lv_at hl 2 rfl) k) ?_
      refine J.pu (fun _ _ _ _ k => lv_sipush (v := 500) X.1.1 X.1.2.1 dX6_leavesIn_22 (by decide) k) ?_
      refine J.br (fun _ _ _ _ ka kb => lv_icmp_ge (tgt := 46) X.1.1 X.1.2.1 dX6_leavesIn_25 (by decide) ka kb) (fun c25 => ?_) (fun c25 => ?_)
      · exact j46 x2_21 B21 ls (lv_sub hl [0, 1, 2] rfl)
      · refine J.pu (fun _ _ _ _ k => lv_aload_n X.1.1 X.1.2.1 dX6_leavesIn_28 rfl (lv_at hl 0 rfl) k) ?_
        refine J.pu (fun _ _ _ _ k => lv_iload_n X.1.1 X.1.2.1 dX6_leavesIn_29 rfl (lv_at hl 1 rfl) k) ?_
        refine J.bind (fun v30 h30 => ?_)
        refine J.cV (q := (RX6, TX6, 26)) (ci := 5) (As := [.int a1]) (rest := []) (s2 := [.int v30]) X ⟨rfl, rfl⟩ (ct_X6_isOn l hm σ n B21 a1) (jrd_of h30) (fun _ _ => cwV 1 X.1.2.2.2.2 (lw_V q2960 q2962 qs87 q174 q2963) rfl rfl rfl (by decide +kernel) ⟨(Nat.le_of_ble_eq_true rfl), (Nat.le_of_ble_eq_true rfl)⟩) mH_rc rfl rfl hl.1 rfl rfl (Nat.le_of_ble_eq_true rfl) dX6_leavesIn_30 ?_
        refine J.br (fun _ _ _ _ ka kb => lv_if_eq (tgt := 46) X.1.1 X.1.2.1 dX6_leavesIn_33 (by decide) ka kb) (fun c33 => ?_) (fun c33 => ?_)
        · exact j46 x2_21 B21 ls (lv_sub hl [0, 1, 2] rfl)
        · refine J.pu (fun _ _ _ _ k => lv_aload_n X.1.1 X.1.2.1 dX6_leavesIn_36 rfl (lv_at hl 0 rfl) k) ?_
          refine J.bd' (fun v37 M37 h37 => ?_)
          refine J.cV (q := (RX6, TX6, 26)) (ci := 5) (As := []) (rest := []) (s2 := []) X ⟨rfl, rfl⟩ (ct_X6_ticksOne l hm σ n B21) (mup_of h37) (fun _ _ => cwV 0 X.1.2.2.2.2 (lw_V q2991 q2993 qs94 q174 q2994) rfl rfl rfl (by decide +kernel) ⟨(Nat.le_of_ble_eq_true rfl), (Nat.le_of_ble_eq_true rfl)⟩) mH_rc rfl rfl hl.1 rfl rfl (Nat.le_of_ble_eq_true rfl) dX6_leavesIn_37 ?_
          refine J.iinc (k := 2) (lv' := [(2, .int (x2_21 + 1)), (0, .ref mo), (1, .int a1)]) (w := (x2_21 + 1)) X.1.1 X.1.2.1 dX6_leavesIn_40 hl rfl rfl (by decide) (by first | rfl | simp [va_rf_cat, jcI, jcA, jcJ, jcD, jcF]) (fun ls hl => ?_)
          refine J.pu (fun _ _ _ _ k => lv_goto (tgt := 21) X.1.1 X.1.2.1 dX6_leavesIn_43 (by decide) k) ?_
          exact ih21 (x2_21 + 1) M37 ls (lv_sub hl [1, 2, 0] rfl)
  unfold X6_leavesIn
  refine J.pu (fun _ _ _ _ k => lv_aload_n X.1.1 X.1.2.1 dX6_leavesIn_0 rfl (lv_at hl 0 rfl) k) ?_
  refine J.pu (fun _ _ _ _ k => lv_iconst (v := 0) X.1.1 X.1.2.1 dX6_leavesIn_1 (by decide) k) ?_
  refine J.mpS (k := 7) X hm (by decide) q2737 rfl rfl rfl dX6_leavesIn_2 ?_
  refine J.pu (fun _ _ _ _ k => lv_aload_n X.1.1 X.1.2.1 dX6_leavesIn_5 rfl (lv_at hl 0 rfl) k) ?_
  refine J.pu (fun _ _ _ _ k => lv_iload_n X.1.1 X.1.2.1 dX6_leavesIn_6 rfl (lv_at hl 1 rfl) k) ?_
  refine J.bd' (fun v7 M7 h7 => ?_)
  refine J.cV (q := (RX6, TX6, 26)) (ci := 5) (As := [.int a1]) (rest := []) (s2 := [.int v7]) X ⟨rfl, rfl⟩ (ct_X6_noParcel l hm σ n (mP M 7 0) a1) (mup_of h7) (fun _ _ => cwV 1 X.1.2.2.2.2 (lw_V q3107 q3109 qs116 q174 q3110) rfl rfl rfl (by decide +kernel) ⟨(Nat.le_of_ble_eq_true rfl), (Nat.le_of_ble_eq_true rfl)⟩) mH_rc rfl rfl hl.1 rfl rfl (Nat.le_of_ble_eq_true rfl) dX6_leavesIn_7 ?_
  refine J.br (fun _ _ _ _ ka kb => lv_if_eq (tgt := 15) X.1.1 X.1.2.1 dX6_leavesIn_10 (by decide) ka kb) (fun c10 => ?_) (fun c10 => ?_)
  · refine J.pu (fun _ _ _ _ k => lv_aload_n X.1.1 X.1.2.1 dX6_leavesIn_15 rfl (lv_at hl 0 rfl) k) ?_
    refine J.bd' (fun v16 M16 h16 => ?_)
    refine J.cV (q := (RX6, TX6, 26)) (ci := 5) (As := []) (rest := []) (s2 := []) X ⟨rfl, rfl⟩ (ct_X6_goesAside l hm σ n M7) (mup_of h16) (fun _ _ => cwV 0 X.1.2.2.2.2 (lw_V q3184 q3186 qs126 q174 q3187) rfl rfl rfl (by decide +kernel) ⟨(Nat.le_of_ble_eq_true rfl), (Nat.le_of_ble_eq_true rfl)⟩) mH_rc rfl rfl hl.1 rfl rfl (Nat.le_of_ble_eq_true rfl) dX6_leavesIn_16 ?_
    refine J.pu (fun _ _ _ _ k => lv_iconst (v := 0) X.1.1 X.1.2.1 dX6_leavesIn_19 (by decide) k) ?_
    refine J.istore_n (i := 2) (lv' := [(2, .int 0), (0, .ref mo), (1, .int a1)]) X.1.1 X.1.2.1 dX6_leavesIn_20 rfl hl (by decide) (by first | rfl | simp [va_rf_cat, jcI, jcA, jcJ, jcD, jcF]) (fun ls hl => ?_)
    exact L21 n 0 M16 ls (lv_sub hl [1, 2, 0] rfl)
  · refine J.pu (fun _ _ _ _ k => lv_iconst (v := 0) X.1.1 X.1.2.1 dX6_leavesIn_13 (by decide) k) ?_
    exact J.iret (vr := fun t : Int32 × jM => jrI t.1) (fin := fun r : Int32 × jM => mH mo A σ r.2) (t := t) X hr (by rfl) (by rfl) dX6_leavesIn_14
noncomputable def X6_endOf (n : Nat) (M : jM) (a1 : Int32) : Option (Int32) :=
  (X6_of n M a1 3).bind fun v3 => if v3 = 1 then ((X6_of n M a1 7).bind fun v16 => (X6_of n M a1 0).bind fun v22 => if v16 = v22 then (some 1) else (some 2)) else (if v3 = 0 then (some 0) else (some (v3 + 1)))
set_option maxHeartbeats 4000000 in
set_option maxRecDepth 100000 in
theorem ct_X6_endOf (l : Launch) {G : jG} {mo : Nat} {A : Nat → Nat} (hm : mOK G mo A) (σ : jH) (n : Nat) (M : jM) (a1 : Int32) : jCt l G yX6_endOf (ws_ yX6_endOf cX6_endOf 3 (some .int)) 1 22 jrI [.ref mo, .int a1] (mH mo A σ M) (jrd (mH mo A σ M) (X6_endOf n M a1)) := by
  refine jCt.rd (lv := [(0, .ref mo), (1, .int a1)]) (plainFor_of_name (by decide)) (Nat.le_of_ble_eq_true rfl) rfl ?_
  intro t p e s m args below meth c ls X hr hnm hl
  have X : jCx p c cX6_endOf 3 s m args RX6 G meth := X
  unfold X6_endOf
  refine J.pu (fun _ _ _ _ k => lv_aload_n X.1.1 X.1.2.1 dX6_endOf_0 rfl (lv_at hl 0 rfl) k) ?_
  refine J.pu (fun _ _ _ _ k => lv_iload_n X.1.1 X.1.2.1 dX6_endOf_1 rfl (lv_at hl 1 rfl) k) ?_
  refine J.pu (fun _ _ _ _ k => lv_iconst (v := 3) X.1.1 X.1.2.1 dX6_endOf_2 (by decide) k) ?_
  refine J.bind (fun v3 h3 => ?_)
  refine J.cV (q := (RX6, TX6, 26)) (ci := 5) (As := [.int a1, .int 3]) (rest := []) (s2 := [.int v3]) X ⟨rfl, rfl⟩ (ct_X6_of l hm σ n M a1 3) (jrd_of h3) (fun _ _ => cwV 2 X.1.2.2.2.2 (lw_V q2964 q2966 qs88 q174 q2967) rfl rfl rfl (by decide +kernel) ⟨(Nat.le_of_ble_eq_true rfl), (Nat.le_of_ble_eq_true rfl)⟩) mH_rc rfl rfl hl.1 rfl rfl (Nat.le_of_ble_eq_true rfl) dX6_endOf_3 ?_
  refine J.istore_n (i := 2) (lv' := [(2, .int v3), (0, .ref mo), (1, .int a1)]) X.1.1 X.1.2.1 dX6_endOf_6 rfl hl (by decide) (by first | rfl | simp [va_rf_cat, jcI, jcA, jcJ, jcD, jcF]) (fun ls hl => ?_)
  refine J.pu (fun _ _ _ _ k => lv_iload_n X.1.1 X.1.2.1 dX6_endOf_7 rfl (lv_at hl 0 rfl) k) ?_
  refine J.pu (fun _ _ _ _ k => lv_iconst (v := 1) X.1.1 X.1.2.1 dX6_endOf_8 (by decide) k) ?_
  refine J.br (fun _ _ _ _ ka kb => lv_icmp_ne (tgt := 34) X.1.1 X.1.2.1 dX6_endOf_9 (by decide) kb ka) (fun c9 => ?_) (fun c9 => ?_)
  · refine J.pu (fun _ _ _ _ k => lv_aload_n X.1.1 X.1.2.1 dX6_endOf_12 rfl (lv_at hl 1 rfl) k) ?_
    refine J.pu (fun _ _ _ _ k => lv_iload_n X.1.1 X.1.2.1 dX6_endOf_13 rfl (lv_at hl 2 rfl) k) ?_
    refine J.pu (fun _ _ _ _ k => lv_bipush (v := 7) X.1.1 X.1.2.1 dX6_endOf_14 (by decide) k) ?_
    refine J.bind (fun v16 h16 => ?_)
    refine J.cV (q := (RX6, TX6, 26)) (ci := 5) (As := [.int a1, .int 7]) (rest := []) (s2 := [.int v16]) X ⟨rfl, rfl⟩ (ct_X6_of l hm σ n M a1 7) (jrd_of h16) (fun _ _ => cwV 2 X.1.2.2.2.2 (lw_V q2964 q2966 qs88 q174 q2967) rfl rfl rfl (by decide +kernel) ⟨(Nat.le_of_ble_eq_true rfl), (Nat.le_of_ble_eq_true rfl)⟩) mH_rc rfl rfl hl.1 rfl rfl (Nat.le_of_ble_eq_true rfl) dX6_endOf_16 ?_
    refine J.pu (fun _ _ _ _ k => lv_aload_n X.1.1 X.1.2.1 dX6_endOf_19 rfl (lv_at hl 1 rfl) k) ?_
    refine J.pu (fun _ _ _ _ k => lv_iload_n X.1.1 X.1.2.1 dX6_endOf_20 rfl (lv_at hl 2 rfl) k) ?_
    refine J.pu (fun _ _ _ _ k => lv_iconst (v := 0) X.1.1 X.1.2.1 dX6_endOf_21 (by decide) k) ?_
    refine J.bind (fun v22 h22 => ?_)
    refine J.cV (q := (RX6, TX6, 26)) (ci := 5) (As := [.int a1, .int 0]) (rest := [.int v16]) (s2 := [.int v22, .int v16]) X ⟨rfl, rfl⟩ (ct_X6_of l hm σ n M a1 0) (jrd_of h22) (fun _ _ => cwV 2 X.1.2.2.2.2 (lw_V q2964 q2966 qs88 q174 q2967) rfl rfl rfl (by decide +kernel) ⟨(Nat.le_of_ble_eq_true rfl), (Nat.le_of_ble_eq_true rfl)⟩) mH_rc rfl rfl hl.1 rfl rfl (Nat.le_of_ble_eq_true rfl) dX6_endOf_22 ?_
    refine J.br (fun _ _ _ _ ka kb => lv_icmp_ne (tgt := 32) X.1.1 X.1.2.1 dX6_endOf_25 (by decide) kb ka) (fun c25 => ?_) (fun c25 => ?_)
    · refine J.pu (fun _ _ _ _ k => lv_iconst (v := 1) X.1.1 X.1.2.1 dX6_endOf_28 (by decide) k) ?_
      refine J.pu (fun _ _ _ _ k => lv_goto (tgt := 33) X.1.1 X.1.2.1 dX6_endOf_29 (by decide) k) ?_
      exact J.iret (vr := jrI) (fin := fun _ : Int32 => (mH mo A σ M)) (t := t) X hr (by rfl) (by rfl) dX6_endOf_33
    · refine J.pu (fun _ _ _ _ k => lv_iconst (v := 2) X.1.1 X.1.2.1 dX6_endOf_32 (by decide) k) ?_
      exact J.iret (vr := jrI) (fin := fun _ : Int32 => (mH mo A σ M)) (t := t) X hr (by rfl) (by rfl) dX6_endOf_33
  · refine J.pu (fun _ _ _ _ k => lv_iload_n X.1.1 X.1.2.1 dX6_endOf_34 rfl (lv_at hl 0 rfl) k) ?_
    refine J.br (fun _ _ _ _ ka kb => lv_if_ne (tgt := 42) X.1.1 X.1.2.1 dX6_endOf_35 (by decide) kb ka) (fun c35 => ?_) (fun c35 => ?_)
    · refine J.pu (fun _ _ _ _ k => lv_iconst (v := 0) X.1.1 X.1.2.1 dX6_endOf_38 (by decide) k) ?_
      refine J.pu (fun _ _ _ _ k => lv_goto (tgt := 45) X.1.1 X.1.2.1 dX6_endOf_39 (by decide) k) ?_
      exact J.iret (vr := jrI) (fin := fun _ : Int32 => (mH mo A σ M)) (t := t) X hr (by rfl) (by rfl) dX6_endOf_45
    · refine J.pu (fun _ _ _ _ k => lv_iload_n X.1.1 X.1.2.1 dX6_endOf_42 rfl (lv_at hl 0 rfl) k) ?_
      refine J.pu (fun _ _ _ _ k => lv_iconst (v := 1) X.1.1 X.1.2.1 dX6_endOf_43 (by decide) k) ?_
      refine J.pu (fun _ _ _ _ k => lv_iadd X.1.1 X.1.2.1 dX6_endOf_44 k) ?_
      exact J.iret (vr := jrI) (fin := fun _ : Int32 => (mH mo A σ M)) (t := t) X hr (by rfl) (by rfl) dX6_endOf_45
noncomputable def X6_noTicks (n : Nat) (M : jM) (a1 : Int32) (a2 : Int32) : Option (Int32 × jM) :=
  (X6_inRange n M a1 0 500).bind fun v6 => if v6 = 0 then (bd (X6_fails n M 1 a2) fun v18 M18 => jbo .boolean v18 (some (v18, M18))) else (bd (X6_fails n M 0 a2) fun v18 M18 => jbo .boolean v18 (some (v18, M18)))
set_option maxHeartbeats 4000000 in
set_option maxRecDepth 100000 in
theorem ct_X6_noTicks (l : Launch) {G : jG} {mo : Nat} {A : Nat → Nat} (hm : mOK G mo A) (σ : jH) (n : Nat) (M : jM) (a1 : Int32) (a2 : Int32) : jCt l G yX6_noTicks (ws_ yX6_noTicks cX6_noTicks 3 (some .boolean)) 1 22 jrI [.ref mo, .int a1, .int a2] (mH mo A σ M) (mup mo A σ (X6_noTicks n M a1 a2)) := by
  refine jCt.wm (lv := [(0, .ref mo), (1, .int a1), (2, .int a2)]) (plainFor_of_name (by decide)) (Nat.le_of_ble_eq_true rfl) rfl ?_
  intro t p e s m args below meth c ls X hr hnm hl
  have X : jCx p c cX6_noTicks 3 s m args RX6 G meth := X
  unfold X6_noTicks
  refine J.pu (fun _ _ _ _ k => lv_aload_n X.1.1 X.1.2.1 dX6_noTicks_0 rfl (lv_at hl 0 rfl) k) ?_
  refine J.pu (fun _ _ _ _ k => lv_iload_n X.1.1 X.1.2.1 dX6_noTicks_1 rfl (lv_at hl 1 rfl) k) ?_
  refine J.pu (fun _ _ _ _ k => lv_iconst (v := 0) X.1.1 X.1.2.1 dX6_noTicks_2 (by decide) k) ?_
  refine J.pu (fun _ _ _ _ k => lv_sipush (v := 500) X.1.1 X.1.2.1 dX6_noTicks_3 (by decide) k) ?_
  refine J.bind (fun v6 h6 => ?_)
  refine J.cS (As := [.int a1, .int 0, .int 500]) (rest := [.ref mo]) (s2 := [.int v6, .ref mo]) X ⟨rfl, rfl⟩ (ct_X6_inRange l hm σ n M a1 0 500) (jrd_of h6) (fun _ _ => va_cwS 3 X.1.2.2.2.2 (lw_S q2825 q2826 q174 q2827) rfl rfl rfl (by decide +kernel) ⟨(Nat.le_of_ble_eq_true rfl), (Nat.le_of_ble_eq_true rfl)⟩) rfl hl.1 rfl rfl (Nat.le_of_ble_eq_true rfl) dX6_noTicks_6 ?_
  refine J.br (fun _ _ _ _ ka kb => lv_if_ne (tgt := 16) X.1.1 X.1.2.1 dX6_noTicks_9 (by decide) kb ka) (fun c9 => ?_) (fun c9 => ?_)
  · refine J.pu (fun _ _ _ _ k => lv_iconst (v := 1) X.1.1 X.1.2.1 dX6_noTicks_12 (by decide) k) ?_
    refine J.pu (fun _ _ _ _ k => lv_goto (tgt := 17) X.1.1 X.1.2.1 dX6_noTicks_13 (by decide) k) ?_
    refine J.pu (fun _ _ _ _ k => lv_iload_n X.1.1 X.1.2.1 dX6_noTicks_17 rfl (lv_at hl 2 rfl) k) ?_
    refine J.bd' (fun v18 M18 h18 => ?_)
    refine J.cV (q := (RX6, TX6, 26)) (ci := 5) (As := [.int 1, .int a2]) (rest := []) (s2 := [.int v18]) X ⟨rfl, rfl⟩ (ct_X6_fails l hm σ n M 1 a2) (mup_of h18) (fun _ _ => cwV 2 X.1.2.2.2.2 (lw_V q3075 q3077 qs111 q174 q3078) rfl rfl rfl (by decide +kernel) ⟨(Nat.le_of_ble_eq_true rfl), (Nat.le_of_ble_eq_true rfl)⟩) mH_rc rfl rfl hl.1 rfl rfl (Nat.le_of_ble_eq_true rfl) dX6_noTicks_18 ?_
    exact J.zretb (vr := fun t : Int32 × jM => jrI t.1) (fin := fun r : Int32 × jM => mH mo A σ r.2) (t := t) X hr (by rfl) (by rfl) dX6_noTicks_21
  · refine J.pu (fun _ _ _ _ k => lv_iconst (v := 0) X.1.1 X.1.2.1 dX6_noTicks_16 (by decide) k) ?_
    refine J.pu (fun _ _ _ _ k => lv_iload_n X.1.1 X.1.2.1 dX6_noTicks_17 rfl (lv_at hl 2 rfl) k) ?_
    refine J.bd' (fun v18 M18 h18 => ?_)
    refine J.cV (q := (RX6, TX6, 26)) (ci := 5) (As := [.int 0, .int a2]) (rest := []) (s2 := [.int v18]) X ⟨rfl, rfl⟩ (ct_X6_fails l hm σ n M 0 a2) (mup_of h18) (fun _ _ => cwV 2 X.1.2.2.2.2 (lw_V q3075 q3077 qs111 q174 q3078) rfl rfl rfl (by decide +kernel) ⟨(Nat.le_of_ble_eq_true rfl), (Nat.le_of_ble_eq_true rfl)⟩) mH_rc rfl rfl hl.1 rfl rfl (Nat.le_of_ble_eq_true rfl) dX6_noTicks_18 ?_
    exact J.zretb (vr := fun t : Int32 × jM => jrI t.1) (fin := fun r : Int32 × jM => mH mo A σ r.2) (t := t) X hr (by rfl) (by rfl) dX6_noTicks_21
noncomputable def X6_endsAs (n : Nat) (M : jM) (a1 : Int32) (a2 : Int32) : Option (Int32 × jM) :=
  bd (X6_noParcel n (mP M 7 0) a1) fun v7 M7 => if v7 = 0 then (bd (X6_noTicks n M7 a2 2) fun v16 M16 => if v16 = 0 then (bd (X6_goesAside n M16) fun v25 M25 => bd (X6_ticksMany n M25 a2) fun v30 M30 => (X6_endOf n M30 a1).bind fun v37 => bd (X6_goesBack n M30 v37) fun v40 M40 => some (v40, M40)) else (some (0, M16))) else (some (0, M7))
set_option maxHeartbeats 4000000 in
set_option maxRecDepth 100000 in
theorem ct_X6_endsAs (l : Launch) {G : jG} {mo : Nat} {A : Nat → Nat} (hm : mOK G mo A) (σ : jH) (n : Nat) (M : jM) (a1 : Int32) (a2 : Int32) : jCt l G yX6_endsAs (ws_ yX6_endsAs cX6_endsAs 4 (some .int)) 7 157 jrI [.ref mo, .int a1, .int a2] (mH mo A σ M) (mup mo A σ (X6_endsAs n M a1 a2)) := by
  refine jCt.wm (lv := [(0, .ref mo), (1, .int a1), (2, .int a2)]) (plainFor_of_name (by decide)) (Nat.le_of_ble_eq_true rfl) rfl ?_
  intro t p e s m args below meth c ls X hr hnm hl
  have X : jCx p c cX6_endsAs 4 s m args RX6 G meth := X
  unfold X6_endsAs
  refine J.pu (fun _ _ _ _ k => lv_aload_n X.1.1 X.1.2.1 dX6_endsAs_0 rfl (lv_at hl 0 rfl) k) ?_
  refine J.pu (fun _ _ _ _ k => lv_iconst (v := 0) X.1.1 X.1.2.1 dX6_endsAs_1 (by decide) k) ?_
  refine J.mpS (k := 7) X hm (by decide) q2737 rfl rfl rfl dX6_endsAs_2 ?_
  refine J.pu (fun _ _ _ _ k => lv_aload_n X.1.1 X.1.2.1 dX6_endsAs_5 rfl (lv_at hl 0 rfl) k) ?_
  refine J.pu (fun _ _ _ _ k => lv_iload_n X.1.1 X.1.2.1 dX6_endsAs_6 rfl (lv_at hl 1 rfl) k) ?_
  refine J.bd' (fun v7 M7 h7 => ?_)
  refine J.cV (q := (RX6, TX6, 26)) (ci := 5) (As := [.int a1]) (rest := []) (s2 := [.int v7]) X ⟨rfl, rfl⟩ (ct_X6_noParcel l hm σ n (mP M 7 0) a1) (mup_of h7) (fun _ _ => cwV 1 X.1.2.2.2.2 (lw_V q3107 q3109 qs116 q174 q3110) rfl rfl rfl (by decide +kernel) ⟨(Nat.le_of_ble_eq_true rfl), (Nat.le_of_ble_eq_true rfl)⟩) mH_rc rfl rfl hl.1 rfl rfl (Nat.le_of_ble_eq_true rfl) dX6_endsAs_7 ?_
  refine J.br (fun _ _ _ _ ka kb => lv_if_ne (tgt := 22) X.1.1 X.1.2.1 dX6_endsAs_10 (by decide) kb ka) (fun c10 => ?_) (fun c10 => ?_)
  · refine J.pu (fun _ _ _ _ k => lv_aload_n X.1.1 X.1.2.1 dX6_endsAs_13 rfl (lv_at hl 0 rfl) k) ?_
    refine J.pu (fun _ _ _ _ k => lv_iload_n X.1.1 X.1.2.1 dX6_endsAs_14 rfl (lv_at hl 2 rfl) k) ?_
    refine J.pu (fun _ _ _ _ k => lv_iconst (v := 2) X.1.1 X.1.2.1 dX6_endsAs_15 (by decide) k) ?_
    refine J.bd' (fun v16 M16 h16 => ?_)
    refine J.cV (q := (RX6, TX6, 26)) (ci := 5) (As := [.int a2, .int 2]) (rest := []) (s2 := [.int v16]) X ⟨rfl, rfl⟩ (ct_X6_noTicks l hm σ n M7 a2 2) (mup_of h16) (fun _ _ => cwV 2 X.1.2.2.2.2 (lw_V q3196 q3198 qs128 q174 q3199) rfl rfl rfl (by decide +kernel) ⟨(Nat.le_of_ble_eq_true rfl), (Nat.le_of_ble_eq_true rfl)⟩) mH_rc rfl rfl hl.1 rfl rfl (Nat.le_of_ble_eq_true rfl) dX6_endsAs_16 ?_
    refine J.br (fun _ _ _ _ ka kb => lv_if_eq (tgt := 24) X.1.1 X.1.2.1 dX6_endsAs_19 (by decide) ka kb) (fun c19 => ?_) (fun c19 => ?_)
    · refine J.pu (fun _ _ _ _ k => lv_aload_n X.1.1 X.1.2.1 dX6_endsAs_24 rfl (lv_at hl 0 rfl) k) ?_
      refine J.bd' (fun v25 M25 h25 => ?_)
      refine J.cV (q := (RX6, TX6, 26)) (ci := 5) (As := []) (rest := []) (s2 := []) X ⟨rfl, rfl⟩ (ct_X6_goesAside l hm σ n M16) (mup_of h25) (fun _ _ => cwV 0 X.1.2.2.2.2 (lw_V q3184 q3186 qs126 q174 q3187) rfl rfl rfl (by decide +kernel) ⟨(Nat.le_of_ble_eq_true rfl), (Nat.le_of_ble_eq_true rfl)⟩) mH_rc rfl rfl hl.1 rfl rfl (Nat.le_of_ble_eq_true rfl) dX6_endsAs_25 ?_
      refine J.pu (fun _ _ _ _ k => lv_aload_n X.1.1 X.1.2.1 dX6_endsAs_28 rfl (lv_at hl 0 rfl) k) ?_
      refine J.pu (fun _ _ _ _ k => lv_iload_n X.1.1 X.1.2.1 dX6_endsAs_29 rfl (lv_at hl 2 rfl) k) ?_
      refine J.bd' (fun v30 M30 h30 => ?_)
      refine J.cV (q := (RX6, TX6, 26)) (ci := 5) (As := [.int a2]) (rest := []) (s2 := [.int v30]) X ⟨rfl, rfl⟩ (ct_X6_ticksMany l hm σ n M25 a2) (mup_of h30) (fun _ _ => cwV 1 X.1.2.2.2.2 (lw_V q2980 q2982 qs92 q174 q2983) rfl rfl rfl (by decide +kernel) ⟨(Nat.le_of_ble_eq_true rfl), (Nat.le_of_ble_eq_true rfl)⟩) mH_rc rfl rfl hl.1 rfl rfl (Nat.le_of_ble_eq_true rfl) dX6_endsAs_30 ?_
      refine J.istore_n (i := 3) (lv' := [(3, .int v30), (0, .ref mo), (1, .int a1), (2, .int a2)]) X.1.1 X.1.2.1 dX6_endsAs_33 rfl hl (by decide) (by first | rfl | simp [va_rf_cat, jcI, jcA, jcJ, jcD, jcF]) (fun ls hl => ?_)
      refine J.pu (fun _ _ _ _ k => lv_aload_n X.1.1 X.1.2.1 dX6_endsAs_34 rfl (lv_at hl 1 rfl) k) ?_
      refine J.pu (fun _ _ _ _ k => lv_aload_n X.1.1 X.1.2.1 dX6_endsAs_35 rfl (lv_at hl 1 rfl) k) ?_
      refine J.pu (fun _ _ _ _ k => lv_iload_n X.1.1 X.1.2.1 dX6_endsAs_36 rfl (lv_at hl 2 rfl) k) ?_
      refine J.bind (fun v37 h37 => ?_)
      refine J.cV (q := (RX6, TX6, 26)) (ci := 5) (As := [.int a1]) (rest := [.ref mo]) (s2 := [.int v37, .ref mo]) X ⟨rfl, rfl⟩ (ct_X6_endOf l hm σ n M30 a1) (jrd_of h37) (fun _ _ => cwV 1 X.1.2.2.2.2 (lw_V q3200 q3202 qs129 q174 q3203) rfl rfl rfl (by decide +kernel) ⟨(Nat.le_of_ble_eq_true rfl), (Nat.le_of_ble_eq_true rfl)⟩) mH_rc rfl rfl hl.1 rfl rfl (Nat.le_of_ble_eq_true rfl) dX6_endsAs_37 ?_
      refine J.bd' (fun v40 M40 h40 => ?_)
      refine J.cV (q := (RX6, TX6, 26)) (ci := 5) (As := [.int v37]) (rest := []) (s2 := [.int v40]) X ⟨rfl, rfl⟩ (ct_X6_goesBack l hm σ n M30 v37) (mup_of h40) (fun _ _ => cwV 1 X.1.2.2.2.2 (lw_V q3188 q3190 qs127 q174 q3191) rfl rfl rfl (by decide +kernel) ⟨(Nat.le_of_ble_eq_true rfl), (Nat.le_of_ble_eq_true rfl)⟩) mH_rc rfl rfl hl.1 rfl rfl (Nat.le_of_ble_eq_true rfl) dX6_endsAs_40 ?_
      exact J.iret (vr := fun t : Int32 × jM => jrI t.1) (fin := fun r : Int32 × jM => mH mo A σ r.2) (t := t) X hr (by rfl) (by rfl) dX6_endsAs_43
    · refine J.pu (fun _ _ _ _ k => lv_iconst (v := 0) X.1.1 X.1.2.1 dX6_endsAs_22 (by decide) k) ?_
      exact J.iret (vr := fun t : Int32 × jM => jrI t.1) (fin := fun r : Int32 × jM => mH mo A σ r.2) (t := t) X hr (by rfl) (by rfl) dX6_endsAs_23
  · refine J.pu (fun _ _ _ _ k => lv_iconst (v := 0) X.1.1 X.1.2.1 dX6_endsAs_22 (by decide) k) ?_
    exact J.iret (vr := fun t : Int32 × jM => jrI t.1) (fin := fun r : Int32 × jM => mH mo A σ r.2) (t := t) X hr (by rfl) (by rfl) dX6_endsAs_23
noncomputable def X6_heldIn (n : Nat) (M : jM) (a1 : Int32) (a2 : Int32) : Option (Int32 × jM) :=
  bd (X6_noChute n (mP M 7 0) a1) fun v7 M7 => if v7 = 0 then (bd (X6_noTicks n M7 a2 2) fun v16 M16 => if v16 = 0 then (bd (X6_goesAside n M16) fun v25 M25 => bd (X6_ticksMany n M25 a2) fun v30 M30 => (X6_ofChute n M30 a1 6).bind fun v39 => bd (X6_goesBack n M30 v39) fun v42 M42 => some (v42, M42)) else (some (0, M16))) else (some (0, M7))
set_option maxHeartbeats 4000000 in
set_option maxRecDepth 100000 in
theorem ct_X6_heldIn (l : Launch) {G : jG} {mo : Nat} {A : Nat → Nat} (hm : mOK G mo A) (σ : jH) (n : Nat) (M : jM) (a1 : Int32) (a2 : Int32) : jCt l G yX6_heldIn (ws_ yX6_heldIn cX6_heldIn 4 (some .int)) 7 157 jrI [.ref mo, .int a1, .int a2] (mH mo A σ M) (mup mo A σ (X6_heldIn n M a1 a2)) := by
  refine jCt.wm (lv := [(0, .ref mo), (1, .int a1), (2, .int a2)]) (plainFor_of_name (by decide)) (Nat.le_of_ble_eq_true rfl) rfl ?_
  intro t p e s m args below meth c ls X hr hnm hl
  have X : jCx p c cX6_heldIn 4 s m args RX6 G meth := X
  unfold X6_heldIn
  refine J.pu (fun _ _ _ _ k => lv_aload_n X.1.1 X.1.2.1 dX6_heldIn_0 rfl (lv_at hl 0 rfl) k) ?_
  refine J.pu (fun _ _ _ _ k => lv_iconst (v := 0) X.1.1 X.1.2.1 dX6_heldIn_1 (by decide) k) ?_
  refine J.mpS (k := 7) X hm (by decide) q2737 rfl rfl rfl dX6_heldIn_2 ?_
  refine J.pu (fun _ _ _ _ k => lv_aload_n X.1.1 X.1.2.1 dX6_heldIn_5 rfl (lv_at hl 0 rfl) k) ?_
  refine J.pu (fun _ _ _ _ k => lv_iload_n X.1.1 X.1.2.1 dX6_heldIn_6 rfl (lv_at hl 1 rfl) k) ?_
  refine J.bd' (fun v7 M7 h7 => ?_)
  refine J.cV (q := (RX6, TX6, 26)) (ci := 5) (As := [.int a1]) (rest := []) (s2 := [.int v7]) X ⟨rfl, rfl⟩ (ct_X6_noChute l hm σ n (mP M 7 0) a1) (mup_of h7) (fun _ _ => cwV 1 X.1.2.2.2.2 (lw_V q3115 q3117 qs117 q174 q3118) rfl rfl rfl (by decide +kernel) ⟨(Nat.le_of_ble_eq_true rfl), (Nat.le_of_ble_eq_true rfl)⟩) mH_rc rfl rfl hl.1 rfl rfl (Nat.le_of_ble_eq_true rfl) dX6_heldIn_7 ?_
  refine J.br (fun _ _ _ _ ka kb => lv_if_ne (tgt := 22) X.1.1 X.1.2.1 dX6_heldIn_10 (by decide) kb ka) (fun c10 => ?_) (fun c10 => ?_)
  · refine J.pu (fun _ _ _ _ k => lv_aload_n X.1.1 X.1.2.1 dX6_heldIn_13 rfl (lv_at hl 0 rfl) k) ?_
    refine J.pu (fun _ _ _ _ k => lv_iload_n X.1.1 X.1.2.1 dX6_heldIn_14 rfl (lv_at hl 2 rfl) k) ?_
    refine J.pu (fun _ _ _ _ k => lv_iconst (v := 2) X.1.1 X.1.2.1 dX6_heldIn_15 (by decide) k) ?_
    refine J.bd' (fun v16 M16 h16 => ?_)
    refine J.cV (q := (RX6, TX6, 26)) (ci := 5) (As := [.int a2, .int 2]) (rest := []) (s2 := [.int v16]) X ⟨rfl, rfl⟩ (ct_X6_noTicks l hm σ n M7 a2 2) (mup_of h16) (fun _ _ => cwV 2 X.1.2.2.2.2 (lw_V q3196 q3198 qs128 q174 q3199) rfl rfl rfl (by decide +kernel) ⟨(Nat.le_of_ble_eq_true rfl), (Nat.le_of_ble_eq_true rfl)⟩) mH_rc rfl rfl hl.1 rfl rfl (Nat.le_of_ble_eq_true rfl) dX6_heldIn_16 ?_
    refine J.br (fun _ _ _ _ ka kb => lv_if_eq (tgt := 24) X.1.1 X.1.2.1 dX6_heldIn_19 (by decide) ka kb) (fun c19 => ?_) (fun c19 => ?_)
    · refine J.pu (fun _ _ _ _ k => lv_aload_n X.1.1 X.1.2.1 dX6_heldIn_24 rfl (lv_at hl 0 rfl) k) ?_
      refine J.bd' (fun v25 M25 h25 => ?_)
      refine J.cV (q := (RX6, TX6, 26)) (ci := 5) (As := []) (rest := []) (s2 := []) X ⟨rfl, rfl⟩ (ct_X6_goesAside l hm σ n M16) (mup_of h25) (fun _ _ => cwV 0 X.1.2.2.2.2 (lw_V q3184 q3186 qs126 q174 q3187) rfl rfl rfl (by decide +kernel) ⟨(Nat.le_of_ble_eq_true rfl), (Nat.le_of_ble_eq_true rfl)⟩) mH_rc rfl rfl hl.1 rfl rfl (Nat.le_of_ble_eq_true rfl) dX6_heldIn_25 ?_
      refine J.pu (fun _ _ _ _ k => lv_aload_n X.1.1 X.1.2.1 dX6_heldIn_28 rfl (lv_at hl 0 rfl) k) ?_
      refine J.pu (fun _ _ _ _ k => lv_iload_n X.1.1 X.1.2.1 dX6_heldIn_29 rfl (lv_at hl 2 rfl) k) ?_
      refine J.bd' (fun v30 M30 h30 => ?_)
      refine J.cV (q := (RX6, TX6, 26)) (ci := 5) (As := [.int a2]) (rest := []) (s2 := [.int v30]) X ⟨rfl, rfl⟩ (ct_X6_ticksMany l hm σ n M25 a2) (mup_of h30) (fun _ _ => cwV 1 X.1.2.2.2.2 (lw_V q2980 q2982 qs92 q174 q2983) rfl rfl rfl (by decide +kernel) ⟨(Nat.le_of_ble_eq_true rfl), (Nat.le_of_ble_eq_true rfl)⟩) mH_rc rfl rfl hl.1 rfl rfl (Nat.le_of_ble_eq_true rfl) dX6_heldIn_30 ?_
      refine J.istore_n (i := 3) (lv' := [(3, .int v30), (0, .ref mo), (1, .int a1), (2, .int a2)]) X.1.1 X.1.2.1 dX6_heldIn_33 rfl hl (by decide) (by first | rfl | simp [va_rf_cat, jcI, jcA, jcJ, jcD, jcF]) (fun ls hl => ?_)
      refine J.pu (fun _ _ _ _ k => lv_aload_n X.1.1 X.1.2.1 dX6_heldIn_34 rfl (lv_at hl 1 rfl) k) ?_
      refine J.pu (fun _ _ _ _ k => lv_aload_n X.1.1 X.1.2.1 dX6_heldIn_35 rfl (lv_at hl 1 rfl) k) ?_
      refine J.pu (fun _ _ _ _ k => lv_iload_n X.1.1 X.1.2.1 dX6_heldIn_36 rfl (lv_at hl 2 rfl) k) ?_
      refine J.pu (fun _ _ _ _ k => lv_bipush (v := 6) X.1.1 X.1.2.1 dX6_heldIn_37 (by decide) k) ?_
      refine J.bind (fun v39 h39 => ?_)
      refine J.cV (q := (RX6, TX6, 26)) (ci := 5) (As := [.int a1, .int 6]) (rest := [.ref mo]) (s2 := [.int v39, .ref mo]) X ⟨rfl, rfl⟩ (ct_X6_ofChute l hm σ n M30 a1 6) (jrd_of h39) (fun _ _ => cwV 2 X.1.2.2.2.2 (lw_V q2908 q2910 qs77 q174 q2911) rfl rfl rfl (by decide +kernel) ⟨(Nat.le_of_ble_eq_true rfl), (Nat.le_of_ble_eq_true rfl)⟩) mH_rc rfl rfl hl.1 rfl rfl (Nat.le_of_ble_eq_true rfl) dX6_heldIn_39 ?_
      refine J.bd' (fun v42 M42 h42 => ?_)
      refine J.cV (q := (RX6, TX6, 26)) (ci := 5) (As := [.int v39]) (rest := []) (s2 := [.int v42]) X ⟨rfl, rfl⟩ (ct_X6_goesBack l hm σ n M30 v39) (mup_of h42) (fun _ _ => cwV 1 X.1.2.2.2.2 (lw_V q3188 q3190 qs127 q174 q3191) rfl rfl rfl (by decide +kernel) ⟨(Nat.le_of_ble_eq_true rfl), (Nat.le_of_ble_eq_true rfl)⟩) mH_rc rfl rfl hl.1 rfl rfl (Nat.le_of_ble_eq_true rfl) dX6_heldIn_42 ?_
      exact J.iret (vr := fun t : Int32 × jM => jrI t.1) (fin := fun r : Int32 × jM => mH mo A σ r.2) (t := t) X hr (by rfl) (by rfl) dX6_heldIn_45
    · refine J.pu (fun _ _ _ _ k => lv_iconst (v := 0) X.1.1 X.1.2.1 dX6_heldIn_22 (by decide) k) ?_
      exact J.iret (vr := fun t : Int32 × jM => jrI t.1) (fin := fun r : Int32 × jM => mH mo A σ r.2) (t := t) X hr (by rfl) (by rfl) dX6_heldIn_23
  · refine J.pu (fun _ _ _ _ k => lv_iconst (v := 0) X.1.1 X.1.2.1 dX6_heldIn_22 (by decide) k) ?_
    exact J.iret (vr := fun t : Int32 × jM => jrI t.1) (fin := fun r : Int32 × jM => mH mo A σ r.2) (t := t) X hr (by rfl) (by rfl) dX6_heldIn_23
noncomputable def X6_grows (n : Nat) (M : jM) (a1 : Int32) (a2 : Int32) : Option (Int32 × jM) :=
  (mA M 0 (7 + a1)).bind fun v8 => bd (X6_goesAside n M) fun v11 M11 => bd (X6_ticksMany n M11 a2) fun v16 M16 => (mA M16 0 (7 + a1)).bind fun v30 => bd (X6_goesBack n M16 (v30 - v8)) fun v33 M33 => some (v33, M33)
set_option maxHeartbeats 4000000 in
set_option maxRecDepth 100000 in
theorem ct_X6_grows (l : Launch) {G : jG} {mo : Nat} {A : Nat → Nat} (hm : mOK G mo A) (σ : jH) (n : Nat) (M : jM) (a1 : Int32) (a2 : Int32) : jCt l G yX6_grows (ws_ yX6_grows cX6_grows 5 (some .int)) 7 157 jrI [.ref mo, .int a1, .int a2] (mH mo A σ M) (mup mo A σ (X6_grows n M a1 a2)) := by
  refine jCt.wm (lv := [(0, .ref mo), (1, .int a1), (2, .int a2)]) (plainFor_of_name (by decide)) (Nat.le_of_ble_eq_true rfl) rfl ?_
  intro t p e s m args below meth c ls X hr hnm hl
  have X : jCx p c cX6_grows 5 s m args RX6 G meth := X
  unfold X6_grows
  refine J.pu (fun _ _ _ _ k => lv_aload_n X.1.1 X.1.2.1 dX6_grows_0 rfl (lv_at hl 0 rfl) k) ?_
  refine J.mgA (k := 0) X (by decide) q2730 rfl rfl dX6_grows_1 ?_
  refine J.pu (fun _ _ _ _ k => lv_bipush (v := 7) X.1.1 X.1.2.1 dX6_grows_4 (by decide) k) ?_
  refine J.pu (fun _ _ _ _ k => lv_iload_n X.1.1 X.1.2.1 dX6_grows_6 rfl (lv_at hl 1 rfl) k) ?_
  refine J.pu (fun _ _ _ _ k => lv_iadd X.1.1 X.1.2.1 dX6_grows_7 k) ?_
  refine J.mld X hm (by decide) dX6_grows_8 (fun v8 h8 => ?_)
  refine J.istore_n (i := 3) (lv' := [(3, .int v8), (0, .ref mo), (1, .int a1), (2, .int a2)]) X.1.1 X.1.2.1 dX6_grows_9 rfl hl (by decide) (by first | rfl | simp [va_rf_cat, jcI, jcA, jcJ, jcD, jcF]) (fun ls hl => ?_)
  refine J.pu (fun _ _ _ _ k => lv_aload_n X.1.1 X.1.2.1 dX6_grows_10 rfl (lv_at hl 1 rfl) k) ?_
  refine J.bd' (fun v11 M11 h11 => ?_)
  refine J.cV (q := (RX6, TX6, 26)) (ci := 5) (As := []) (rest := []) (s2 := []) X ⟨rfl, rfl⟩ (ct_X6_goesAside l hm σ n M) (mup_of h11) (fun _ _ => cwV 0 X.1.2.2.2.2 (lw_V q3184 q3186 qs126 q174 q3187) rfl rfl rfl (by decide +kernel) ⟨(Nat.le_of_ble_eq_true rfl), (Nat.le_of_ble_eq_true rfl)⟩) mH_rc rfl rfl hl.1 rfl rfl (Nat.le_of_ble_eq_true rfl) dX6_grows_11 ?_
  refine J.pu (fun _ _ _ _ k => lv_aload_n X.1.1 X.1.2.1 dX6_grows_14 rfl (lv_at hl 1 rfl) k) ?_
  refine J.pu (fun _ _ _ _ k => lv_iload_n X.1.1 X.1.2.1 dX6_grows_15 rfl (lv_at hl 3 rfl) k) ?_
  refine J.bd' (fun v16 M16 h16 => ?_)
  refine J.cV (q := (RX6, TX6, 26)) (ci := 5) (As := [.int a2]) (rest := []) (s2 := [.int v16]) X ⟨rfl, rfl⟩ (ct_X6_ticksMany l hm σ n M11 a2) (mup_of h16) (fun _ _ => cwV 1 X.1.2.2.2.2 (lw_V q2980 q2982 qs92 q174 q2983) rfl rfl rfl (by decide +kernel) ⟨(Nat.le_of_ble_eq_true rfl), (Nat.le_of_ble_eq_true rfl)⟩) mH_rc rfl rfl hl.1 rfl rfl (Nat.le_of_ble_eq_true rfl) dX6_grows_16 ?_
  refine J.istore (lv' := [(4, .int v16), (3, .int v8), (0, .ref mo), (1, .int a1), (2, .int a2)]) X.1.1 X.1.2.1 dX6_grows_19 hl (by decide) (by first | rfl | simp [va_rf_cat, jcI, jcA, jcJ, jcD, jcF]) (fun ls hl => ?_)
  refine J.pu (fun _ _ _ _ k => lv_aload_n X.1.1 X.1.2.1 dX6_grows_21 rfl (lv_at hl 2 rfl) k) ?_
  refine J.pu (fun _ _ _ _ k => lv_aload_n X.1.1 X.1.2.1 dX6_grows_22 rfl (lv_at hl 2 rfl) k) ?_
  refine J.mgA (k := 0) X (by decide) q2730 rfl rfl dX6_grows_23 ?_
  refine J.pu (fun _ _ _ _ k => lv_bipush (v := 7) X.1.1 X.1.2.1 dX6_grows_26 (by decide) k) ?_
  refine J.pu (fun _ _ _ _ k => lv_iload_n X.1.1 X.1.2.1 dX6_grows_28 rfl (lv_at hl 3 rfl) k) ?_
  refine J.pu (fun _ _ _ _ k => lv_iadd X.1.1 X.1.2.1 dX6_grows_29 k) ?_
  refine J.mld X hm (by decide) dX6_grows_30 (fun v30 h30 => ?_)
  refine J.pu (fun _ _ _ _ k => lv_iload_n X.1.1 X.1.2.1 dX6_grows_31 rfl (lv_at hl 1 rfl) k) ?_
  refine J.pu (fun _ _ _ _ k => lv_isub X.1.1 X.1.2.1 dX6_grows_32 k) ?_
  refine J.bd' (fun v33 M33 h33 => ?_)
  refine J.cV (q := (RX6, TX6, 26)) (ci := 5) (As := [.int (v30 - v8)]) (rest := []) (s2 := [.int v33]) X ⟨rfl, rfl⟩ (ct_X6_goesBack l hm σ n M16 (v30 - v8)) (mup_of h33) (fun _ _ => cwV 1 X.1.2.2.2.2 (lw_V q3188 q3190 qs127 q174 q3191) rfl rfl rfl (by decide +kernel) ⟨(Nat.le_of_ble_eq_true rfl), (Nat.le_of_ble_eq_true rfl)⟩) mH_rc rfl rfl hl.1 rfl rfl (Nat.le_of_ble_eq_true rfl) dX6_grows_33 ?_
  exact J.iret (vr := fun t : Int32 × jM => jrI t.1) (fin := fun r : Int32 × jM => mH mo A σ r.2) (t := t) X hr (by rfl) (by rfl) dX6_grows_36
noncomputable def X6_growsIn_j21 (n : Nat) (a1 : Int32) (a2 : Int32) (s1_21 : Int32) (B21 : jM) : Option (Int32 × jM) :=
  bd (X6_fails n B21 s1_21 1) fun v22 M22 => if v22 = 0 then (bd (X6_noTicks n M22 a2 1) fun v31 M31 => if v31 = 0 then (bd (X6_grows n M31 a1 a2) fun v44 M44 => some (v44, M44)) else (some (0, M31))) else (some (0, M22))
noncomputable def X6_growsIn (n : Nat) (M : jM) (a1 : Int32) (a2 : Int32) : Option (Int32 × jM) :=
  (X6_inRange n (mP M 7 0) a1 0 11).bind fun v10 => if v10 = 0 then (X6_growsIn_j21 n a1 a2 1 (mP M 7 0)) else (X6_growsIn_j21 n a1 a2 0 (mP M 7 0))
set_option maxHeartbeats 4000000 in
set_option maxRecDepth 100000 in
theorem ct_X6_growsIn (l : Launch) {G : jG} {mo : Nat} {A : Nat → Nat} (hm : mOK G mo A) (σ : jH) (n : Nat) (M : jM) (a1 : Int32) (a2 : Int32) : jCt l G yX6_growsIn (ws_ yX6_growsIn cX6_growsIn 3 (some .int)) 8 181 jrI [.ref mo, .int a1, .int a2] (mH mo A σ M) (mup mo A σ (X6_growsIn n M a1 a2)) := by
  refine jCt.wm (lv := [(0, .ref mo), (1, .int a1), (2, .int a2)]) (plainFor_of_name (by decide)) (Nat.le_of_ble_eq_true rfl) rfl ?_
  intro t p e s m args below meth c ls X hr hnm hl
  have X : jCx p c cX6_growsIn 3 s m args RX6 G meth := X
  have j21 : ∀ (s1_21 : Int32) (B21 : jM) (ls : Array Slot), lv_has ls 3 [(0, .ref mo), (1, .int a1), (2, .int a2)] → jGo l G 8 181 (mH mo A σ M) (fun r : Int32 × jM => mH mo A σ r.2) (fun t => jrI t.1) t p e s m args below meth c (X6_growsIn_j21 n a1 a2 s1_21 B21) (mH mo A σ B21) (F0 m 21 ls [.int s1_21, .ref mo]) := by
    intro s1_21 B21 ls hl
    unfold X6_growsIn_j21
    refine J.pu (fun _ _ _ _ k => lv_iconst (v := 1) X.1.1 X.1.2.1 dX6_growsIn_21 (by decide) k) ?_
    refine J.bd' (fun v22 M22 h22 => ?_)
    refine J.cV (q := (RX6, TX6, 26)) (ci := 5) (As := [.int s1_21, .int 1]) (rest := []) (s2 := [.int v22]) X ⟨rfl, rfl⟩ (ct_X6_fails l hm σ n B21 s1_21 1) (mup_of h22) (fun _ _ => cwV 2 X.1.2.2.2.2 (lw_V q3075 q3077 qs111 q174 q3078) rfl rfl rfl (by decide +kernel) ⟨(Nat.le_of_ble_eq_true rfl), (Nat.le_of_ble_eq_true rfl)⟩) mH_rc rfl rfl hl.1 rfl rfl (Nat.le_of_ble_eq_true rfl) dX6_growsIn_22 ?_
    refine J.br (fun _ _ _ _ ka kb => lv_if_ne (tgt := 37) X.1.1 X.1.2.1 dX6_growsIn_25 (by decide) kb ka) (fun c25 => ?_) (fun c25 => ?_)
    · refine J.pu (fun _ _ _ _ k => lv_aload_n X.1.1 X.1.2.1 dX6_growsIn_28 rfl (lv_at hl 0 rfl) k) ?_
      refine J.pu (fun _ _ _ _ k => lv_iload_n X.1.1 X.1.2.1 dX6_growsIn_29 rfl (lv_at hl 2 rfl) k) ?_
      refine J.pu (fun _ _ _ _ k => lv_iconst (v := 1) X.1.1 X.1.2.1 dX6_growsIn_30 (by decide) k) ?_
      refine J.bd' (fun v31 M31 h31 => ?_)
      refine J.cV (q := (RX6, TX6, 26)) (ci := 5) (As := [.int a2, .int 1]) (rest := []) (s2 := [.int v31]) X ⟨rfl, rfl⟩ (ct_X6_noTicks l hm σ n M22 a2 1) (mup_of h31) (fun _ _ => cwV 2 X.1.2.2.2.2 (lw_V q3196 q3198 qs128 q174 q3199) rfl rfl rfl (by decide +kernel) ⟨(Nat.le_of_ble_eq_true rfl), (Nat.le_of_ble_eq_true rfl)⟩) mH_rc rfl rfl hl.1 rfl rfl (Nat.le_of_ble_eq_true rfl) dX6_growsIn_31 ?_
      refine J.br (fun _ _ _ _ ka kb => lv_if_eq (tgt := 41) X.1.1 X.1.2.1 dX6_growsIn_34 (by decide) ka kb) (fun c34 => ?_) (fun c34 => ?_)
      · refine J.pu (fun _ _ _ _ k => lv_aload_n X.1.1 X.1.2.1 dX6_growsIn_41 rfl (lv_at hl 0 rfl) k) ?_
        refine J.pu (fun _ _ _ _ k => lv_iload_n X.1.1 X.1.2.1 dX6_growsIn_42 rfl (lv_at hl 1 rfl) k) ?_
        refine J.pu (fun _ _ _ _ k => lv_iload_n X.1.1 X.1.2.1 dX6_growsIn_43 rfl (lv_at hl 2 rfl) k) ?_
        refine J.bd' (fun v44 M44 h44 => ?_)
        refine J.cV (q := (RX6, TX6, 26)) (ci := 5) (As := [.int a1, .int a2]) (rest := []) (s2 := [.int v44]) X ⟨rfl, rfl⟩ (ct_X6_grows l hm σ n M31 a1 a2) (mup_of h44) (fun _ _ => cwV 2 X.1.2.2.2.2 (lw_V q3212 q3214 qs130 q174 q3215) rfl rfl rfl (by decide +kernel) ⟨(Nat.le_of_ble_eq_true rfl), (Nat.le_of_ble_eq_true rfl)⟩) mH_rc rfl rfl hl.1 rfl rfl (Nat.le_of_ble_eq_true rfl) dX6_growsIn_44 ?_
        exact J.iret (vr := fun t : Int32 × jM => jrI t.1) (fin := fun r : Int32 × jM => mH mo A σ r.2) (t := t) X hr (by rfl) (by rfl) dX6_growsIn_47
      · refine J.pu (fun _ _ _ _ k => lv_iconst (v := 0) X.1.1 X.1.2.1 dX6_growsIn_37 (by decide) k) ?_
        refine J.pu (fun _ _ _ _ k => lv_goto (tgt := 47) X.1.1 X.1.2.1 dX6_growsIn_38 (by decide) k) ?_
        exact J.iret (vr := fun t : Int32 × jM => jrI t.1) (fin := fun r : Int32 × jM => mH mo A σ r.2) (t := t) X hr (by rfl) (by rfl) dX6_growsIn_47
    · refine J.pu (fun _ _ _ _ k => lv_iconst (v := 0) X.1.1 X.1.2.1 dX6_growsIn_37 (by decide) k) ?_
      refine J.pu (fun _ _ _ _ k => lv_goto (tgt := 47) X.1.1 X.1.2.1 dX6_growsIn_38 (by decide) k) ?_
      exact J.iret (vr := fun t : Int32 × jM => jrI t.1) (fin := fun r : Int32 × jM => mH mo A σ r.2) (t := t) X hr (by rfl) (by rfl) dX6_growsIn_47
  unfold X6_growsIn
  refine J.pu (fun _ _ _ _ k => lv_aload_n X.1.1 X.1.2.1 dX6_growsIn_0 rfl (lv_at hl 0 rfl) k) ?_
  refine J.pu (fun _ _ _ _ k => lv_iconst (v := 0) X.1.1 X.1.2.1 dX6_growsIn_1 (by decide) k) ?_
  refine J.mpS (k := 7) X hm (by decide) q2737 rfl rfl rfl dX6_growsIn_2 ?_
  refine J.pu (fun _ _ _ _ k => lv_aload_n X.1.1 X.1.2.1 dX6_growsIn_5 rfl (lv_at hl 0 rfl) k) ?_
  refine J.pu (fun _ _ _ _ k => lv_iload_n X.1.1 X.1.2.1 dX6_growsIn_6 rfl (lv_at hl 1 rfl) k) ?_
  refine J.pu (fun _ _ _ _ k => lv_iconst (v := 0) X.1.1 X.1.2.1 dX6_growsIn_7 (by decide) k) ?_
  refine J.pu (fun _ _ _ _ k => lv_bipush (v := 11) X.1.1 X.1.2.1 dX6_growsIn_8 (by decide) k) ?_
  refine J.bind (fun v10 h10 => ?_)
  refine J.cS (As := [.int a1, .int 0, .int 11]) (rest := [.ref mo]) (s2 := [.int v10, .ref mo]) X ⟨rfl, rfl⟩ (ct_X6_inRange l hm σ n (mP M 7 0) a1 0 11) (jrd_of h10) (fun _ _ => va_cwS 3 X.1.2.2.2.2 (lw_S q2825 q2826 q174 q2827) rfl rfl rfl (by decide +kernel) ⟨(Nat.le_of_ble_eq_true rfl), (Nat.le_of_ble_eq_true rfl)⟩) rfl hl.1 rfl rfl (Nat.le_of_ble_eq_true rfl) dX6_growsIn_10 ?_
  refine J.br (fun _ _ _ _ ka kb => lv_if_ne (tgt := 20) X.1.1 X.1.2.1 dX6_growsIn_13 (by decide) kb ka) (fun c13 => ?_) (fun c13 => ?_)
  · refine J.pu (fun _ _ _ _ k => lv_iconst (v := 1) X.1.1 X.1.2.1 dX6_growsIn_16 (by decide) k) ?_
    refine J.pu (fun _ _ _ _ k => lv_goto (tgt := 21) X.1.1 X.1.2.1 dX6_growsIn_17 (by decide) k) ?_
    exact j21 1 (mP M 7 0) ls (lv_sub hl [0, 1, 2] rfl)
  · refine J.pu (fun _ _ _ _ k => lv_iconst (v := 0) X.1.1 X.1.2.1 dX6_growsIn_20 (by decide) k) ?_
    exact j21 0 (mP M 7 0) ls (lv_sub hl [0, 1, 2] rfl)
noncomputable def X6_gain (n : Nat) (M : jM) (a1 : Int32) (a2 : Int32) : Option (Int32 × jM) :=
  bd (X6_grows n M 2 a2) fun v3 M3 => (mA M3 0 9).bind fun v13 => bd (X6_goesAside n M3) fun v17 M17 => bd (X6_empties n M17 a1) fun v22 M22 => bd (X6_opens n M22 a1 1) fun v30 M30 => bd (X6_ticksMany n M30 a2) fun v37 M37 => (mA M37 0 9).bind fun v49 => bd (X6_goesBack n M37 ((v49 - v13) - v3)) fun v55 M55 => some (v55, M55)
set_option maxHeartbeats 4000000 in
set_option maxRecDepth 100000 in
theorem ct_X6_gain (l : Launch) {G : jG} {mo : Nat} {A : Nat → Nat} (hm : mOK G mo A) (σ : jH) (n : Nat) (M : jM) (a1 : Int32) (a2 : Int32) : jCt l G yX6_gain (ws_ yX6_gain cX6_gain 8 (some .int)) 8 181 jrI [.ref mo, .int a1, .int a2] (mH mo A σ M) (mup mo A σ (X6_gain n M a1 a2)) := by
  refine jCt.wm (lv := [(0, .ref mo), (1, .int a1), (2, .int a2)]) (plainFor_of_name (by decide)) (Nat.le_of_ble_eq_true rfl) rfl ?_
  intro t p e s m args below meth c ls X hr hnm hl
  have X : jCx p c cX6_gain 8 s m args RX6 G meth := X
  unfold X6_gain
  refine J.pu (fun _ _ _ _ k => lv_aload_n X.1.1 X.1.2.1 dX6_gain_0 rfl (lv_at hl 0 rfl) k) ?_
  refine J.pu (fun _ _ _ _ k => lv_iconst (v := 2) X.1.1 X.1.2.1 dX6_gain_1 (by decide) k) ?_
  refine J.pu (fun _ _ _ _ k => lv_iload_n X.1.1 X.1.2.1 dX6_gain_2 rfl (lv_at hl 2 rfl) k) ?_
  refine J.bd' (fun v3 M3 h3 => ?_)
  refine J.cV (q := (RX6, TX6, 26)) (ci := 5) (As := [.int 2, .int a2]) (rest := []) (s2 := [.int v3]) X ⟨rfl, rfl⟩ (ct_X6_grows l hm σ n M 2 a2) (mup_of h3) (fun _ _ => cwV 2 X.1.2.2.2.2 (lw_V q3212 q3214 qs130 q174 q3215) rfl rfl rfl (by decide +kernel) ⟨(Nat.le_of_ble_eq_true rfl), (Nat.le_of_ble_eq_true rfl)⟩) mH_rc rfl rfl hl.1 rfl rfl (Nat.le_of_ble_eq_true rfl) dX6_gain_3 ?_
  refine J.istore_n (i := 3) (lv' := [(3, .int v3), (0, .ref mo), (1, .int a1), (2, .int a2)]) X.1.1 X.1.2.1 dX6_gain_6 rfl hl (by decide) (by first | rfl | simp [va_rf_cat, jcI, jcA, jcJ, jcD, jcF]) (fun ls hl => ?_)
  refine J.pu (fun _ _ _ _ k => lv_aload_n X.1.1 X.1.2.1 dX6_gain_7 rfl (lv_at hl 1 rfl) k) ?_
  refine J.mgA (k := 0) X (by decide) q2730 rfl rfl dX6_gain_8 ?_
  refine J.pu (fun _ _ _ _ k => lv_bipush (v := 9) X.1.1 X.1.2.1 dX6_gain_11 (by decide) k) ?_
  refine J.mld X hm (by decide) dX6_gain_13 (fun v13 h13 => ?_)
  refine J.istore (lv' := [(4, .int v13), (3, .int v3), (0, .ref mo), (1, .int a1), (2, .int a2)]) X.1.1 X.1.2.1 dX6_gain_14 hl (by decide) (by first | rfl | simp [va_rf_cat, jcI, jcA, jcJ, jcD, jcF]) (fun ls hl => ?_)
  refine J.pu (fun _ _ _ _ k => lv_aload_n X.1.1 X.1.2.1 dX6_gain_16 rfl (lv_at hl 2 rfl) k) ?_
  refine J.bd' (fun v17 M17 h17 => ?_)
  refine J.cV (q := (RX6, TX6, 26)) (ci := 5) (As := []) (rest := []) (s2 := []) X ⟨rfl, rfl⟩ (ct_X6_goesAside l hm σ n M3) (mup_of h17) (fun _ _ => cwV 0 X.1.2.2.2.2 (lw_V q3184 q3186 qs126 q174 q3187) rfl rfl rfl (by decide +kernel) ⟨(Nat.le_of_ble_eq_true rfl), (Nat.le_of_ble_eq_true rfl)⟩) mH_rc rfl rfl hl.1 rfl rfl (Nat.le_of_ble_eq_true rfl) dX6_gain_17 ?_
  refine J.pu (fun _ _ _ _ k => lv_aload_n X.1.1 X.1.2.1 dX6_gain_20 rfl (lv_at hl 2 rfl) k) ?_
  refine J.pu (fun _ _ _ _ k => lv_iload_n X.1.1 X.1.2.1 dX6_gain_21 rfl (lv_at hl 3 rfl) k) ?_
  refine J.bd' (fun v22 M22 h22 => ?_)
  refine J.cV (q := (RX6, TX6, 26)) (ci := 5) (As := [.int a1]) (rest := []) (s2 := [.int v22]) X ⟨rfl, rfl⟩ (ct_X6_empties l hm σ n M17 a1) (mup_of h22) (fun _ _ => cwV 1 X.1.2.2.2.2 (lw_V q3051 q3053 qs108 q174 q3054) rfl rfl rfl (by decide +kernel) ⟨(Nat.le_of_ble_eq_true rfl), (Nat.le_of_ble_eq_true rfl)⟩) mH_rc rfl rfl hl.1 rfl rfl (Nat.le_of_ble_eq_true rfl) dX6_gain_22 ?_
  refine J.istore (lv' := [(5, .int v22), (4, .int v13), (3, .int v3), (0, .ref mo), (1, .int a1), (2, .int a2)]) X.1.1 X.1.2.1 dX6_gain_25 hl (by decide) (by first | rfl | simp [va_rf_cat, jcI, jcA, jcJ, jcD, jcF]) (fun ls hl => ?_)
  refine J.pu (fun _ _ _ _ k => lv_aload_n X.1.1 X.1.2.1 dX6_gain_27 rfl (lv_at hl 3 rfl) k) ?_
  refine J.pu (fun _ _ _ _ k => lv_iload_n X.1.1 X.1.2.1 dX6_gain_28 rfl (lv_at hl 4 rfl) k) ?_
  refine J.pu (fun _ _ _ _ k => lv_iconst (v := 1) X.1.1 X.1.2.1 dX6_gain_29 (by decide) k) ?_
  refine J.bd' (fun v30 M30 h30 => ?_)
  refine J.cV (q := (RX6, TX6, 26)) (ci := 5) (As := [.int a1, .int 1]) (rest := []) (s2 := [.int v30]) X ⟨rfl, rfl⟩ (ct_X6_opens l hm σ n M22 a1 1) (mup_of h30) (fun _ _ => cwV 2 X.1.2.2.2.2 (lw_V q3055 q3057 qs109 q174 q3058) rfl rfl rfl (by decide +kernel) ⟨(Nat.le_of_ble_eq_true rfl), (Nat.le_of_ble_eq_true rfl)⟩) mH_rc rfl rfl hl.1 rfl rfl (Nat.le_of_ble_eq_true rfl) dX6_gain_30 ?_
  refine J.istore (lv' := [(6, .int v30), (5, .int v22), (4, .int v13), (3, .int v3), (0, .ref mo), (1, .int a1), (2, .int a2)]) X.1.1 X.1.2.1 dX6_gain_33 hl (by decide) (by first | rfl | simp [va_rf_cat, jcI, jcA, jcJ, jcD, jcF]) (fun ls hl => ?_)
  refine J.pu (fun _ _ _ _ k => lv_aload_n X.1.1 X.1.2.1 dX6_gain_35 rfl (lv_at hl 4 rfl) k) ?_
  refine J.pu (fun _ _ _ _ k => lv_iload_n X.1.1 X.1.2.1 dX6_gain_36 rfl (lv_at hl 6 rfl) k) ?_
  refine J.bd' (fun v37 M37 h37 => ?_)
  refine J.cV (q := (RX6, TX6, 26)) (ci := 5) (As := [.int a2]) (rest := []) (s2 := [.int v37]) X ⟨rfl, rfl⟩ (ct_X6_ticksMany l hm σ n M30 a2) (mup_of h37) (fun _ _ => cwV 1 X.1.2.2.2.2 (lw_V q2980 q2982 qs92 q174 q2983) rfl rfl rfl (by decide +kernel) ⟨(Nat.le_of_ble_eq_true rfl), (Nat.le_of_ble_eq_true rfl)⟩) mH_rc rfl rfl hl.1 rfl rfl (Nat.le_of_ble_eq_true rfl) dX6_gain_37 ?_
  refine J.istore (lv' := [(7, .int v37), (6, .int v30), (5, .int v22), (4, .int v13), (3, .int v3), (0, .ref mo), (1, .int a1), (2, .int a2)]) X.1.1 X.1.2.1 dX6_gain_40 hl (by decide) (by first | rfl | simp [va_rf_cat, jcI, jcA, jcJ, jcD, jcF]) (fun ls hl => ?_)
  refine J.pu (fun _ _ _ _ k => lv_aload_n X.1.1 X.1.2.1 dX6_gain_42 rfl (lv_at hl 5 rfl) k) ?_
  refine J.pu (fun _ _ _ _ k => lv_aload_n X.1.1 X.1.2.1 dX6_gain_43 rfl (lv_at hl 5 rfl) k) ?_
  refine J.mgA (k := 0) X (by decide) q2730 rfl rfl dX6_gain_44 ?_
  refine J.pu (fun _ _ _ _ k => lv_bipush (v := 9) X.1.1 X.1.2.1 dX6_gain_47 (by decide) k) ?_
  refine J.mld X hm (by decide) dX6_gain_49 (fun v49 h49 => ?_)
  refine J.pu (fun _ _ _ _ k => lv_iload X.1.1 X.1.2.1 dX6_gain_50 (lv_at hl 3 rfl) k) ?_
  refine J.pu (fun _ _ _ _ k => lv_isub X.1.1 X.1.2.1 dX6_gain_52 k) ?_
  refine J.pu (fun _ _ _ _ k => lv_iload_n X.1.1 X.1.2.1 dX6_gain_53 rfl (lv_at hl 4 rfl) k) ?_
  refine J.pu (fun _ _ _ _ k => lv_isub X.1.1 X.1.2.1 dX6_gain_54 k) ?_
  refine J.bd' (fun v55 M55 h55 => ?_)
  refine J.cV (q := (RX6, TX6, 26)) (ci := 5) (As := [.int ((v49 - v13) - v3)]) (rest := []) (s2 := [.int v55]) X ⟨rfl, rfl⟩ (ct_X6_goesBack l hm σ n M37 ((v49 - v13) - v3)) (mup_of h55) (fun _ _ => cwV 1 X.1.2.2.2.2 (lw_V q3188 q3190 qs127 q174 q3191) rfl rfl rfl (by decide +kernel) ⟨(Nat.le_of_ble_eq_true rfl), (Nat.le_of_ble_eq_true rfl)⟩) mH_rc rfl rfl hl.1 rfl rfl (Nat.le_of_ble_eq_true rfl) dX6_gain_55 ?_
  exact J.iret (vr := fun t : Int32 × jM => jrI t.1) (fin := fun r : Int32 × jM => mH mo A σ r.2) (t := t) X hr (by rfl) (by rfl) dX6_gain_58
noncomputable def X6_gainOf (n : Nat) (M : jM) (a1 : Int32) (a2 : Int32) : Option (Int32 × jM) :=
  bd (X6_noChute n (mP M 7 0) a1) fun v7 M7 => if v7 = 0 then (bd (X6_noTicks n M7 a2 2) fun v16 M16 => if v16 = 0 then (bd (X6_gain n M16 a1 a2) fun v29 M29 => some (v29, M29)) else (some (0, M16))) else (some (0, M7))
set_option maxHeartbeats 4000000 in
set_option maxRecDepth 100000 in
theorem ct_X6_gainOf (l : Launch) {G : jG} {mo : Nat} {A : Nat → Nat} (hm : mOK G mo A) (σ : jH) (n : Nat) (M : jM) (a1 : Int32) (a2 : Int32) : jCt l G yX6_gainOf (ws_ yX6_gainOf cX6_gainOf 3 (some .int)) 9 208 jrI [.ref mo, .int a1, .int a2] (mH mo A σ M) (mup mo A σ (X6_gainOf n M a1 a2)) := by
  refine jCt.wm (lv := [(0, .ref mo), (1, .int a1), (2, .int a2)]) (plainFor_of_name (by decide)) (Nat.le_of_ble_eq_true rfl) rfl ?_
  intro t p e s m args below meth c ls X hr hnm hl
  have X : jCx p c cX6_gainOf 3 s m args RX6 G meth := X
  unfold X6_gainOf
  refine J.pu (fun _ _ _ _ k => lv_aload_n X.1.1 X.1.2.1 dX6_gainOf_0 rfl (lv_at hl 0 rfl) k) ?_
  refine J.pu (fun _ _ _ _ k => lv_iconst (v := 0) X.1.1 X.1.2.1 dX6_gainOf_1 (by decide) k) ?_
  refine J.mpS (k := 7) X hm (by decide) q2737 rfl rfl rfl dX6_gainOf_2 ?_
  refine J.pu (fun _ _ _ _ k => lv_aload_n X.1.1 X.1.2.1 dX6_gainOf_5 rfl (lv_at hl 0 rfl) k) ?_
  refine J.pu (fun _ _ _ _ k => lv_iload_n X.1.1 X.1.2.1 dX6_gainOf_6 rfl (lv_at hl 1 rfl) k) ?_
  refine J.bd' (fun v7 M7 h7 => ?_)
  refine J.cV (q := (RX6, TX6, 26)) (ci := 5) (As := [.int a1]) (rest := []) (s2 := [.int v7]) X ⟨rfl, rfl⟩ (ct_X6_noChute l hm σ n (mP M 7 0) a1) (mup_of h7) (fun _ _ => cwV 1 X.1.2.2.2.2 (lw_V q3115 q3117 qs117 q174 q3118) rfl rfl rfl (by decide +kernel) ⟨(Nat.le_of_ble_eq_true rfl), (Nat.le_of_ble_eq_true rfl)⟩) mH_rc rfl rfl hl.1 rfl rfl (Nat.le_of_ble_eq_true rfl) dX6_gainOf_7 ?_
  refine J.br (fun _ _ _ _ ka kb => lv_if_ne (tgt := 22) X.1.1 X.1.2.1 dX6_gainOf_10 (by decide) kb ka) (fun c10 => ?_) (fun c10 => ?_)
  · refine J.pu (fun _ _ _ _ k => lv_aload_n X.1.1 X.1.2.1 dX6_gainOf_13 rfl (lv_at hl 0 rfl) k) ?_
    refine J.pu (fun _ _ _ _ k => lv_iload_n X.1.1 X.1.2.1 dX6_gainOf_14 rfl (lv_at hl 2 rfl) k) ?_
    refine J.pu (fun _ _ _ _ k => lv_iconst (v := 2) X.1.1 X.1.2.1 dX6_gainOf_15 (by decide) k) ?_
    refine J.bd' (fun v16 M16 h16 => ?_)
    refine J.cV (q := (RX6, TX6, 26)) (ci := 5) (As := [.int a2, .int 2]) (rest := []) (s2 := [.int v16]) X ⟨rfl, rfl⟩ (ct_X6_noTicks l hm σ n M7 a2 2) (mup_of h16) (fun _ _ => cwV 2 X.1.2.2.2.2 (lw_V q3196 q3198 qs128 q174 q3199) rfl rfl rfl (by decide +kernel) ⟨(Nat.le_of_ble_eq_true rfl), (Nat.le_of_ble_eq_true rfl)⟩) mH_rc rfl rfl hl.1 rfl rfl (Nat.le_of_ble_eq_true rfl) dX6_gainOf_16 ?_
    refine J.br (fun _ _ _ _ ka kb => lv_if_eq (tgt := 26) X.1.1 X.1.2.1 dX6_gainOf_19 (by decide) ka kb) (fun c19 => ?_) (fun c19 => ?_)
    · refine J.pu (fun _ _ _ _ k => lv_aload_n X.1.1 X.1.2.1 dX6_gainOf_26 rfl (lv_at hl 0 rfl) k) ?_
      refine J.pu (fun _ _ _ _ k => lv_iload_n X.1.1 X.1.2.1 dX6_gainOf_27 rfl (lv_at hl 1 rfl) k) ?_
      refine J.pu (fun _ _ _ _ k => lv_iload_n X.1.1 X.1.2.1 dX6_gainOf_28 rfl (lv_at hl 2 rfl) k) ?_
      refine J.bd' (fun v29 M29 h29 => ?_)
      refine J.cV (q := (RX6, TX6, 26)) (ci := 5) (As := [.int a1, .int a2]) (rest := []) (s2 := [.int v29]) X ⟨rfl, rfl⟩ (ct_X6_gain l hm σ n M16 a1 a2) (mup_of h29) (fun _ _ => cwV 2 X.1.2.2.2.2 (lw_V q3220 q3222 qs131 q174 q3223) rfl rfl rfl (by decide +kernel) ⟨(Nat.le_of_ble_eq_true rfl), (Nat.le_of_ble_eq_true rfl)⟩) mH_rc rfl rfl hl.1 rfl rfl (Nat.le_of_ble_eq_true rfl) dX6_gainOf_29 ?_
      exact J.iret (vr := fun t : Int32 × jM => jrI t.1) (fin := fun r : Int32 × jM => mH mo A σ r.2) (t := t) X hr (by rfl) (by rfl) dX6_gainOf_32
    · refine J.pu (fun _ _ _ _ k => lv_iconst (v := 0) X.1.1 X.1.2.1 dX6_gainOf_22 (by decide) k) ?_
      refine J.pu (fun _ _ _ _ k => lv_goto (tgt := 32) X.1.1 X.1.2.1 dX6_gainOf_23 (by decide) k) ?_
      exact J.iret (vr := fun t : Int32 × jM => jrI t.1) (fin := fun r : Int32 × jM => mH mo A σ r.2) (t := t) X hr (by rfl) (by rfl) dX6_gainOf_32
  · refine J.pu (fun _ _ _ _ k => lv_iconst (v := 0) X.1.1 X.1.2.1 dX6_gainOf_22 (by decide) k) ?_
    refine J.pu (fun _ _ _ _ k => lv_goto (tgt := 32) X.1.1 X.1.2.1 dX6_gainOf_23 (by decide) k) ?_
    exact J.iret (vr := fun t : Int32 × jM => jrI t.1) (fin := fun r : Int32 × jM => mH mo A σ r.2) (t := t) X hr (by rfl) (by rfl) dX6_gainOf_32
noncomputable def X6_bestEmpty_j52 (n : Nat) (a1 : Int32) (rec23 : Int32 × Int32 × Int32 × jM → Option (Int32 × jM)) (x2_52 : Int32) (x3_52 : Int32) (x4_52 : Int32) (x5_52 : Int32) (B52 : jM) : Option (Int32 × jM) :=
  (J12_max n x3_52 x5_52).bind fun v55 => rec23 (x2_52, v55, (x4_52 + 1), B52)
noncomputable def X6_bestEmpty_h23 (n : Nat) (a1 : Int32) (rec23 : Int32 × Int32 × Int32 × jM → Option (Int32 × jM)) (q23 : Int32 × Int32 × Int32 × jM) : Option (Int32 × jM) :=
  let x2_23 := q23.1; let x3_23 := q23.2.1; let x4_23 := q23.2.2.1; let B23 := q23.2.2.2; (mA B23 0 3).bind fun v30 => if v30 ≤ x4_23 then (some (x2_23, B23)) else (bd (X6_gain n B23 x4_23 a1) fun v38 M38 => if v38 ≤ x3_23 then (X6_bestEmpty_j52 n a1 rec23 x2_23 x3_23 x4_23 v38 M38) else (X6_bestEmpty_j52 n a1 rec23 x4_23 x3_23 x4_23 v38 M38))
noncomputable def X6_bestEmpty (n : Nat) (M : jM) (a1 : Int32) : Option (Int32 × jM) :=
  bd (X6_noTicks n (mP M 7 0) a1 1) fun v8 M8 => if v8 = 0 then (jloop (X6_bestEmpty_h23 n a1) n ((-1), 0, 0, M8)) else (some (0, M8))
set_option maxHeartbeats 4000000 in
set_option maxRecDepth 100000 in
theorem ct_X6_bestEmpty (l : Launch) {G : jG} {mo : Nat} {A : Nat → Nat} (hm : mOK G mo A) (σ : jH) (n : Nat) (M : jM) (a1 : Int32) : jCt l G yX6_bestEmpty (ws_ yX6_bestEmpty cX6_bestEmpty 6 (some .int)) 9 208 jrI [.ref mo, .int a1] (mH mo A σ M) (mup mo A σ (X6_bestEmpty n M a1)) := by
  refine jCt.wm (lv := [(0, .ref mo), (1, .int a1)]) (plainFor_of_name (by decide)) (Nat.le_of_ble_eq_true rfl) rfl ?_
  intro t p e s m args below meth c ls X hr hnm hl
  have X : jCx p c cX6_bestEmpty 6 s m args RX6 G meth := X
  have L23 : ∀ (n23 : Nat) (x2_23 : Int32) (x3_23 : Int32) (x4_23 : Int32) (B23 : jM) (ls : Array Slot), lv_has ls 6 [(0, .ref mo), (1, .int a1), (2, .int x2_23), (3, .int x3_23), (4, .int x4_23)] → jGo l G 9 208 (mH mo A σ M) (fun r : Int32 × jM => mH mo A σ r.2) (fun t => jrI t.1) t p e s m args below meth c (jloop (X6_bestEmpty_h23 n a1) n23 (x2_23, x3_23, x4_23, B23)) (mH mo A σ B23) (F0 m 23 ls []) := by
    intro n23
    induction n23 with
    | zero => intro x2_23 x3_23 x4_23 B23 ls hl; exact J.nil_
    | succ n23 ih23 =>
      have j52 : ∀ (x2_52 : Int32) (x3_52 : Int32) (x4_52 : Int32) (x5_52 : Int32) (B52 : jM) (ls : Array Slot), lv_has ls 6 [(0, .ref mo), (1, .int a1), (2, .int x2_52), (3, .int x3_52), (4, .int x4_52), (5, .int x5_52)] → jGo l G 9 208 (mH mo A σ M) (fun r : Int32 × jM => mH mo A σ r.2) (fun t => jrI t.1) t p e s m args below meth c (X6_bestEmpty_j52 n a1 (jloop (X6_bestEmpty_h23 n a1) n23) x2_52 x3_52 x4_52 x5_52 B52) (mH mo A σ B52) (F0 m 52 ls []) := by
        intro x2_52 x3_52 x4_52 x5_52 B52 ls hl
        unfold X6_bestEmpty_j52
        refine J.pu (fun _ _ _ _ k => lv_iload_n X.1.1 X.1.2.1 dX6_bestEmpty_52 rfl (lv_at hl 3 rfl) k) ?_
        refine J.pu (fun _ _ _ _ k => lv_iload X.1.1 X.1.2.1 dX6_bestEmpty_53 (lv_at hl 5 rfl) k) ?_
        refine J.bind (fun v55 h55 => ?_)
        refine J.cS (As := [.int x3_52, .int x5_52]) (rest := []) (s2 := [.int v55]) X ⟨rfl, rfl⟩ (ct_J12_max l G (mH mo A σ B52) n x3_52 x5_52) (jrd_of h55) (fun _ _ => va_cwS 2 X.1.2.2.2.2 (lw_S q2995 q329 q152 q330) rfl rfl rfl (by decide +kernel) ⟨(Nat.le_of_ble_eq_true rfl), (Nat.le_of_ble_eq_true rfl)⟩) rfl hl.1 rfl rfl (Nat.le_of_ble_eq_true rfl) dX6_bestEmpty_55 ?_
        refine J.istore_n (i := 3) (lv' := [(3, .int v55), (0, .ref mo), (1, .int a1), (2, .int x2_52), (4, .int x4_52), (5, .int x5_52)]) X.1.1 X.1.2.1 dX6_bestEmpty_58 rfl hl (by decide) (by first | rfl | simp [va_rf_cat, jcI, jcA, jcJ, jcD, jcF]) (fun ls hl => ?_)
        refine J.iinc (k := 4) (lv' := [(4, .int (x4_52 + 1)), (3, .int v55), (0, .ref mo), (1, .int a1), (2, .int x2_52), (5, .int x5_52)]) (w := (x4_52 + 1)) X.1.1 X.1.2.1 dX6_bestEmpty_59 hl rfl rfl (by decide) (by first | rfl | simp [va_rf_cat, jcI, jcA, jcJ, jcD, jcF]) (fun ls hl => ?_)
        refine J.pu (fun _ _ _ _ k => lv_goto (tgt := 23) X.1.1 X.1.2.1 dX6_bestEmpty_62 (by decide) k) ?_
        exact ih23 x2_52 v55 (x4_52 + 1) B52 ls (lv_sub hl [2, 3, 4, 1, 0] rfl)
      intro x2_23 x3_23 x4_23 B23 ls hl
      refine J.eq (jloop_s _ _ _) ?_
      dsimp only [X6_bestEmpty_h23]
      refine J.pu (fun _ _ _ _ k => lv_iload X.1.1 X.1.2.1 dX6_bestEmpty_23 (lv_at hl 4 rfl) k) ?_
      refine J.pu (fun _ _ _ _ k => lv_aload_n X.1.1 X.1.2.1 dX6_bestEmpty_25 rfl (lv_at hl 0 rfl) k) ?_
      refine J.mgA (k := 0) X (by decide) q2730 rfl rfl dX6_bestEmpty_26 ?_
      refine J.pu (fun _ _ _ _ k => lv_iconst (v := 3) X.1.1 X.1.2.1 dX6_bestEmpty_29 (by decide) k) ?_
      refine J.mld X hm (by decide) dX6_bestEmpty_30 (fun v30 h30 => ?_)
      refine J.br (fun _ _ _ _ ka kb => lv_icmp_ge (tgt := 65) X.1.1 X.1.2.1 dX6_bestEmpty_31 (by decide) ka kb) (fun c31 => ?_) (fun c31 => ?_)
      · refine J.pu (fun _ _ _ _ k => lv_iload_n X.1.1 X.1.2.1 dX6_bestEmpty_65 rfl (lv_at hl 2 rfl) k) ?_
        exact J.iret (vr := fun t : Int32 × jM => jrI t.1) (fin := fun r : Int32 × jM => mH mo A σ r.2) (t := t) X hr (by rfl) (by rfl) dX6_bestEmpty_66
      · refine J.pu (fun _ _ _ _ k => lv_aload_n X.1.1 X.1.2.1 dX6_bestEmpty_34 rfl (lv_at hl 0 rfl) k) ?_
        refine J.pu (fun _ _ _ _ k => lv_iload X.1.1 X.1.2.1 dX6_bestEmpty_35 (lv_at hl 4 rfl) k) ?_
        refine J.pu (fun _ _ _ _ k => lv_iload_n X.1.1 X.1.2.1 dX6_bestEmpty_37 rfl (lv_at hl 1 rfl) k) ?_
        refine J.bd' (fun v38 M38 h38 => ?_)
        refine J.cV (q := (RX6, TX6, 26)) (ci := 5) (As := [.int x4_23, .int a1]) (rest := []) (s2 := [.int v38]) X ⟨rfl, rfl⟩ (ct_X6_gain l hm σ n B23 x4_23 a1) (mup_of h38) (fun _ _ => cwV 2 X.1.2.2.2.2 (lw_V q3220 q3222 qs131 q174 q3223) rfl rfl rfl (by decide +kernel) ⟨(Nat.le_of_ble_eq_true rfl), (Nat.le_of_ble_eq_true rfl)⟩) mH_rc rfl rfl hl.1 rfl rfl (Nat.le_of_ble_eq_true rfl) dX6_bestEmpty_38 ?_
        refine J.istore (lv' := [(5, .int v38), (0, .ref mo), (1, .int a1), (2, .int x2_23), (3, .int x3_23), (4, .int x4_23)]) X.1.1 X.1.2.1 dX6_bestEmpty_41 hl (by decide) (by first | rfl | simp [va_rf_cat, jcI, jcA, jcJ, jcD, jcF]) (fun ls hl => ?_)
        refine J.pu (fun _ _ _ _ k => lv_iload X.1.1 X.1.2.1 dX6_bestEmpty_43 (lv_at hl 0 rfl) k) ?_
        refine J.pu (fun _ _ _ _ k => lv_iload_n X.1.1 X.1.2.1 dX6_bestEmpty_45 rfl (lv_at hl 4 rfl) k) ?_
        refine J.br (fun _ _ _ _ ka kb => lv_icmp_le (tgt := 52) X.1.1 X.1.2.1 dX6_bestEmpty_46 (by decide) ka kb) (fun c46 => ?_) (fun c46 => ?_)
        · exact j52 x2_23 x3_23 x4_23 v38 M38 ls (lv_sub hl [1, 2, 3, 4, 5, 0] rfl)
        · refine J.pu (fun _ _ _ _ k => lv_iload X.1.1 X.1.2.1 dX6_bestEmpty_49 (lv_at hl 5 rfl) k) ?_
          refine J.istore_n (i := 2) (lv' := [(2, .int x4_23), (5, .int v38), (0, .ref mo), (1, .int a1), (3, .int x3_23), (4, .int x4_23)]) X.1.1 X.1.2.1 dX6_bestEmpty_51 rfl hl (by decide) (by first | rfl | simp [va_rf_cat, jcI, jcA, jcJ, jcD, jcF]) (fun ls hl => ?_)
          exact j52 x4_23 x3_23 x4_23 v38 M38 ls (lv_sub hl [2, 3, 0, 4, 5, 1] rfl)
  unfold X6_bestEmpty
  refine J.pu (fun _ _ _ _ k => lv_aload_n X.1.1 X.1.2.1 dX6_bestEmpty_0 rfl (lv_at hl 0 rfl) k) ?_
  refine J.pu (fun _ _ _ _ k => lv_iconst (v := 0) X.1.1 X.1.2.1 dX6_bestEmpty_1 (by decide) k) ?_
  refine J.mpS (k := 7) X hm (by decide) q2737 rfl rfl rfl dX6_bestEmpty_2 ?_
  refine J.pu (fun _ _ _ _ k => lv_aload_n X.1.1 X.1.2.1 dX6_bestEmpty_5 rfl (lv_at hl 0 rfl) k) ?_
  refine J.pu (fun _ _ _ _ k => lv_iload_n X.1.1 X.1.2.1 dX6_bestEmpty_6 rfl (lv_at hl 1 rfl) k) ?_
  refine J.pu (fun _ _ _ _ k => lv_iconst (v := 1) X.1.1 X.1.2.1 dX6_bestEmpty_7 (by decide) k) ?_
  refine J.bd' (fun v8 M8 h8 => ?_)
  refine J.cV (q := (RX6, TX6, 26)) (ci := 5) (As := [.int a1, .int 1]) (rest := []) (s2 := [.int v8]) X ⟨rfl, rfl⟩ (ct_X6_noTicks l hm σ n (mP M 7 0) a1 1) (mup_of h8) (fun _ _ => cwV 2 X.1.2.2.2.2 (lw_V q3196 q3198 qs128 q174 q3199) rfl rfl rfl (by decide +kernel) ⟨(Nat.le_of_ble_eq_true rfl), (Nat.le_of_ble_eq_true rfl)⟩) mH_rc rfl rfl hl.1 rfl rfl (Nat.le_of_ble_eq_true rfl) dX6_bestEmpty_8 ?_
  refine J.br (fun _ _ _ _ ka kb => lv_if_eq (tgt := 16) X.1.1 X.1.2.1 dX6_bestEmpty_11 (by decide) ka kb) (fun c11 => ?_) (fun c11 => ?_)
  · refine J.pu (fun _ _ _ _ k => lv_iconst (v := (-1)) X.1.1 X.1.2.1 dX6_bestEmpty_16 (by decide) k) ?_
    refine J.istore_n (i := 2) (lv' := [(2, .int (-1)), (0, .ref mo), (1, .int a1)]) X.1.1 X.1.2.1 dX6_bestEmpty_17 rfl hl (by decide) (by first | rfl | simp [va_rf_cat, jcI, jcA, jcJ, jcD, jcF]) (fun ls hl => ?_)
    refine J.pu (fun _ _ _ _ k => lv_iconst (v := 0) X.1.1 X.1.2.1 dX6_bestEmpty_18 (by decide) k) ?_
    refine J.istore_n (i := 3) (lv' := [(3, .int 0), (2, .int (-1)), (0, .ref mo), (1, .int a1)]) X.1.1 X.1.2.1 dX6_bestEmpty_19 rfl hl (by decide) (by first | rfl | simp [va_rf_cat, jcI, jcA, jcJ, jcD, jcF]) (fun ls hl => ?_)
    refine J.pu (fun _ _ _ _ k => lv_iconst (v := 0) X.1.1 X.1.2.1 dX6_bestEmpty_20 (by decide) k) ?_
    refine J.istore (lv' := [(4, .int 0), (3, .int 0), (2, .int (-1)), (0, .ref mo), (1, .int a1)]) X.1.1 X.1.2.1 dX6_bestEmpty_21 hl (by decide) (by first | rfl | simp [va_rf_cat, jcI, jcA, jcJ, jcD, jcF]) (fun ls hl => ?_)
    exact L23 n (-1) 0 0 M8 ls (lv_sub hl [3, 4, 2, 1, 0] rfl)
  · refine J.pu (fun _ _ _ _ k => lv_iconst (v := 0) X.1.1 X.1.2.1 dX6_bestEmpty_14 (by decide) k) ?_
    exact J.iret (vr := fun t : Int32 × jM => jrI t.1) (fin := fun r : Int32 × jM => mH mo A σ r.2) (t := t) X hr (by rfl) (by rfl) dX6_bestEmpty_15
noncomputable def X6_missortsIf_j28 (n : Nat) (a1 : Int32) (a2 : Int32) (a3 : Int32) (s1_28 : Int32) (B28 : jM) : Option (Int32 × jM) :=
  bd (X6_fails n B28 s1_28 2) fun v29 M29 => if v29 = 0 then (bd (X6_noTicks n M29 a3 2) fun v38 M38 => if v38 = 0 then ((mA M38 0 10).bind fun v52 => bd (X6_goesAside n M38) fun v56 M56 => bd (X6_sets n M56 a1 a2) fun v62 M62 => bd (X6_ticksMany n M62 a3) fun v69 M69 => (mA M69 0 10).bind fun v81 => bd (X6_goesBack n M69 (v81 - v52)) fun v85 M85 => some (v85, M85)) else (some (0, M38))) else (some (0, M29))
noncomputable def X6_missortsIf (n : Nat) (M : jM) (a1 : Int32) (a2 : Int32) (a3 : Int32) : Option (Int32 × jM) :=
  bd (X6_noChute n (mP M 7 0) a1) fun v7 M7 => if v7 = 0 then ((X6_inRange n M7 a2 0 3).bind fun v17 => if v17 = 0 then (X6_missortsIf_j28 n a1 a2 a3 1 M7) else (X6_missortsIf_j28 n a1 a2 a3 0 M7)) else (some (0, M7))
set_option maxHeartbeats 4000000 in
set_option maxRecDepth 100000 in
theorem ct_X6_missortsIf (l : Launch) {G : jG} {mo : Nat} {A : Nat → Nat} (hm : mOK G mo A) (σ : jH) (n : Nat) (M : jM) (a1 : Int32) (a2 : Int32) (a3 : Int32) : jCt l G yX6_missortsIf (ws_ yX6_missortsIf cX6_missortsIf 7 (some .int)) 7 157 jrI [.ref mo, .int a1, .int a2, .int a3] (mH mo A σ M) (mup mo A σ (X6_missortsIf n M a1 a2 a3)) := by
  refine jCt.wm (lv := [(0, .ref mo), (1, .int a1), (2, .int a2), (3, .int a3)]) (plainFor_of_name (by decide)) (Nat.le_of_ble_eq_true rfl) rfl ?_
  intro t p e s m args below meth c ls X hr hnm hl
  have X : jCx p c cX6_missortsIf 7 s m args RX6 G meth := X
  have j28 : ∀ (s1_28 : Int32) (B28 : jM) (ls : Array Slot), lv_has ls 7 [(0, .ref mo), (1, .int a1), (2, .int a2), (3, .int a3)] → jGo l G 7 157 (mH mo A σ M) (fun r : Int32 × jM => mH mo A σ r.2) (fun t => jrI t.1) t p e s m args below meth c (X6_missortsIf_j28 n a1 a2 a3 s1_28 B28) (mH mo A σ B28) (F0 m 28 ls [.int s1_28, .ref mo]) := by
    intro s1_28 B28 ls hl
    unfold X6_missortsIf_j28
    refine J.pu (fun _ _ _ _ k => lv_iconst (v := 2) X.1.1 X.1.2.1 dX6_missortsIf_28 (by decide) k) ?_
    refine J.bd' (fun v29 M29 h29 => ?_)
    refine J.cV (q := (RX6, TX6, 26)) (ci := 5) (As := [.int s1_28, .int 2]) (rest := []) (s2 := [.int v29]) X ⟨rfl, rfl⟩ (ct_X6_fails l hm σ n B28 s1_28 2) (mup_of h29) (fun _ _ => cwV 2 X.1.2.2.2.2 (lw_V q3075 q3077 qs111 q174 q3078) rfl rfl rfl (by decide +kernel) ⟨(Nat.le_of_ble_eq_true rfl), (Nat.le_of_ble_eq_true rfl)⟩) mH_rc rfl rfl hl.1 rfl rfl (Nat.le_of_ble_eq_true rfl) dX6_missortsIf_29 ?_
    refine J.br (fun _ _ _ _ ka kb => lv_if_ne (tgt := 44) X.1.1 X.1.2.1 dX6_missortsIf_32 (by decide) kb ka) (fun c32 => ?_) (fun c32 => ?_)
    · refine J.pu (fun _ _ _ _ k => lv_aload_n X.1.1 X.1.2.1 dX6_missortsIf_35 rfl (lv_at hl 0 rfl) k) ?_
      refine J.pu (fun _ _ _ _ k => lv_iload_n X.1.1 X.1.2.1 dX6_missortsIf_36 rfl (lv_at hl 3 rfl) k) ?_
      refine J.pu (fun _ _ _ _ k => lv_iconst (v := 2) X.1.1 X.1.2.1 dX6_missortsIf_37 (by decide) k) ?_
      refine J.bd' (fun v38 M38 h38 => ?_)
      refine J.cV (q := (RX6, TX6, 26)) (ci := 5) (As := [.int a3, .int 2]) (rest := []) (s2 := [.int v38]) X ⟨rfl, rfl⟩ (ct_X6_noTicks l hm σ n M29 a3 2) (mup_of h38) (fun _ _ => cwV 2 X.1.2.2.2.2 (lw_V q3196 q3198 qs128 q174 q3199) rfl rfl rfl (by decide +kernel) ⟨(Nat.le_of_ble_eq_true rfl), (Nat.le_of_ble_eq_true rfl)⟩) mH_rc rfl rfl hl.1 rfl rfl (Nat.le_of_ble_eq_true rfl) dX6_missortsIf_38 ?_
      refine J.br (fun _ _ _ _ ka kb => lv_if_eq (tgt := 46) X.1.1 X.1.2.1 dX6_missortsIf_41 (by decide) ka kb) (fun c41 => ?_) (fun c41 => ?_)
      · refine J.pu (fun _ _ _ _ k => lv_aload_n X.1.1 X.1.2.1 dX6_missortsIf_46 rfl (lv_at hl 0 rfl) k) ?_
        refine J.mgA (k := 0) X (by decide) q2730 rfl rfl dX6_missortsIf_47 ?_
        refine J.pu (fun _ _ _ _ k => lv_bipush (v := 10) X.1.1 X.1.2.1 dX6_missortsIf_50 (by decide) k) ?_
        refine J.mld X hm (by decide) dX6_missortsIf_52 (fun v52 h52 => ?_)
        refine J.istore (lv' := [(4, .int v52), (0, .ref mo), (1, .int a1), (2, .int a2), (3, .int a3)]) X.1.1 X.1.2.1 dX6_missortsIf_53 hl (by decide) (by first | rfl | simp [va_rf_cat, jcI, jcA, jcJ, jcD, jcF]) (fun ls hl => ?_)
        refine J.pu (fun _ _ _ _ k => lv_aload_n X.1.1 X.1.2.1 dX6_missortsIf_55 rfl (lv_at hl 1 rfl) k) ?_
        refine J.bd' (fun v56 M56 h56 => ?_)
        refine J.cV (q := (RX6, TX6, 26)) (ci := 5) (As := []) (rest := []) (s2 := []) X ⟨rfl, rfl⟩ (ct_X6_goesAside l hm σ n M38) (mup_of h56) (fun _ _ => cwV 0 X.1.2.2.2.2 (lw_V q3184 q3186 qs126 q174 q3187) rfl rfl rfl (by decide +kernel) ⟨(Nat.le_of_ble_eq_true rfl), (Nat.le_of_ble_eq_true rfl)⟩) mH_rc rfl rfl hl.1 rfl rfl (Nat.le_of_ble_eq_true rfl) dX6_missortsIf_56 ?_
        refine J.pu (fun _ _ _ _ k => lv_aload_n X.1.1 X.1.2.1 dX6_missortsIf_59 rfl (lv_at hl 1 rfl) k) ?_
        refine J.pu (fun _ _ _ _ k => lv_iload_n X.1.1 X.1.2.1 dX6_missortsIf_60 rfl (lv_at hl 2 rfl) k) ?_
        refine J.pu (fun _ _ _ _ k => lv_iload_n X.1.1 X.1.2.1 dX6_missortsIf_61 rfl (lv_at hl 3 rfl) k) ?_
        refine J.bd' (fun v62 M62 h62 => ?_)
        refine J.cV (q := (RX6, TX6, 26)) (ci := 5) (As := [.int a1, .int a2]) (rest := []) (s2 := [.int v62]) X ⟨rfl, rfl⟩ (ct_X6_sets l hm σ n M56 a1 a2) (mup_of h62) (fun _ _ => cwV 2 X.1.2.2.2.2 (lw_V q3059 q3061 qs110 q174 q3062) rfl rfl rfl (by decide +kernel) ⟨(Nat.le_of_ble_eq_true rfl), (Nat.le_of_ble_eq_true rfl)⟩) mH_rc rfl rfl hl.1 rfl rfl (Nat.le_of_ble_eq_true rfl) dX6_missortsIf_62 ?_
        refine J.istore (lv' := [(5, .int v62), (4, .int v52), (0, .ref mo), (1, .int a1), (2, .int a2), (3, .int a3)]) X.1.1 X.1.2.1 dX6_missortsIf_65 hl (by decide) (by first | rfl | simp [va_rf_cat, jcI, jcA, jcJ, jcD, jcF]) (fun ls hl => ?_)
        refine J.pu (fun _ _ _ _ k => lv_aload_n X.1.1 X.1.2.1 dX6_missortsIf_67 rfl (lv_at hl 2 rfl) k) ?_
        refine J.pu (fun _ _ _ _ k => lv_iload_n X.1.1 X.1.2.1 dX6_missortsIf_68 rfl (lv_at hl 5 rfl) k) ?_
        refine J.bd' (fun v69 M69 h69 => ?_)
        refine J.cV (q := (RX6, TX6, 26)) (ci := 5) (As := [.int a3]) (rest := []) (s2 := [.int v69]) X ⟨rfl, rfl⟩ (ct_X6_ticksMany l hm σ n M62 a3) (mup_of h69) (fun _ _ => cwV 1 X.1.2.2.2.2 (lw_V q2980 q2982 qs92 q174 q2983) rfl rfl rfl (by decide +kernel) ⟨(Nat.le_of_ble_eq_true rfl), (Nat.le_of_ble_eq_true rfl)⟩) mH_rc rfl rfl hl.1 rfl rfl (Nat.le_of_ble_eq_true rfl) dX6_missortsIf_69 ?_
        refine J.istore (lv' := [(6, .int v69), (5, .int v62), (4, .int v52), (0, .ref mo), (1, .int a1), (2, .int a2), (3, .int a3)]) X.1.1 X.1.2.1 dX6_missortsIf_72 hl (by decide) (by first | rfl | simp [va_rf_cat, jcI, jcA, jcJ, jcD, jcF]) (fun ls hl => ?_)
        refine J.pu (fun _ _ _ _ k => lv_aload_n X.1.1 X.1.2.1 dX6_missortsIf_74 rfl (lv_at hl 3 rfl) k) ?_
        refine J.pu (fun _ _ _ _ k => lv_aload_n X.1.1 X.1.2.1 dX6_missortsIf_75 rfl (lv_at hl 3 rfl) k) ?_
        refine J.mgA (k := 0) X (by decide) q2730 rfl rfl dX6_missortsIf_76 ?_
        refine J.pu (fun _ _ _ _ k => lv_bipush (v := 10) X.1.1 X.1.2.1 dX6_missortsIf_79 (by decide) k) ?_
        refine J.mld X hm (by decide) dX6_missortsIf_81 (fun v81 h81 => ?_)
        refine J.pu (fun _ _ _ _ k => lv_iload X.1.1 X.1.2.1 dX6_missortsIf_82 (lv_at hl 2 rfl) k) ?_
        refine J.pu (fun _ _ _ _ k => lv_isub X.1.1 X.1.2.1 dX6_missortsIf_84 k) ?_
        refine J.bd' (fun v85 M85 h85 => ?_)
        refine J.cV (q := (RX6, TX6, 26)) (ci := 5) (As := [.int (v81 - v52)]) (rest := []) (s2 := [.int v85]) X ⟨rfl, rfl⟩ (ct_X6_goesBack l hm σ n M69 (v81 - v52)) (mup_of h85) (fun _ _ => cwV 1 X.1.2.2.2.2 (lw_V q3188 q3190 qs127 q174 q3191) rfl rfl rfl (by decide +kernel) ⟨(Nat.le_of_ble_eq_true rfl), (Nat.le_of_ble_eq_true rfl)⟩) mH_rc rfl rfl hl.1 rfl rfl (Nat.le_of_ble_eq_true rfl) dX6_missortsIf_85 ?_
        exact J.iret (vr := fun t : Int32 × jM => jrI t.1) (fin := fun r : Int32 × jM => mH mo A σ r.2) (t := t) X hr (by rfl) (by rfl) dX6_missortsIf_88
      · refine J.pu (fun _ _ _ _ k => lv_iconst (v := 0) X.1.1 X.1.2.1 dX6_missortsIf_44 (by decide) k) ?_
        exact J.iret (vr := fun t : Int32 × jM => jrI t.1) (fin := fun r : Int32 × jM => mH mo A σ r.2) (t := t) X hr (by rfl) (by rfl) dX6_missortsIf_45
    · refine J.pu (fun _ _ _ _ k => lv_iconst (v := 0) X.1.1 X.1.2.1 dX6_missortsIf_44 (by decide) k) ?_
      exact J.iret (vr := fun t : Int32 × jM => jrI t.1) (fin := fun r : Int32 × jM => mH mo A σ r.2) (t := t) X hr (by rfl) (by rfl) dX6_missortsIf_45
  unfold X6_missortsIf
  refine J.pu (fun _ _ _ _ k => lv_aload_n X.1.1 X.1.2.1 dX6_missortsIf_0 rfl (lv_at hl 0 rfl) k) ?_
  refine J.pu (fun _ _ _ _ k => lv_iconst (v := 0) X.1.1 X.1.2.1 dX6_missortsIf_1 (by decide) k) ?_
  refine J.mpS (k := 7) X hm (by decide) q2737 rfl rfl rfl dX6_missortsIf_2 ?_
  refine J.pu (fun _ _ _ _ k => lv_aload_n X.1.1 X.1.2.1 dX6_missortsIf_5 rfl (lv_at hl 0 rfl) k) ?_
  refine J.pu (fun _ _ _ _ k => lv_iload_n X.1.1 X.1.2.1 dX6_missortsIf_6 rfl (lv_at hl 1 rfl) k) ?_
  refine J.bd' (fun v7 M7 h7 => ?_)
  refine J.cV (q := (RX6, TX6, 26)) (ci := 5) (As := [.int a1]) (rest := []) (s2 := [.int v7]) X ⟨rfl, rfl⟩ (ct_X6_noChute l hm σ n (mP M 7 0) a1) (mup_of h7) (fun _ _ => cwV 1 X.1.2.2.2.2 (lw_V q3115 q3117 qs117 q174 q3118) rfl rfl rfl (by decide +kernel) ⟨(Nat.le_of_ble_eq_true rfl), (Nat.le_of_ble_eq_true rfl)⟩) mH_rc rfl rfl hl.1 rfl rfl (Nat.le_of_ble_eq_true rfl) dX6_missortsIf_7 ?_
  refine J.br (fun _ _ _ _ ka kb => lv_if_ne (tgt := 44) X.1.1 X.1.2.1 dX6_missortsIf_10 (by decide) kb ka) (fun c10 => ?_) (fun c10 => ?_)
  · refine J.pu (fun _ _ _ _ k => lv_aload_n X.1.1 X.1.2.1 dX6_missortsIf_13 rfl (lv_at hl 0 rfl) k) ?_
    refine J.pu (fun _ _ _ _ k => lv_iload_n X.1.1 X.1.2.1 dX6_missortsIf_14 rfl (lv_at hl 2 rfl) k) ?_
    refine J.pu (fun _ _ _ _ k => lv_iconst (v := 0) X.1.1 X.1.2.1 dX6_missortsIf_15 (by decide) k) ?_
    refine J.pu (fun _ _ _ _ k => lv_iconst (v := 3) X.1.1 X.1.2.1 dX6_missortsIf_16 (by decide) k) ?_
    refine J.bind (fun v17 h17 => ?_)
    refine J.cS (As := [.int a2, .int 0, .int 3]) (rest := [.ref mo]) (s2 := [.int v17, .ref mo]) X ⟨rfl, rfl⟩ (ct_X6_inRange l hm σ n M7 a2 0 3) (jrd_of h17) (fun _ _ => va_cwS 3 X.1.2.2.2.2 (lw_S q2825 q2826 q174 q2827) rfl rfl rfl (by decide +kernel) ⟨(Nat.le_of_ble_eq_true rfl), (Nat.le_of_ble_eq_true rfl)⟩) rfl hl.1 rfl rfl (Nat.le_of_ble_eq_true rfl) dX6_missortsIf_17 ?_
    refine J.br (fun _ _ _ _ ka kb => lv_if_ne (tgt := 27) X.1.1 X.1.2.1 dX6_missortsIf_20 (by decide) kb ka) (fun c20 => ?_) (fun c20 => ?_)
    · refine J.pu (fun _ _ _ _ k => lv_iconst (v := 1) X.1.1 X.1.2.1 dX6_missortsIf_23 (by decide) k) ?_
      refine J.pu (fun _ _ _ _ k => lv_goto (tgt := 28) X.1.1 X.1.2.1 dX6_missortsIf_24 (by decide) k) ?_
      exact j28 1 M7 ls (lv_sub hl [0, 1, 2, 3] rfl)
    · refine J.pu (fun _ _ _ _ k => lv_iconst (v := 0) X.1.1 X.1.2.1 dX6_missortsIf_27 (by decide) k) ?_
      exact j28 0 M7 ls (lv_sub hl [0, 1, 2, 3] rfl)
  · refine J.pu (fun _ _ _ _ k => lv_iconst (v := 0) X.1.1 X.1.2.1 dX6_missortsIf_44 (by decide) k) ?_
    exact J.iret (vr := fun t : Int32 × jM => jrI t.1) (fin := fun r : Int32 × jM => mH mo A σ r.2) (t := t) X hr (by rfl) (by rfl) dX6_missortsIf_45
noncomputable def X6_clearIn_j36 (n : Nat) (x1_36 : Int32) (B36 : jM) : Option (Int32 × jM) :=
  (X6_inState n B36 0).bind fun v39 => if v39 ≤ 0 then (bd (X6_goesBack n B36 x1_36) fun v50 M50 => some (v50, M50)) else (bd (X6_goesBack n B36 (-1)) fun v50 M50 => some (v50, M50))
noncomputable def X6_clearIn_h11 (n : Nat) (rec11 : Int32 × jM → Option (Int32 × jM)) (q11 : Int32 × jM) : Option (Int32 × jM) :=
  let x1_11 := q11.1; let B11 := q11.2; if 500 ≤ x1_11 then (X6_clearIn_j36 n x1_11 B11) else ((X6_inState n B11 0).bind fun v20 => if v20 ≤ 0 then (X6_clearIn_j36 n x1_11 B11) else (bd (X6_ticksOne n B11) fun v27 M27 => rec11 ((x1_11 + 1), M27)))
noncomputable def X6_clearIn (n : Nat) (M : jM) : Option (Int32 × jM) :=
  bd (X6_goesAside n (mP M 7 0)) fun v6 M6 => jloop (X6_clearIn_h11 n) n (0, M6)
set_option maxHeartbeats 4000000 in
set_option maxRecDepth 100000 in
theorem ct_X6_clearIn (l : Launch) {G : jG} {mo : Nat} {A : Nat → Nat} (hm : mOK G mo A) (σ : jH) (n : Nat) (M : jM) : jCt l G yX6_clearIn (ws_ yX6_clearIn cX6_clearIn 2 (some .int)) 6 134 jrI [.ref mo] (mH mo A σ M) (mup mo A σ (X6_clearIn n M)) := by
  refine jCt.wm (lv := [(0, .ref mo)]) (plainFor_of_name (by decide)) (Nat.le_of_ble_eq_true rfl) rfl ?_
  intro t p e s m args below meth c ls X hr hnm hl
  have X : jCx p c cX6_clearIn 2 s m args RX6 G meth := X
  have j36 : ∀ (x1_36 : Int32) (B36 : jM) (ls : Array Slot), lv_has ls 2 [(0, .ref mo), (1, .int x1_36)] → jGo l G 6 134 (mH mo A σ M) (fun r : Int32 × jM => mH mo A σ r.2) (fun t => jrI t.1) t p e s m args below meth c (X6_clearIn_j36 n x1_36 B36) (mH mo A σ B36) (F0 m 36 ls []) := by
    intro x1_36 B36 ls hl
    unfold X6_clearIn_j36
    refine J.pu (fun _ _ _ _ k => lv_aload_n X.1.1 X.1.2.1 dX6_clearIn_36 rfl (lv_at hl 0 rfl) k) ?_
    refine J.pu (fun _ _ _ _ k => lv_aload_n X.1.1 X.1.2.1 dX6_clearIn_37 rfl (lv_at hl 0 rfl) k) ?_
    refine J.pu (fun _ _ _ _ k => lv_iconst (v := 0) X.1.1 X.1.2.1 dX6_clearIn_38 (by decide) k) ?_
    refine J.bind (fun v39 h39 => ?_)
    refine J.cV (q := (RX6, TX6, 26)) (ci := 5) (As := [.int 0]) (rest := [.ref mo]) (s2 := [.int v39, .ref mo]) X ⟨rfl, rfl⟩ (ct_X6_inState l hm σ n B36 0) (jrd_of h39) (fun _ _ => cwV 1 X.1.2.2.2.2 (lw_V q2984 q2986 qs93 q174 q2987) rfl rfl rfl (by decide +kernel) ⟨(Nat.le_of_ble_eq_true rfl), (Nat.le_of_ble_eq_true rfl)⟩) mH_rc rfl rfl hl.1 rfl rfl (Nat.le_of_ble_eq_true rfl) dX6_clearIn_39 ?_
    refine J.br (fun _ _ _ _ ka kb => lv_if_le (tgt := 49) X.1.1 X.1.2.1 dX6_clearIn_42 (by decide) ka kb) (fun c42 => ?_) (fun c42 => ?_)
    · refine J.pu (fun _ _ _ _ k => lv_iload_n X.1.1 X.1.2.1 dX6_clearIn_49 rfl (lv_at hl 1 rfl) k) ?_
      refine J.bd' (fun v50 M50 h50 => ?_)
      refine J.cV (q := (RX6, TX6, 26)) (ci := 5) (As := [.int x1_36]) (rest := []) (s2 := [.int v50]) X ⟨rfl, rfl⟩ (ct_X6_goesBack l hm σ n B36 x1_36) (mup_of h50) (fun _ _ => cwV 1 X.1.2.2.2.2 (lw_V q3188 q3190 qs127 q174 q3191) rfl rfl rfl (by decide +kernel) ⟨(Nat.le_of_ble_eq_true rfl), (Nat.le_of_ble_eq_true rfl)⟩) mH_rc rfl rfl hl.1 rfl rfl (Nat.le_of_ble_eq_true rfl) dX6_clearIn_50 ?_
      exact J.iret (vr := fun t : Int32 × jM => jrI t.1) (fin := fun r : Int32 × jM => mH mo A σ r.2) (t := t) X hr (by rfl) (by rfl) dX6_clearIn_53
    · refine J.pu (fun _ _ _ _ k => lv_iconst (v := (-1)) X.1.1 X.1.2.1 dX6_clearIn_45 (by decide) k) ?_
      refine J.pu (fun _ _ _ _ k => lv_goto (tgt := 50) X.1.1 X.1.2.1 dX6_clearIn_46 (by decide) k) ?_
      refine J.bd' (fun v50 M50 h50 => ?_)
      refine J.cV (q := (RX6, TX6, 26)) (ci := 5) (As := [.int (-1)]) (rest := []) (s2 := [.int v50]) X ⟨rfl, rfl⟩ (ct_X6_goesBack l hm σ n B36 (-1)) (mup_of h50) (fun _ _ => cwV 1 X.1.2.2.2.2 (lw_V q3188 q3190 qs127 q174 q3191) rfl rfl rfl (by decide +kernel) ⟨(Nat.le_of_ble_eq_true rfl), (Nat.le_of_ble_eq_true rfl)⟩) mH_rc rfl rfl hl.1 rfl rfl (Nat.le_of_ble_eq_true rfl) dX6_clearIn_50 ?_
      exact J.iret (vr := fun t : Int32 × jM => jrI t.1) (fin := fun r : Int32 × jM => mH mo A σ r.2) (t := t) X hr (by rfl) (by rfl) dX6_clearIn_53
  have L11 : ∀ (n11 : Nat) (x1_11 : Int32) (B11 : jM) (ls : Array Slot), lv_has ls 2 [(0, .ref mo), (1, .int x1_11)] → jGo l G 6 134 (mH mo A σ M) (fun r : Int32 × jM => mH mo A σ r.2) (fun t => jrI t.1) t p e s m args below meth c (jloop (X6_clearIn_h11 n) n11 (x1_11, B11)) (mH mo A σ B11) (F0 m 11 ls []) := by
    intro n11
    induction n11 with
    | zero => intro x1_11 B11 ls hl; exact J.nil_
    | succ n11 ih11 =>
      intro x1_11 B11 ls hl
      refine J.eq (jloop_s _ _ _) ?_
      dsimp only [X6_clearIn_h11]
      refine J.pu (fun _ _ _ _ k => lv_iload_n X.1.1 X.1.2.1 dX6_clearIn_11 rfl (lv_at hl 1 rfl) k) ?_
      refine J.pu (fun _ _ _ _ k => lv_sipush (v := 500) X.1.1 X.1.2.1 dX6_clearIn_12 (by decide) k) ?_
      refine J.br (fun _ _ _ _ ka kb => lv_icmp_ge (tgt := 36) X.1.1 X.1.2.1 dX6_clearIn_15 (by decide) ka kb) (fun c15 => ?_) (fun c15 => ?_)
      · exact j36 x1_11 B11 ls (lv_sub hl [0, 1] rfl)
      · refine J.pu (fun _ _ _ _ k => lv_aload_n X.1.1 X.1.2.1 dX6_clearIn_18 rfl (lv_at hl 0 rfl) k) ?_
        refine J.pu (fun _ _ _ _ k => lv_iconst (v := 0) X.1.1 X.1.2.1 dX6_clearIn_19 (by decide) k) ?_
        refine J.bind (fun v20 h20 => ?_)
        refine J.cV (q := (RX6, TX6, 26)) (ci := 5) (As := [.int 0]) (rest := []) (s2 := [.int v20]) X ⟨rfl, rfl⟩ (ct_X6_inState l hm σ n B11 0) (jrd_of h20) (fun _ _ => cwV 1 X.1.2.2.2.2 (lw_V q2984 q2986 qs93 q174 q2987) rfl rfl rfl (by decide +kernel) ⟨(Nat.le_of_ble_eq_true rfl), (Nat.le_of_ble_eq_true rfl)⟩) mH_rc rfl rfl hl.1 rfl rfl (Nat.le_of_ble_eq_true rfl) dX6_clearIn_20 ?_
        refine J.br (fun _ _ _ _ ka kb => lv_if_le (tgt := 36) X.1.1 X.1.2.1 dX6_clearIn_23 (by decide) ka kb) (fun c23 => ?_) (fun c23 => ?_)
        · exact j36 x1_11 B11 ls (lv_sub hl [0, 1] rfl)
        · refine J.pu (fun _ _ _ _ k => lv_aload_n X.1.1 X.1.2.1 dX6_clearIn_26 rfl (lv_at hl 0 rfl) k) ?_
          refine J.bd' (fun v27 M27 h27 => ?_)
          refine J.cV (q := (RX6, TX6, 26)) (ci := 5) (As := []) (rest := []) (s2 := []) X ⟨rfl, rfl⟩ (ct_X6_ticksOne l hm σ n B11) (mup_of h27) (fun _ _ => cwV 0 X.1.2.2.2.2 (lw_V q2991 q2993 qs94 q174 q2994) rfl rfl rfl (by decide +kernel) ⟨(Nat.le_of_ble_eq_true rfl), (Nat.le_of_ble_eq_true rfl)⟩) mH_rc rfl rfl hl.1 rfl rfl (Nat.le_of_ble_eq_true rfl) dX6_clearIn_27 ?_
          refine J.iinc (k := 1) (lv' := [(1, .int (x1_11 + 1)), (0, .ref mo)]) (w := (x1_11 + 1)) X.1.1 X.1.2.1 dX6_clearIn_30 hl rfl rfl (by decide) (by first | rfl | simp [va_rf_cat, jcI, jcA, jcJ, jcD, jcF]) (fun ls hl => ?_)
          refine J.pu (fun _ _ _ _ k => lv_goto (tgt := 11) X.1.1 X.1.2.1 dX6_clearIn_33 (by decide) k) ?_
          exact ih11 (x1_11 + 1) M27 ls (lv_sub hl [1, 0] rfl)
  unfold X6_clearIn
  refine J.pu (fun _ _ _ _ k => lv_aload_n X.1.1 X.1.2.1 dX6_clearIn_0 rfl (lv_at hl 0 rfl) k) ?_
  refine J.pu (fun _ _ _ _ k => lv_iconst (v := 0) X.1.1 X.1.2.1 dX6_clearIn_1 (by decide) k) ?_
  refine J.mpS (k := 7) X hm (by decide) q2737 rfl rfl rfl dX6_clearIn_2 ?_
  refine J.pu (fun _ _ _ _ k => lv_aload_n X.1.1 X.1.2.1 dX6_clearIn_5 rfl (lv_at hl 0 rfl) k) ?_
  refine J.bd' (fun v6 M6 h6 => ?_)
  refine J.cV (q := (RX6, TX6, 26)) (ci := 5) (As := []) (rest := []) (s2 := []) X ⟨rfl, rfl⟩ (ct_X6_goesAside l hm σ n (mP M 7 0)) (mup_of h6) (fun _ _ => cwV 0 X.1.2.2.2.2 (lw_V q3184 q3186 qs126 q174 q3187) rfl rfl rfl (by decide +kernel) ⟨(Nat.le_of_ble_eq_true rfl), (Nat.le_of_ble_eq_true rfl)⟩) mH_rc rfl rfl hl.1 rfl rfl (Nat.le_of_ble_eq_true rfl) dX6_clearIn_6 ?_
  refine J.pu (fun _ _ _ _ k => lv_iconst (v := 0) X.1.1 X.1.2.1 dX6_clearIn_9 (by decide) k) ?_
  refine J.istore_n (i := 1) (lv' := [(1, .int 0), (0, .ref mo)]) X.1.1 X.1.2.1 dX6_clearIn_10 rfl hl (by decide) (by first | rfl | simp [va_rf_cat, jcI, jcA, jcJ, jcD, jcF]) (fun ls hl => ?_)
  exact L11 n 0 M6 ls (lv_sub hl [1, 0] rfl)
noncomputable def X6_freeIn_j42 (n : Nat) (x1_42 : Int32) (B42 : jM) : Option (Int32 × jM) :=
  (mA B42 0 1).bind fun v49 => (X6_parcelIn n B42 v49).bind fun v50 => if v50 = (-1) then (bd (X6_goesBack n B42 x1_42) fun v62 M62 => some (v62, M62)) else (bd (X6_goesBack n B42 (-1)) fun v62 M62 => some (v62, M62))
noncomputable def X6_freeIn_h11 (n : Nat) (rec11 : Int32 × jM → Option (Int32 × jM)) (q11 : Int32 × jM) : Option (Int32 × jM) :=
  let x1_11 := q11.1; let B11 := q11.2; if 500 ≤ x1_11 then (X6_freeIn_j42 n x1_11 B11) else ((mA B11 0 1).bind fun v24 => (X6_parcelIn n B11 v24).bind fun v25 => if v25 = (-1) then (X6_freeIn_j42 n x1_11 B11) else (bd (X6_ticksOne n B11) fun v33 M33 => rec11 ((x1_11 + 1), M33)))
noncomputable def X6_freeIn (n : Nat) (M : jM) : Option (Int32 × jM) :=
  bd (X6_goesAside n (mP M 7 0)) fun v6 M6 => jloop (X6_freeIn_h11 n) n (0, M6)
set_option maxHeartbeats 4000000 in
set_option maxRecDepth 100000 in
theorem ct_X6_freeIn (l : Launch) {G : jG} {mo : Nat} {A : Nat → Nat} (hm : mOK G mo A) (σ : jH) (n : Nat) (M : jM) : jCt l G yX6_freeIn (ws_ yX6_freeIn cX6_freeIn 2 (some .int)) 6 134 jrI [.ref mo] (mH mo A σ M) (mup mo A σ (X6_freeIn n M)) := by
  refine jCt.wm (lv := [(0, .ref mo)]) (plainFor_of_name (by decide)) (Nat.le_of_ble_eq_true rfl) rfl ?_
  intro t p e s m args below meth c ls X hr hnm hl
  have X : jCx p c cX6_freeIn 2 s m args RX6 G meth := X
  have j42 : ∀ (x1_42 : Int32) (B42 : jM) (ls : Array Slot), lv_has ls 2 [(0, .ref mo), (1, .int x1_42)] → jGo l G 6 134 (mH mo A σ M) (fun r : Int32 × jM => mH mo A σ r.2) (fun t => jrI t.1) t p e s m args below meth c (X6_freeIn_j42 n x1_42 B42) (mH mo A σ B42) (F0 m 42 ls []) := by
    intro x1_42 B42 ls hl
    unfold X6_freeIn_j42
    refine J.pu (fun _ _ _ _ k => lv_aload_n X.1.1 X.1.2.1 dX6_freeIn_42 rfl (lv_at hl 0 rfl) k) ?_
    refine J.pu (fun _ _ _ _ k => lv_aload_n X.1.1 X.1.2.1 dX6_freeIn_43 rfl (lv_at hl 0 rfl) k) ?_
    refine J.pu (fun _ _ _ _ k => lv_aload_n X.1.1 X.1.2.1 dX6_freeIn_44 rfl (lv_at hl 0 rfl) k) ?_
    refine J.mgA (k := 0) X (by decide) q2730 rfl rfl dX6_freeIn_45 ?_
    refine J.pu (fun _ _ _ _ k => lv_iconst (v := 1) X.1.1 X.1.2.1 dX6_freeIn_48 (by decide) k) ?_
    refine J.mld X hm (by decide) dX6_freeIn_49 (fun v49 h49 => ?_)
    refine J.bind (fun v50 h50 => ?_)
    refine J.cV (q := (RX6, TX6, 26)) (ci := 5) (As := [.int v49]) (rest := [.ref mo]) (s2 := [.int v50, .ref mo]) X ⟨rfl, rfl⟩ (ct_X6_parcelIn l hm σ n B42 v49) (jrd_of h50) (fun _ _ => cwV 1 X.1.2.2.2.2 (lw_V q2956 q2958 qs86 q174 q2959) rfl rfl rfl (by decide +kernel) ⟨(Nat.le_of_ble_eq_true rfl), (Nat.le_of_ble_eq_true rfl)⟩) mH_rc rfl rfl hl.1 rfl rfl (Nat.le_of_ble_eq_true rfl) dX6_freeIn_50 ?_
    refine J.pu (fun _ _ _ _ k => lv_iconst (v := (-1)) X.1.1 X.1.2.1 dX6_freeIn_53 (by decide) k) ?_
    refine J.br (fun _ _ _ _ ka kb => lv_icmp_eq (tgt := 61) X.1.1 X.1.2.1 dX6_freeIn_54 (by decide) ka kb) (fun c54 => ?_) (fun c54 => ?_)
    · refine J.pu (fun _ _ _ _ k => lv_iload_n X.1.1 X.1.2.1 dX6_freeIn_61 rfl (lv_at hl 1 rfl) k) ?_
      refine J.bd' (fun v62 M62 h62 => ?_)
      refine J.cV (q := (RX6, TX6, 26)) (ci := 5) (As := [.int x1_42]) (rest := []) (s2 := [.int v62]) X ⟨rfl, rfl⟩ (ct_X6_goesBack l hm σ n B42 x1_42) (mup_of h62) (fun _ _ => cwV 1 X.1.2.2.2.2 (lw_V q3188 q3190 qs127 q174 q3191) rfl rfl rfl (by decide +kernel) ⟨(Nat.le_of_ble_eq_true rfl), (Nat.le_of_ble_eq_true rfl)⟩) mH_rc rfl rfl hl.1 rfl rfl (Nat.le_of_ble_eq_true rfl) dX6_freeIn_62 ?_
      exact J.iret (vr := fun t : Int32 × jM => jrI t.1) (fin := fun r : Int32 × jM => mH mo A σ r.2) (t := t) X hr (by rfl) (by rfl) dX6_freeIn_65
    · refine J.pu (fun _ _ _ _ k => lv_iconst (v := (-1)) X.1.1 X.1.2.1 dX6_freeIn_57 (by decide) k) ?_
      refine J.pu (fun _ _ _ _ k => lv_goto (tgt := 62) X.1.1 X.1.2.1 dX6_freeIn_58 (by decide) k) ?_
      refine J.bd' (fun v62 M62 h62 => ?_)
      refine J.cV (q := (RX6, TX6, 26)) (ci := 5) (As := [.int (-1)]) (rest := []) (s2 := [.int v62]) X ⟨rfl, rfl⟩ (ct_X6_goesBack l hm σ n B42 (-1)) (mup_of h62) (fun _ _ => cwV 1 X.1.2.2.2.2 (lw_V q3188 q3190 qs127 q174 q3191) rfl rfl rfl (by decide +kernel) ⟨(Nat.le_of_ble_eq_true rfl), (Nat.le_of_ble_eq_true rfl)⟩) mH_rc rfl rfl hl.1 rfl rfl (Nat.le_of_ble_eq_true rfl) dX6_freeIn_62 ?_
      exact J.iret (vr := fun t : Int32 × jM => jrI t.1) (fin := fun r : Int32 × jM => mH mo A σ r.2) (t := t) X hr (by rfl) (by rfl) dX6_freeIn_65
  have L11 : ∀ (n11 : Nat) (x1_11 : Int32) (B11 : jM) (ls : Array Slot), lv_has ls 2 [(0, .ref mo), (1, .int x1_11)] → jGo l G 6 134 (mH mo A σ M) (fun r : Int32 × jM => mH mo A σ r.2) (fun t => jrI t.1) t p e s m args below meth c (jloop (X6_freeIn_h11 n) n11 (x1_11, B11)) (mH mo A σ B11) (F0 m 11 ls []) := by
    intro n11
    induction n11 with
    | zero => intro x1_11 B11 ls hl; exact J.nil_
    | succ n11 ih11 =>
      intro x1_11 B11 ls hl
      refine J.eq (jloop_s _ _ _) ?_
      dsimp only [X6_freeIn_h11]
      refine J.pu (fun _ _ _ _ k => lv_iload_n X.1.1 X.1.2.1 dX6_freeIn_11 rfl (lv_at hl 1 rfl) k) ?_
      refine J.pu (fun _ _ _ _ k => lv_sipush (v := 500) X.1.1 X.1.2.1 dX6_freeIn_12 (by decide) k) ?_
      refine J.br (fun _ _ _ _ ka kb => lv_icmp_ge (tgt := 42) X.1.1 X.1.2.1 dX6_freeIn_15 (by decide) ka kb) (fun c15 => ?_) (fun c15 => ?_)
      · exact j42 x1_11 B11 ls (lv_sub hl [0, 1] rfl)
      · refine J.pu (fun _ _ _ _ k => lv_aload_n X.1.1 X.1.2.1 dX6_freeIn_18 rfl (lv_at hl 0 rfl) k) ?_
        refine J.pu (fun _ _ _ _ k => lv_aload_n X.1.1 X.1.2.1 dX6_freeIn_19 rfl (lv_at hl 0 rfl) k) ?_
        refine J.mgA (k := 0) X (by decide) q2730 rfl rfl dX6_freeIn_20 ?_
        refine J.pu (fun _ _ _ _ k => lv_iconst (v := 1) X.1.1 X.1.2.1 dX6_freeIn_23 (by decide) k) ?_
        refine J.mld X hm (by decide) dX6_freeIn_24 (fun v24 h24 => ?_)
        refine J.bind (fun v25 h25 => ?_)
        refine J.cV (q := (RX6, TX6, 26)) (ci := 5) (As := [.int v24]) (rest := []) (s2 := [.int v25]) X ⟨rfl, rfl⟩ (ct_X6_parcelIn l hm σ n B11 v24) (jrd_of h25) (fun _ _ => cwV 1 X.1.2.2.2.2 (lw_V q2956 q2958 qs86 q174 q2959) rfl rfl rfl (by decide +kernel) ⟨(Nat.le_of_ble_eq_true rfl), (Nat.le_of_ble_eq_true rfl)⟩) mH_rc rfl rfl hl.1 rfl rfl (Nat.le_of_ble_eq_true rfl) dX6_freeIn_25 ?_
        refine J.pu (fun _ _ _ _ k => lv_iconst (v := (-1)) X.1.1 X.1.2.1 dX6_freeIn_28 (by decide) k) ?_
        refine J.br (fun _ _ _ _ ka kb => lv_icmp_eq (tgt := 42) X.1.1 X.1.2.1 dX6_freeIn_29 (by decide) ka kb) (fun c29 => ?_) (fun c29 => ?_)
        · exact j42 x1_11 B11 ls (lv_sub hl [0, 1] rfl)
        · refine J.pu (fun _ _ _ _ k => lv_aload_n X.1.1 X.1.2.1 dX6_freeIn_32 rfl (lv_at hl 0 rfl) k) ?_
          refine J.bd' (fun v33 M33 h33 => ?_)
          refine J.cV (q := (RX6, TX6, 26)) (ci := 5) (As := []) (rest := []) (s2 := []) X ⟨rfl, rfl⟩ (ct_X6_ticksOne l hm σ n B11) (mup_of h33) (fun _ _ => cwV 0 X.1.2.2.2.2 (lw_V q2991 q2993 qs94 q174 q2994) rfl rfl rfl (by decide +kernel) ⟨(Nat.le_of_ble_eq_true rfl), (Nat.le_of_ble_eq_true rfl)⟩) mH_rc rfl rfl hl.1 rfl rfl (Nat.le_of_ble_eq_true rfl) dX6_freeIn_33 ?_
          refine J.iinc (k := 1) (lv' := [(1, .int (x1_11 + 1)), (0, .ref mo)]) (w := (x1_11 + 1)) X.1.1 X.1.2.1 dX6_freeIn_36 hl rfl rfl (by decide) (by first | rfl | simp [va_rf_cat, jcI, jcA, jcJ, jcD, jcF]) (fun ls hl => ?_)
          refine J.pu (fun _ _ _ _ k => lv_goto (tgt := 11) X.1.1 X.1.2.1 dX6_freeIn_39 (by decide) k) ?_
          exact ih11 (x1_11 + 1) M33 ls (lv_sub hl [1, 0] rfl)
  unfold X6_freeIn
  refine J.pu (fun _ _ _ _ k => lv_aload_n X.1.1 X.1.2.1 dX6_freeIn_0 rfl (lv_at hl 0 rfl) k) ?_
  refine J.pu (fun _ _ _ _ k => lv_iconst (v := 0) X.1.1 X.1.2.1 dX6_freeIn_1 (by decide) k) ?_
  refine J.mpS (k := 7) X hm (by decide) q2737 rfl rfl rfl dX6_freeIn_2 ?_
  refine J.pu (fun _ _ _ _ k => lv_aload_n X.1.1 X.1.2.1 dX6_freeIn_5 rfl (lv_at hl 0 rfl) k) ?_
  refine J.bd' (fun v6 M6 h6 => ?_)
  refine J.cV (q := (RX6, TX6, 26)) (ci := 5) (As := []) (rest := []) (s2 := []) X ⟨rfl, rfl⟩ (ct_X6_goesAside l hm σ n (mP M 7 0)) (mup_of h6) (fun _ _ => cwV 0 X.1.2.2.2.2 (lw_V q3184 q3186 qs126 q174 q3187) rfl rfl rfl (by decide +kernel) ⟨(Nat.le_of_ble_eq_true rfl), (Nat.le_of_ble_eq_true rfl)⟩) mH_rc rfl rfl hl.1 rfl rfl (Nat.le_of_ble_eq_true rfl) dX6_freeIn_6 ?_
  refine J.pu (fun _ _ _ _ k => lv_iconst (v := 0) X.1.1 X.1.2.1 dX6_freeIn_9 (by decide) k) ?_
  refine J.istore_n (i := 1) (lv' := [(1, .int 0), (0, .ref mo)]) X.1.1 X.1.2.1 dX6_freeIn_10 rfl hl (by decide) (by first | rfl | simp [va_rf_cat, jcI, jcA, jcJ, jcD, jcF]) (fun ls hl => ?_)
  exact L11 n 0 M6 ls (lv_sub hl [1, 0] rfl)
noncomputable def X6_timesHeld_j60 (n : Nat) (M : jM) (a1 : Int32) (rec4 : Int32 × Int32 → Option (Int32)) (rec17 : Int32 × Int32 → Option (Int32)) (x3_17 : Int32) (x4_60 : Int32) (s0_60 : Int32) (s1_60 : Int32) : Option (Int32) :=
  (X6_one n M s1_60).bind fun v60 => rec17 ((s0_60 + v60), (x4_60 + 1))
noncomputable def X6_timesHeld_j59 (n : Nat) (M : jM) (a1 : Int32) (rec4 : Int32 × Int32 → Option (Int32)) (rec17 : Int32 × Int32 → Option (Int32)) (x3_17 : Int32) (x4_59 : Int32) (s0_59 : Int32) : Option (Int32) :=
  X6_timesHeld_j60 n M a1 rec4 rec17 x3_17 x4_59 s0_59 0
noncomputable def X6_timesHeld_h17 (n : Nat) (M : jM) (a1 : Int32) (rec4 : Int32 × Int32 → Option (Int32)) (x3_17 : Int32) (rec17 : Int32 × Int32 → Option (Int32)) (q17 : Int32 × Int32) : Option (Int32) :=
  let x2_17 := q17.1; let x4_17 := q17.2; (X6_ofChute n M x3_17 6).bind fun v23 => if v23 ≤ x4_17 then (rec4 (x2_17, (x3_17 + 1))) else ((X6_ofChute n M x3_17 (8 + x4_17)).bind fun v37 => if v37 = a1 then ((X6_of n M a1 7).bind fun v48 => if v48 = x3_17 then (X6_timesHeld_j60 n M a1 rec4 rec17 x3_17 x4_17 x2_17 1) else (X6_timesHeld_j59 n M a1 rec4 rec17 x3_17 x4_17 x2_17)) else (X6_timesHeld_j59 n M a1 rec4 rec17 x3_17 x4_17 x2_17))
noncomputable def X6_timesHeld_h4 (n : Nat) (M : jM) (a1 : Int32) (rec4 : Int32 × Int32 → Option (Int32)) (q4 : Int32 × Int32) : Option (Int32) :=
  let x2_4 := q4.1; let x3_4 := q4.2; (mA M 0 3).bind fun v10 => if v10 ≤ x3_4 then (some x2_4) else (jloop (X6_timesHeld_h17 n M a1 rec4 x3_4) n (x2_4, 0))
noncomputable def X6_timesHeld (n : Nat) (M : jM) (a1 : Int32) : Option (Int32) :=
  jloop (X6_timesHeld_h4 n M a1) n (0, 0)
set_option maxHeartbeats 4000000 in
set_option maxRecDepth 100000 in
theorem ct_X6_timesHeld (l : Launch) {G : jG} {mo : Nat} {A : Nat → Nat} (hm : mOK G mo A) (σ : jH) (n : Nat) (M : jM) (a1 : Int32) : jCt l G yX6_timesHeld (ws_ yX6_timesHeld cX6_timesHeld 5 (some .int)) 1 22 jrI [.ref mo, .int a1] (mH mo A σ M) (jrd (mH mo A σ M) (X6_timesHeld n M a1)) := by
  refine jCt.rd (lv := [(0, .ref mo), (1, .int a1)]) (plainFor_of_name (by decide)) (Nat.le_of_ble_eq_true rfl) rfl ?_
  intro t p e s m args below meth c ls X hr hnm hl
  have X : jCx p c cX6_timesHeld 5 s m args RX6 G meth := X
  have L4 : ∀ (n4 : Nat) (x2_4 : Int32) (x3_4 : Int32) (ls : Array Slot), lv_has ls 5 [(0, .ref mo), (1, .int a1), (2, .int x2_4), (3, .int x3_4)] → jGo l G 1 22 (mH mo A σ M) (fun _ : Int32 => (mH mo A σ M)) jrI t p e s m args below meth c (jloop (X6_timesHeld_h4 n M a1) n4 (x2_4, x3_4)) (mH mo A σ M) (F0 m 4 ls []) := by
    intro n4
    induction n4 with
    | zero => intro x2_4 x3_4 ls hl; exact J.nil_
    | succ n4 ih4 =>
      have L17 : ∀ (x3_17 : Int32) (n17 : Nat) (x2_17 : Int32) (x4_17 : Int32) (ls : Array Slot), lv_has ls 5 [(0, .ref mo), (1, .int a1), (3, .int x3_17), (2, .int x2_17), (4, .int x4_17)] → jGo l G 1 22 (mH mo A σ M) (fun _ : Int32 => (mH mo A σ M)) jrI t p e s m args below meth c (jloop (X6_timesHeld_h17 n M a1 (jloop (X6_timesHeld_h4 n M a1) n4) x3_17) n17 (x2_17, x4_17)) (mH mo A σ M) (F0 m 17 ls []) := by
        intro x3_17
        intro n17
        induction n17 with
        | zero => intro x2_17 x4_17 ls hl; exact J.nil_
        | succ n17 ih17 =>
          have j60 : ∀ (x4_60 : Int32) (s0_60 : Int32) (s1_60 : Int32) (ls : Array Slot), lv_has ls 5 [(0, .ref mo), (1, .int a1), (3, .int x3_17), (4, .int x4_60)] → jGo l G 1 22 (mH mo A σ M) (fun _ : Int32 => (mH mo A σ M)) jrI t p e s m args below meth c (X6_timesHeld_j60 n M a1 (jloop (X6_timesHeld_h4 n M a1) n4) (jloop (X6_timesHeld_h17 n M a1 (jloop (X6_timesHeld_h4 n M a1) n4) x3_17) n17) x3_17 x4_60 s0_60 s1_60) (mH mo A σ M) (F0 m 60 ls [.int s1_60, .int s0_60]) := by
            intro x4_60 s0_60 s1_60 ls hl
            unfold X6_timesHeld_j60
            refine J.bind (fun v60 h60 => ?_)
            refine J.cS (As := [.int s1_60]) (rest := [.int s0_60]) (s2 := [.int v60, .int s0_60]) X ⟨rfl, rfl⟩ (ct_X6_one l hm σ n M s1_60) (jrd_of h60) (fun _ _ => va_cwS 1 X.1.2.2.2.2 (lw_S q2988 q2989 q174 q2990) rfl rfl rfl (by decide +kernel) ⟨(Nat.le_of_ble_eq_true rfl), (Nat.le_of_ble_eq_true rfl)⟩) rfl hl.1 rfl rfl (Nat.le_of_ble_eq_true rfl) dX6_timesHeld_60 ?_
            refine J.pu (fun _ _ _ _ k => lv_iadd X.1.1 X.1.2.1 dX6_timesHeld_63 k) ?_
            refine J.istore_n (i := 2) (lv' := [(2, .int (s0_60 + v60)), (0, .ref mo), (1, .int a1), (3, .int x3_17), (4, .int x4_60)]) X.1.1 X.1.2.1 dX6_timesHeld_64 rfl hl (by decide) (by first | rfl | simp [va_rf_cat, jcI, jcA, jcJ, jcD, jcF]) (fun ls hl => ?_)
            refine J.iinc (k := 4) (lv' := [(4, .int (x4_60 + 1)), (2, .int (s0_60 + v60)), (0, .ref mo), (1, .int a1), (3, .int x3_17)]) (w := (x4_60 + 1)) X.1.1 X.1.2.1 dX6_timesHeld_65 hl rfl rfl (by decide) (by first | rfl | simp [va_rf_cat, jcI, jcA, jcJ, jcD, jcF]) (fun ls hl => ?_)
            refine J.pu (fun _ _ _ _ k => lv_goto (tgt := 17) X.1.1 X.1.2.1 dX6_timesHeld_68 (by decide) k) ?_
            exact ih17 (s0_60 + v60) (x4_60 + 1) ls (lv_sub hl [2, 3, 4, 1, 0] rfl)
          have j59 : ∀ (x4_59 : Int32) (s0_59 : Int32) (ls : Array Slot), lv_has ls 5 [(0, .ref mo), (1, .int a1), (3, .int x3_17), (4, .int x4_59)] → jGo l G 1 22 (mH mo A σ M) (fun _ : Int32 => (mH mo A σ M)) jrI t p e s m args below meth c (X6_timesHeld_j59 n M a1 (jloop (X6_timesHeld_h4 n M a1) n4) (jloop (X6_timesHeld_h17 n M a1 (jloop (X6_timesHeld_h4 n M a1) n4) x3_17) n17) x3_17 x4_59 s0_59) (mH mo A σ M) (F0 m 59 ls [.int s0_59]) := by
            intro x4_59 s0_59 ls hl
            unfold X6_timesHeld_j59
            refine J.pu (fun _ _ _ _ k => lv_iconst (v := 0) X.1.1 X.1.2.1 dX6_timesHeld_59 (by decide) k) ?_
            exact j60 x4_59 s0_59 0 ls (lv_sub hl [0, 1, 2, 3] rfl)
          intro x2_17 x4_17 ls hl
          refine J.eq (jloop_s _ _ _) ?_
          dsimp only [X6_timesHeld_h17]
          refine J.pu (fun _ _ _ _ k => lv_iload X.1.1 X.1.2.1 dX6_timesHeld_17 (lv_at hl 4 rfl) k) ?_
          refine J.pu (fun _ _ _ _ k => lv_aload_n X.1.1 X.1.2.1 dX6_timesHeld_19 rfl (lv_at hl 0 rfl) k) ?_
          refine J.pu (fun _ _ _ _ k => lv_iload_n X.1.1 X.1.2.1 dX6_timesHeld_20 rfl (lv_at hl 2 rfl) k) ?_
          refine J.pu (fun _ _ _ _ k => lv_bipush (v := 6) X.1.1 X.1.2.1 dX6_timesHeld_21 (by decide) k) ?_
          refine J.bind (fun v23 h23 => ?_)
          refine J.cV (q := (RX6, TX6, 26)) (ci := 5) (As := [.int x3_17, .int 6]) (rest := [.int x4_17]) (s2 := [.int v23, .int x4_17]) X ⟨rfl, rfl⟩ (ct_X6_ofChute l hm σ n M x3_17 6) (jrd_of h23) (fun _ _ => cwV 2 X.1.2.2.2.2 (lw_V q2908 q2910 qs77 q174 q2911) rfl rfl rfl (by decide +kernel) ⟨(Nat.le_of_ble_eq_true rfl), (Nat.le_of_ble_eq_true rfl)⟩) mH_rc rfl rfl hl.1 rfl rfl (Nat.le_of_ble_eq_true rfl) dX6_timesHeld_23 ?_
          refine J.br (fun _ _ _ _ ka kb => lv_icmp_ge (tgt := 71) X.1.1 X.1.2.1 dX6_timesHeld_26 (by decide) ka kb) (fun c26 => ?_) (fun c26 => ?_)
          · refine J.iinc (k := 2) (lv' := [(3, .int (x3_17 + 1)), (0, .ref mo), (1, .int a1), (2, .int x2_17), (4, .int x4_17)]) (w := (x3_17 + 1)) X.1.1 X.1.2.1 dX6_timesHeld_71 hl rfl rfl (by decide) (by first | rfl | simp [va_rf_cat, jcI, jcA, jcJ, jcD, jcF]) (fun ls hl => ?_)
            refine J.pu (fun _ _ _ _ k => lv_goto (tgt := 4) X.1.1 X.1.2.1 dX6_timesHeld_74 (by decide) k) ?_
            exact ih4 x2_17 (x3_17 + 1) ls (lv_sub hl [1, 2, 3, 0] rfl)
          · refine J.pu (fun _ _ _ _ k => lv_iload_n X.1.1 X.1.2.1 dX6_timesHeld_29 rfl (lv_at hl 3 rfl) k) ?_
            refine J.pu (fun _ _ _ _ k => lv_aload_n X.1.1 X.1.2.1 dX6_timesHeld_30 rfl (lv_at hl 0 rfl) k) ?_
            refine J.pu (fun _ _ _ _ k => lv_iload_n X.1.1 X.1.2.1 dX6_timesHeld_31 rfl (lv_at hl 2 rfl) k) ?_
            refine J.pu (fun _ _ _ _ k => lv_bipush (v := 8) X.1.1 X.1.2.1 dX6_timesHeld_32 (by decide) k) ?_
            refine J.pu (fun _ _ _ _ k => lv_iload X.1.1 X.1.2.1 dX6_timesHeld_34 (lv_at hl 4 rfl) k) ?_
            refine J.pu (fun _ _ _ _ k => lv_iadd X.1.1 X.1.2.1 dX6_timesHeld_36 k) ?_
            refine J.bind (fun v37 h37 => ?_)
            refine J.cV (q := (RX6, TX6, 26)) (ci := 5) (As := [.int x3_17, .int (8 + x4_17)]) (rest := [.int x2_17]) (s2 := [.int v37, .int x2_17]) X ⟨rfl, rfl⟩ (ct_X6_ofChute l hm σ n M x3_17 (8 + x4_17)) (jrd_of h37) (fun _ _ => cwV 2 X.1.2.2.2.2 (lw_V q2908 q2910 qs77 q174 q2911) rfl rfl rfl (by decide +kernel) ⟨(Nat.le_of_ble_eq_true rfl), (Nat.le_of_ble_eq_true rfl)⟩) mH_rc rfl rfl hl.1 rfl rfl (Nat.le_of_ble_eq_true rfl) dX6_timesHeld_37 ?_
            refine J.pu (fun _ _ _ _ k => lv_iload_n X.1.1 X.1.2.1 dX6_timesHeld_40 rfl (lv_at hl 1 rfl) k) ?_
            refine J.br (fun _ _ _ _ ka kb => lv_icmp_ne (tgt := 59) X.1.1 X.1.2.1 dX6_timesHeld_41 (by decide) kb ka) (fun c41 => ?_) (fun c41 => ?_)
            · refine J.pu (fun _ _ _ _ k => lv_aload_n X.1.1 X.1.2.1 dX6_timesHeld_44 rfl (lv_at hl 0 rfl) k) ?_
              refine J.pu (fun _ _ _ _ k => lv_iload_n X.1.1 X.1.2.1 dX6_timesHeld_45 rfl (lv_at hl 1 rfl) k) ?_
              refine J.pu (fun _ _ _ _ k => lv_bipush (v := 7) X.1.1 X.1.2.1 dX6_timesHeld_46 (by decide) k) ?_
              refine J.bind (fun v48 h48 => ?_)
              refine J.cV (q := (RX6, TX6, 26)) (ci := 5) (As := [.int a1, .int 7]) (rest := [.int x2_17]) (s2 := [.int v48, .int x2_17]) X ⟨rfl, rfl⟩ (ct_X6_of l hm σ n M a1 7) (jrd_of h48) (fun _ _ => cwV 2 X.1.2.2.2.2 (lw_V q2964 q2966 qs88 q174 q2967) rfl rfl rfl (by decide +kernel) ⟨(Nat.le_of_ble_eq_true rfl), (Nat.le_of_ble_eq_true rfl)⟩) mH_rc rfl rfl hl.1 rfl rfl (Nat.le_of_ble_eq_true rfl) dX6_timesHeld_48 ?_
              refine J.pu (fun _ _ _ _ k => lv_iload_n X.1.1 X.1.2.1 dX6_timesHeld_51 rfl (lv_at hl 2 rfl) k) ?_
              refine J.br (fun _ _ _ _ ka kb => lv_icmp_ne (tgt := 59) X.1.1 X.1.2.1 dX6_timesHeld_52 (by decide) kb ka) (fun c52 => ?_) (fun c52 => ?_)
              · refine J.pu (fun _ _ _ _ k => lv_iconst (v := 1) X.1.1 X.1.2.1 dX6_timesHeld_55 (by decide) k) ?_
                refine J.pu (fun _ _ _ _ k => lv_goto (tgt := 60) X.1.1 X.1.2.1 dX6_timesHeld_56 (by decide) k) ?_
                exact j60 x4_17 x2_17 1 ls (lv_sub hl [0, 1, 2, 4] rfl)
              · exact j59 x4_17 x2_17 ls (lv_sub hl [0, 1, 2, 4] rfl)
            · exact j59 x4_17 x2_17 ls (lv_sub hl [0, 1, 2, 4] rfl)
      intro x2_4 x3_4 ls hl
      refine J.eq (jloop_s _ _ _) ?_
      dsimp only [X6_timesHeld_h4]
      refine J.pu (fun _ _ _ _ k => lv_iload_n X.1.1 X.1.2.1 dX6_timesHeld_4 rfl (lv_at hl 3 rfl) k) ?_
      refine J.pu (fun _ _ _ _ k => lv_aload_n X.1.1 X.1.2.1 dX6_timesHeld_5 rfl (lv_at hl 0 rfl) k) ?_
      refine J.mgA (k := 0) X (by decide) q2730 rfl rfl dX6_timesHeld_6 ?_
      refine J.pu (fun _ _ _ _ k => lv_iconst (v := 3) X.1.1 X.1.2.1 dX6_timesHeld_9 (by decide) k) ?_
      refine J.mld X hm (by decide) dX6_timesHeld_10 (fun v10 h10 => ?_)
      refine J.br (fun _ _ _ _ ka kb => lv_icmp_ge (tgt := 77) X.1.1 X.1.2.1 dX6_timesHeld_11 (by decide) ka kb) (fun c11 => ?_) (fun c11 => ?_)
      · refine J.pu (fun _ _ _ _ k => lv_iload_n X.1.1 X.1.2.1 dX6_timesHeld_77 rfl (lv_at hl 2 rfl) k) ?_
        exact J.iret (vr := jrI) (fin := fun _ : Int32 => (mH mo A σ M)) (t := t) X hr (by rfl) (by rfl) dX6_timesHeld_78
      · refine J.pu (fun _ _ _ _ k => lv_iconst (v := 0) X.1.1 X.1.2.1 dX6_timesHeld_14 (by decide) k) ?_
        refine J.istore (lv' := [(4, .int 0), (0, .ref mo), (1, .int a1), (2, .int x2_4), (3, .int x3_4)]) X.1.1 X.1.2.1 dX6_timesHeld_15 hl (by decide) (by first | rfl | simp [va_rf_cat, jcI, jcA, jcJ, jcD, jcF]) (fun ls hl => ?_)
        exact L17 x3_4 n x2_4 0 ls (lv_sub hl [1, 2, 4, 3, 0] rfl)
  unfold X6_timesHeld
  refine J.pu (fun _ _ _ _ k => lv_iconst (v := 0) X.1.1 X.1.2.1 dX6_timesHeld_0 (by decide) k) ?_
  refine J.istore_n (i := 2) (lv' := [(2, .int 0), (0, .ref mo), (1, .int a1)]) X.1.1 X.1.2.1 dX6_timesHeld_1 rfl hl (by decide) (by first | rfl | simp [va_rf_cat, jcI, jcA, jcJ, jcD, jcF]) (fun ls hl => ?_)
  refine J.pu (fun _ _ _ _ k => lv_iconst (v := 0) X.1.1 X.1.2.1 dX6_timesHeld_2 (by decide) k) ?_
  refine J.istore_n (i := 3) (lv' := [(3, .int 0), (2, .int 0), (0, .ref mo), (1, .int a1)]) X.1.1 X.1.2.1 dX6_timesHeld_3 rfl hl (by decide) (by first | rfl | simp [va_rf_cat, jcI, jcA, jcJ, jcD, jcF]) (fun ls hl => ?_)
  exact L4 n 0 0 ls (lv_sub hl [2, 3, 1, 0] rfl)
noncomputable def X6_isRight_j72 (n : Nat) (M : jM) (a1 : Int32) (s0_72 : Int32) (s1_72 : Int32) : Option (Int32) :=
  (X6_one n M s1_72).bind fun v72 => if s0_72 = v72 then (some 1) else (some 0)
noncomputable def X6_isRight_j52 (n : Nat) (M : jM) (a1 : Int32) : Option (Int32) :=
  (X6_timesHeld n M a1).bind fun v54 => (X6_of n M a1 3).bind fun v60 => if v60 = 1 then (X6_isRight_j72 n M a1 v54 1) else (X6_isRight_j72 n M a1 v54 0)
noncomputable def X6_isRight_j24 (n : Nat) (M : jM) (a1 : Int32) : Option (Int32) :=
  (X6_isTracked n M a1).bind fun v26 => if v26 = 0 then (X6_isRight_j52 n M a1) else ((X6_of n M a1 9).bind fun v36 => if v36 = 0 then ((X6_lagOf n M a1).bind fun v44 => if v44 ≤ 0 then (X6_isRight_j52 n M a1) else (some 0)) else (X6_isRight_j52 n M a1))
noncomputable def X6_isRight (n : Nat) (M : jM) (a1 : Int32) : Option (Int32) :=
  (X6_isOn n M a1).bind fun v2 => if v2 = 0 then (X6_isRight_j24 n M a1) else ((X6_of n M a1 4).bind fun v12 => (X6_parcelIn n M v12).bind fun v15 => if v15 = a1 then (X6_isRight_j24 n M a1) else (some 0))
set_option maxHeartbeats 4000000 in
set_option maxRecDepth 100000 in
theorem ct_X6_isRight (l : Launch) {G : jG} {mo : Nat} {A : Nat → Nat} (hm : mOK G mo A) (σ : jH) (n : Nat) (M : jM) (a1 : Int32) : jCt l G yX6_isRight (ws_ yX6_isRight cX6_isRight 2 (some .boolean)) 3 65 jrI [.ref mo, .int a1] (mH mo A σ M) (jrd (mH mo A σ M) (X6_isRight n M a1)) := by
  refine jCt.rd (lv := [(0, .ref mo), (1, .int a1)]) (plainFor_of_name (by decide)) (Nat.le_of_ble_eq_true rfl) rfl ?_
  intro t p e s m args below meth c ls X hr hnm hl
  have X : jCx p c cX6_isRight 2 s m args RX6 G meth := X
  have j72 : ∀ (s0_72 : Int32) (s1_72 : Int32) (ls : Array Slot), lv_has ls 2 [] → jGo l G 3 65 (mH mo A σ M) (fun _ : Int32 => (mH mo A σ M)) jrI t p e s m args below meth c (X6_isRight_j72 n M a1 s0_72 s1_72) (mH mo A σ M) (F0 m 72 ls [.int s1_72, .int s0_72]) := by
    intro s0_72 s1_72 ls hl
    unfold X6_isRight_j72
    refine J.bind (fun v72 h72 => ?_)
    refine J.cS (As := [.int s1_72]) (rest := [.int s0_72]) (s2 := [.int v72, .int s0_72]) X ⟨rfl, rfl⟩ (ct_X6_one l hm σ n M s1_72) (jrd_of h72) (fun _ _ => va_cwS 1 X.1.2.2.2.2 (lw_S q2988 q2989 q174 q2990) rfl rfl rfl (by decide +kernel) ⟨(Nat.le_of_ble_eq_true rfl), (Nat.le_of_ble_eq_true rfl)⟩) rfl hl.1 rfl rfl (Nat.le_of_ble_eq_true rfl) dX6_isRight_72 ?_
    refine J.br (fun _ _ _ _ ka kb => lv_icmp_ne (tgt := 82) X.1.1 X.1.2.1 dX6_isRight_75 (by decide) kb ka) (fun c75 => ?_) (fun c75 => ?_)
    · refine J.pu (fun _ _ _ _ k => lv_iconst (v := 1) X.1.1 X.1.2.1 dX6_isRight_78 (by decide) k) ?_
      refine J.pu (fun _ _ _ _ k => lv_goto (tgt := 83) X.1.1 X.1.2.1 dX6_isRight_79 (by decide) k) ?_
      exact J.zret (vr := jrI) (fin := fun _ : Int32 => (mH mo A σ M)) (t := t) X hr (by decide) (by rfl) (by rfl) dX6_isRight_83
    · refine J.pu (fun _ _ _ _ k => lv_iconst (v := 0) X.1.1 X.1.2.1 dX6_isRight_82 (by decide) k) ?_
      exact J.zret (vr := jrI) (fin := fun _ : Int32 => (mH mo A σ M)) (t := t) X hr (by decide) (by rfl) (by rfl) dX6_isRight_83
  have j52 : ∀ (ls : Array Slot), lv_has ls 2 [(0, .ref mo), (1, .int a1)] → jGo l G 3 65 (mH mo A σ M) (fun _ : Int32 => (mH mo A σ M)) jrI t p e s m args below meth c (X6_isRight_j52 n M a1) (mH mo A σ M) (F0 m 52 ls []) := by
    intro ls hl
    unfold X6_isRight_j52
    refine J.pu (fun _ _ _ _ k => lv_aload_n X.1.1 X.1.2.1 dX6_isRight_52 rfl (lv_at hl 0 rfl) k) ?_
    refine J.pu (fun _ _ _ _ k => lv_iload_n X.1.1 X.1.2.1 dX6_isRight_53 rfl (lv_at hl 1 rfl) k) ?_
    refine J.bind (fun v54 h54 => ?_)
    refine J.cV (q := (RX6, TX6, 26)) (ci := 5) (As := [.int a1]) (rest := []) (s2 := [.int v54]) X ⟨rfl, rfl⟩ (ct_X6_timesHeld l hm σ n M a1) (jrd_of h54) (fun _ _ => cwV 1 X.1.2.2.2.2 (lw_V q3248 q3250 qs133 q174 q3251) rfl rfl rfl (by decide +kernel) ⟨(Nat.le_of_ble_eq_true rfl), (Nat.le_of_ble_eq_true rfl)⟩) mH_rc rfl rfl hl.1 rfl rfl (Nat.le_of_ble_eq_true rfl) dX6_isRight_54 ?_
    refine J.pu (fun _ _ _ _ k => lv_aload_n X.1.1 X.1.2.1 dX6_isRight_57 rfl (lv_at hl 0 rfl) k) ?_
    refine J.pu (fun _ _ _ _ k => lv_iload_n X.1.1 X.1.2.1 dX6_isRight_58 rfl (lv_at hl 1 rfl) k) ?_
    refine J.pu (fun _ _ _ _ k => lv_iconst (v := 3) X.1.1 X.1.2.1 dX6_isRight_59 (by decide) k) ?_
    refine J.bind (fun v60 h60 => ?_)
    refine J.cV (q := (RX6, TX6, 26)) (ci := 5) (As := [.int a1, .int 3]) (rest := [.int v54]) (s2 := [.int v60, .int v54]) X ⟨rfl, rfl⟩ (ct_X6_of l hm σ n M a1 3) (jrd_of h60) (fun _ _ => cwV 2 X.1.2.2.2.2 (lw_V q2964 q2966 qs88 q174 q2967) rfl rfl rfl (by decide +kernel) ⟨(Nat.le_of_ble_eq_true rfl), (Nat.le_of_ble_eq_true rfl)⟩) mH_rc rfl rfl hl.1 rfl rfl (Nat.le_of_ble_eq_true rfl) dX6_isRight_60 ?_
    refine J.pu (fun _ _ _ _ k => lv_iconst (v := 1) X.1.1 X.1.2.1 dX6_isRight_63 (by decide) k) ?_
    refine J.br (fun _ _ _ _ ka kb => lv_icmp_ne (tgt := 71) X.1.1 X.1.2.1 dX6_isRight_64 (by decide) kb ka) (fun c64 => ?_) (fun c64 => ?_)
    · refine J.pu (fun _ _ _ _ k => lv_iconst (v := 1) X.1.1 X.1.2.1 dX6_isRight_67 (by decide) k) ?_
      refine J.pu (fun _ _ _ _ k => lv_goto (tgt := 72) X.1.1 X.1.2.1 dX6_isRight_68 (by decide) k) ?_
      exact j72 v54 1 ls (lv_sub hl [] rfl)
    · refine J.pu (fun _ _ _ _ k => lv_iconst (v := 0) X.1.1 X.1.2.1 dX6_isRight_71 (by decide) k) ?_
      exact j72 v54 0 ls (lv_sub hl [] rfl)
  have j24 : ∀ (ls : Array Slot), lv_has ls 2 [(0, .ref mo), (1, .int a1)] → jGo l G 3 65 (mH mo A σ M) (fun _ : Int32 => (mH mo A σ M)) jrI t p e s m args below meth c (X6_isRight_j24 n M a1) (mH mo A σ M) (F0 m 24 ls []) := by
    intro ls hl
    unfold X6_isRight_j24
    refine J.pu (fun _ _ _ _ k => lv_aload_n X.1.1 X.1.2.1 dX6_isRight_24 rfl (lv_at hl 0 rfl) k) ?_
    refine J.pu (fun _ _ _ _ k => lv_iload_n X.1.1 X.1.2.1 dX6_isRight_25 rfl (lv_at hl 1 rfl) k) ?_
    refine J.bind (fun v26 h26 => ?_)
    refine J.cV (q := (RX6, TX6, 26)) (ci := 5) (As := [.int a1]) (rest := []) (s2 := [.int v26]) X ⟨rfl, rfl⟩ (ct_X6_isTracked l hm σ n M a1) (jrd_of h26) (fun _ _ => cwV 1 X.1.2.2.2.2 (lw_V q3023 q3025 qs101 q174 q3026) rfl rfl rfl (by decide +kernel) ⟨(Nat.le_of_ble_eq_true rfl), (Nat.le_of_ble_eq_true rfl)⟩) mH_rc rfl rfl hl.1 rfl rfl (Nat.le_of_ble_eq_true rfl) dX6_isRight_26 ?_
    refine J.br (fun _ _ _ _ ka kb => lv_if_eq (tgt := 52) X.1.1 X.1.2.1 dX6_isRight_29 (by decide) ka kb) (fun c29 => ?_) (fun c29 => ?_)
    · exact j52  ls (lv_sub hl [0, 1] rfl)
    · refine J.pu (fun _ _ _ _ k => lv_aload_n X.1.1 X.1.2.1 dX6_isRight_32 rfl (lv_at hl 0 rfl) k) ?_
      refine J.pu (fun _ _ _ _ k => lv_iload_n X.1.1 X.1.2.1 dX6_isRight_33 rfl (lv_at hl 1 rfl) k) ?_
      refine J.pu (fun _ _ _ _ k => lv_bipush (v := 9) X.1.1 X.1.2.1 dX6_isRight_34 (by decide) k) ?_
      refine J.bind (fun v36 h36 => ?_)
      refine J.cV (q := (RX6, TX6, 26)) (ci := 5) (As := [.int a1, .int 9]) (rest := []) (s2 := [.int v36]) X ⟨rfl, rfl⟩ (ct_X6_of l hm σ n M a1 9) (jrd_of h36) (fun _ _ => cwV 2 X.1.2.2.2.2 (lw_V q2964 q2966 qs88 q174 q2967) rfl rfl rfl (by decide +kernel) ⟨(Nat.le_of_ble_eq_true rfl), (Nat.le_of_ble_eq_true rfl)⟩) mH_rc rfl rfl hl.1 rfl rfl (Nat.le_of_ble_eq_true rfl) dX6_isRight_36 ?_
      refine J.br (fun _ _ _ _ ka kb => lv_if_ne (tgt := 52) X.1.1 X.1.2.1 dX6_isRight_39 (by decide) kb ka) (fun c39 => ?_) (fun c39 => ?_)
      · refine J.pu (fun _ _ _ _ k => lv_aload_n X.1.1 X.1.2.1 dX6_isRight_42 rfl (lv_at hl 0 rfl) k) ?_
        refine J.pu (fun _ _ _ _ k => lv_iload_n X.1.1 X.1.2.1 dX6_isRight_43 rfl (lv_at hl 1 rfl) k) ?_
        refine J.bind (fun v44 h44 => ?_)
        refine J.cV (q := (RX6, TX6, 26)) (ci := 5) (As := [.int a1]) (rest := []) (s2 := [.int v44]) X ⟨rfl, rfl⟩ (ct_X6_lagOf l hm σ n M a1) (jrd_of h44) (fun _ _ => cwV 1 X.1.2.2.2.2 (lw_V q3008 q3010 qs98 q174 q3011) rfl rfl rfl (by decide +kernel) ⟨(Nat.le_of_ble_eq_true rfl), (Nat.le_of_ble_eq_true rfl)⟩) mH_rc rfl rfl hl.1 rfl rfl (Nat.le_of_ble_eq_true rfl) dX6_isRight_44 ?_
        refine J.br (fun _ _ _ _ ka kb => lv_if_le (tgt := 52) X.1.1 X.1.2.1 dX6_isRight_47 (by decide) ka kb) (fun c47 => ?_) (fun c47 => ?_)
        · exact j52  ls (lv_sub hl [0, 1] rfl)
        · refine J.pu (fun _ _ _ _ k => lv_iconst (v := 0) X.1.1 X.1.2.1 dX6_isRight_50 (by decide) k) ?_
          exact J.zret (vr := jrI) (fin := fun _ : Int32 => (mH mo A σ M)) (t := t) X hr (by decide) (by rfl) (by rfl) dX6_isRight_51
      · exact j52  ls (lv_sub hl [0, 1] rfl)
  unfold X6_isRight
  refine J.pu (fun _ _ _ _ k => lv_aload_n X.1.1 X.1.2.1 dX6_isRight_0 rfl (lv_at hl 0 rfl) k) ?_
  refine J.pu (fun _ _ _ _ k => lv_iload_n X.1.1 X.1.2.1 dX6_isRight_1 rfl (lv_at hl 1 rfl) k) ?_
  refine J.bind (fun v2 h2 => ?_)
  refine J.cV (q := (RX6, TX6, 26)) (ci := 5) (As := [.int a1]) (rest := []) (s2 := [.int v2]) X ⟨rfl, rfl⟩ (ct_X6_isOn l hm σ n M a1) (jrd_of h2) (fun _ _ => cwV 1 X.1.2.2.2.2 (lw_V q2960 q2962 qs87 q174 q2963) rfl rfl rfl (by decide +kernel) ⟨(Nat.le_of_ble_eq_true rfl), (Nat.le_of_ble_eq_true rfl)⟩) mH_rc rfl rfl hl.1 rfl rfl (Nat.le_of_ble_eq_true rfl) dX6_isRight_2 ?_
  refine J.br (fun _ _ _ _ ka kb => lv_if_eq (tgt := 24) X.1.1 X.1.2.1 dX6_isRight_5 (by decide) ka kb) (fun c5 => ?_) (fun c5 => ?_)
  · exact j24  ls (lv_sub hl [0, 1] rfl)
  · refine J.pu (fun _ _ _ _ k => lv_aload_n X.1.1 X.1.2.1 dX6_isRight_8 rfl (lv_at hl 0 rfl) k) ?_
    refine J.pu (fun _ _ _ _ k => lv_aload_n X.1.1 X.1.2.1 dX6_isRight_9 rfl (lv_at hl 0 rfl) k) ?_
    refine J.pu (fun _ _ _ _ k => lv_iload_n X.1.1 X.1.2.1 dX6_isRight_10 rfl (lv_at hl 1 rfl) k) ?_
    refine J.pu (fun _ _ _ _ k => lv_iconst (v := 4) X.1.1 X.1.2.1 dX6_isRight_11 (by decide) k) ?_
    refine J.bind (fun v12 h12 => ?_)
    refine J.cV (q := (RX6, TX6, 26)) (ci := 5) (As := [.int a1, .int 4]) (rest := [.ref mo]) (s2 := [.int v12, .ref mo]) X ⟨rfl, rfl⟩ (ct_X6_of l hm σ n M a1 4) (jrd_of h12) (fun _ _ => cwV 2 X.1.2.2.2.2 (lw_V q2964 q2966 qs88 q174 q2967) rfl rfl rfl (by decide +kernel) ⟨(Nat.le_of_ble_eq_true rfl), (Nat.le_of_ble_eq_true rfl)⟩) mH_rc rfl rfl hl.1 rfl rfl (Nat.le_of_ble_eq_true rfl) dX6_isRight_12 ?_
    refine J.bind (fun v15 h15 => ?_)
    refine J.cV (q := (RX6, TX6, 26)) (ci := 5) (As := [.int v12]) (rest := []) (s2 := [.int v15]) X ⟨rfl, rfl⟩ (ct_X6_parcelIn l hm σ n M v12) (jrd_of h15) (fun _ _ => cwV 1 X.1.2.2.2.2 (lw_V q2956 q2958 qs86 q174 q2959) rfl rfl rfl (by decide +kernel) ⟨(Nat.le_of_ble_eq_true rfl), (Nat.le_of_ble_eq_true rfl)⟩) mH_rc rfl rfl hl.1 rfl rfl (Nat.le_of_ble_eq_true rfl) dX6_isRight_15 ?_
    refine J.pu (fun _ _ _ _ k => lv_iload_n X.1.1 X.1.2.1 dX6_isRight_18 rfl (lv_at hl 1 rfl) k) ?_
    refine J.br (fun _ _ _ _ ka kb => lv_icmp_eq (tgt := 24) X.1.1 X.1.2.1 dX6_isRight_19 (by decide) ka kb) (fun c19 => ?_) (fun c19 => ?_)
    · exact j24  ls (lv_sub hl [0, 1] rfl)
    · refine J.pu (fun _ _ _ _ k => lv_iconst (v := 0) X.1.1 X.1.2.1 dX6_isRight_22 (by decide) k) ?_
      exact J.zret (vr := jrI) (fin := fun _ : Int32 => (mH mo A σ M)) (t := t) X hr (by decide) (by rfl) (by rfl) dX6_isRight_23
noncomputable def X6_agree_h39 (n : Nat) (B39 : jM) (rec39 : Int32 × Int32 × Int32 → Option (Int32 × jM)) (q39 : Int32 × Int32 × Int32) : Option (Int32 × jM) :=
  let x1_39 := q39.1; let x2_39 := q39.2.1; let x3_39 := q39.2.2; (mA B39 0 3).bind fun v45 => if v45 ≤ x3_39 then ((mA B39 0 8).bind fun v99 => (mA B39 0 4).bind fun v105 => if v99 = v105 then ((mA B39 0 9).bind fun v116 => (mA B39 0 10).bind fun v123 => if x1_39 = (v116 + v123) then ((X6_inState n B39 1).bind fun v131 => if x2_39 = v131 then ((X6_inState n B39 2).bind fun v143 => if x1_39 = (x2_39 + v143) then ((mA B39 0 17).bind fun v156 => (X6_inState n B39 2).bind fun v159 => if v156 = v159 then ((mA B39 0 14).bind fun v171 => (X6_inState n B39 3).bind fun v174 => if v171 = v174 then (some (1, B39)) else (some (0, B39))) else (some (0, B39))) else (some (0, B39))) else (some (0, B39))) else (some (0, B39))) else (some (0, B39))) else ((X6_ofChute n B39 x3_39 6).bind fun v53 => (X6_ofChute n B39 x3_39 1).bind fun v59 => if v53 ≤ v59 then ((X6_ofChute n B39 x3_39 7).bind fun v72 => (X6_ofChute n B39 x3_39 6).bind fun v82 => rec39 ((x1_39 + v72), (x2_39 + v82), (x3_39 + 1))) else (some (0, B39)))
noncomputable def X6_agree_h7 (n : Nat) (B7 : jM) (rec7 : Int32 → Option (Int32 × jM)) (q7 : Int32) : Option (Int32 × jM) :=
  let x1_7 := q7; (mA B7 0 4).bind fun v13 => if v13 ≤ x1_7 then (jloop (X6_agree_h39 n B7) n (0, 0, 0)) else ((X6_isRight n B7 x1_7).bind fun v19 => if v19 = 0 then (some (0, B7)) else (rec7 (x1_7 + 1)))
noncomputable def X6_agree (n : Nat) (M : jM) : Option (Int32 × jM) :=
  jloop (X6_agree_h7 n (mP M 7 0)) n 0
set_option maxHeartbeats 4000000 in
set_option maxRecDepth 100000 in
theorem ct_X6_agree (l : Launch) {G : jG} {mo : Nat} {A : Nat → Nat} (hm : mOK G mo A) (σ : jH) (n : Nat) (M : jM) : jCt l G yX6_agree (ws_ yX6_agree cX6_agree 4 (some .boolean)) 4 86 jrI [.ref mo] (mH mo A σ M) (mup mo A σ (X6_agree n M)) := by
  refine jCt.wm (lv := [(0, .ref mo)]) (plainFor_of_name (by decide)) (Nat.le_of_ble_eq_true rfl) rfl ?_
  intro t p e s m args below meth c ls X hr hnm hl
  have X : jCx p c cX6_agree 4 s m args RX6 G meth := X
  have L39 : ∀ (B39 : jM) (n39 : Nat) (x1_39 : Int32) (x2_39 : Int32) (x3_39 : Int32) (ls : Array Slot), lv_has ls 4 [(0, .ref mo), (1, .int x1_39), (2, .int x2_39), (3, .int x3_39)] → jGo l G 4 86 (mH mo A σ M) (fun r : Int32 × jM => mH mo A σ r.2) (fun t => jrI t.1) t p e s m args below meth c (jloop (X6_agree_h39 n B39) n39 (x1_39, x2_39, x3_39)) (mH mo A σ B39) (F0 m 39 ls []) := by
    intro B39
    intro n39
    induction n39 with
    | zero => intro x1_39 x2_39 x3_39 ls hl; exact J.nil_
    | succ n39 ih39 =>
      intro x1_39 x2_39 x3_39 ls hl
      refine J.eq (jloop_s _ _ _) ?_
      dsimp only [X6_agree_h39]
      refine J.pu (fun _ _ _ _ k => lv_iload_n X.1.1 X.1.2.1 dX6_agree_39 rfl (lv_at hl 3 rfl) k) ?_
      refine J.pu (fun _ _ _ _ k => lv_aload_n X.1.1 X.1.2.1 dX6_agree_40 rfl (lv_at hl 0 rfl) k) ?_
      refine J.mgA (k := 0) X (by decide) q2730 rfl rfl dX6_agree_41 ?_
      refine J.pu (fun _ _ _ _ k => lv_iconst (v := 3) X.1.1 X.1.2.1 dX6_agree_44 (by decide) k) ?_
      refine J.mld X hm (by decide) dX6_agree_45 (fun v45 h45 => ?_)
      refine J.br (fun _ _ _ _ ka kb => lv_icmp_ge (tgt := 93) X.1.1 X.1.2.1 dX6_agree_46 (by decide) ka kb) (fun c46 => ?_) (fun c46 => ?_)
      · refine J.pu (fun _ _ _ _ k => lv_aload_n X.1.1 X.1.2.1 dX6_agree_93 rfl (lv_at hl 0 rfl) k) ?_
        refine J.mgA (k := 0) X (by decide) q2730 rfl rfl dX6_agree_94 ?_
        refine J.pu (fun _ _ _ _ k => lv_bipush (v := 8) X.1.1 X.1.2.1 dX6_agree_97 (by decide) k) ?_
        refine J.mld X hm (by decide) dX6_agree_99 (fun v99 h99 => ?_)
        refine J.pu (fun _ _ _ _ k => lv_aload_n X.1.1 X.1.2.1 dX6_agree_100 rfl (lv_at hl 0 rfl) k) ?_
        refine J.mgA (k := 0) X (by decide) q2730 rfl rfl dX6_agree_101 ?_
        refine J.pu (fun _ _ _ _ k => lv_iconst (v := 4) X.1.1 X.1.2.1 dX6_agree_104 (by decide) k) ?_
        refine J.mld X hm (by decide) dX6_agree_105 (fun v105 h105 => ?_)
        refine J.br (fun _ _ _ _ ka kb => lv_icmp_ne (tgt := 137) X.1.1 X.1.2.1 dX6_agree_106 (by decide) kb ka) (fun c106 => ?_) (fun c106 => ?_)
        · refine J.pu (fun _ _ _ _ k => lv_iload_n X.1.1 X.1.2.1 dX6_agree_109 rfl (lv_at hl 1 rfl) k) ?_
          refine J.pu (fun _ _ _ _ k => lv_aload_n X.1.1 X.1.2.1 dX6_agree_110 rfl (lv_at hl 0 rfl) k) ?_
          refine J.mgA (k := 0) X (by decide) q2730 rfl rfl dX6_agree_111 ?_
          refine J.pu (fun _ _ _ _ k => lv_bipush (v := 9) X.1.1 X.1.2.1 dX6_agree_114 (by decide) k) ?_
          refine J.mld X hm (by decide) dX6_agree_116 (fun v116 h116 => ?_)
          refine J.pu (fun _ _ _ _ k => lv_aload_n X.1.1 X.1.2.1 dX6_agree_117 rfl (lv_at hl 0 rfl) k) ?_
          refine J.mgA (k := 0) X (by decide) q2730 rfl rfl dX6_agree_118 ?_
          refine J.pu (fun _ _ _ _ k => lv_bipush (v := 10) X.1.1 X.1.2.1 dX6_agree_121 (by decide) k) ?_
          refine J.mld X hm (by decide) dX6_agree_123 (fun v123 h123 => ?_)
          refine J.pu (fun _ _ _ _ k => lv_iadd X.1.1 X.1.2.1 dX6_agree_124 k) ?_
          refine J.br (fun _ _ _ _ ka kb => lv_icmp_ne (tgt := 137) X.1.1 X.1.2.1 dX6_agree_125 (by decide) kb ka) (fun c125 => ?_) (fun c125 => ?_)
          · refine J.pu (fun _ _ _ _ k => lv_iload_n X.1.1 X.1.2.1 dX6_agree_128 rfl (lv_at hl 2 rfl) k) ?_
            refine J.pu (fun _ _ _ _ k => lv_aload_n X.1.1 X.1.2.1 dX6_agree_129 rfl (lv_at hl 0 rfl) k) ?_
            refine J.pu (fun _ _ _ _ k => lv_iconst (v := 1) X.1.1 X.1.2.1 dX6_agree_130 (by decide) k) ?_
            refine J.bind (fun v131 h131 => ?_)
            refine J.cV (q := (RX6, TX6, 26)) (ci := 5) (As := [.int 1]) (rest := [.int x2_39]) (s2 := [.int v131, .int x2_39]) X ⟨rfl, rfl⟩ (ct_X6_inState l hm σ n B39 1) (jrd_of h131) (fun _ _ => cwV 1 X.1.2.2.2.2 (lw_V q2984 q2986 qs93 q174 q2987) rfl rfl rfl (by decide +kernel) ⟨(Nat.le_of_ble_eq_true rfl), (Nat.le_of_ble_eq_true rfl)⟩) mH_rc rfl rfl hl.1 rfl rfl (Nat.le_of_ble_eq_true rfl) dX6_agree_131 ?_
            refine J.br (fun _ _ _ _ ka kb => lv_icmp_eq (tgt := 139) X.1.1 X.1.2.1 dX6_agree_134 (by decide) ka kb) (fun c134 => ?_) (fun c134 => ?_)
            · refine J.pu (fun _ _ _ _ k => lv_iload_n X.1.1 X.1.2.1 dX6_agree_139 rfl (lv_at hl 1 rfl) k) ?_
              refine J.pu (fun _ _ _ _ k => lv_iload_n X.1.1 X.1.2.1 dX6_agree_140 rfl (lv_at hl 2 rfl) k) ?_
              refine J.pu (fun _ _ _ _ k => lv_aload_n X.1.1 X.1.2.1 dX6_agree_141 rfl (lv_at hl 0 rfl) k) ?_
              refine J.pu (fun _ _ _ _ k => lv_iconst (v := 2) X.1.1 X.1.2.1 dX6_agree_142 (by decide) k) ?_
              refine J.bind (fun v143 h143 => ?_)
              refine J.cV (q := (RX6, TX6, 26)) (ci := 5) (As := [.int 2]) (rest := [.int x2_39, .int x1_39]) (s2 := [.int v143, .int x2_39, .int x1_39]) X ⟨rfl, rfl⟩ (ct_X6_inState l hm σ n B39 2) (jrd_of h143) (fun _ _ => cwV 1 X.1.2.2.2.2 (lw_V q2984 q2986 qs93 q174 q2987) rfl rfl rfl (by decide +kernel) ⟨(Nat.le_of_ble_eq_true rfl), (Nat.le_of_ble_eq_true rfl)⟩) mH_rc rfl rfl hl.1 rfl rfl (Nat.le_of_ble_eq_true rfl) dX6_agree_143 ?_
              refine J.pu (fun _ _ _ _ k => lv_iadd X.1.1 X.1.2.1 dX6_agree_146 k) ?_
              refine J.br (fun _ _ _ _ ka kb => lv_icmp_ne (tgt := 184) X.1.1 X.1.2.1 dX6_agree_147 (by decide) kb ka) (fun c147 => ?_) (fun c147 => ?_)
              · refine J.pu (fun _ _ _ _ k => lv_aload_n X.1.1 X.1.2.1 dX6_agree_150 rfl (lv_at hl 0 rfl) k) ?_
                refine J.mgA (k := 0) X (by decide) q2730 rfl rfl dX6_agree_151 ?_
                refine J.pu (fun _ _ _ _ k => lv_bipush (v := 17) X.1.1 X.1.2.1 dX6_agree_154 (by decide) k) ?_
                refine J.mld X hm (by decide) dX6_agree_156 (fun v156 h156 => ?_)
                refine J.pu (fun _ _ _ _ k => lv_aload_n X.1.1 X.1.2.1 dX6_agree_157 rfl (lv_at hl 0 rfl) k) ?_
                refine J.pu (fun _ _ _ _ k => lv_iconst (v := 2) X.1.1 X.1.2.1 dX6_agree_158 (by decide) k) ?_
                refine J.bind (fun v159 h159 => ?_)
                refine J.cV (q := (RX6, TX6, 26)) (ci := 5) (As := [.int 2]) (rest := [.int v156]) (s2 := [.int v159, .int v156]) X ⟨rfl, rfl⟩ (ct_X6_inState l hm σ n B39 2) (jrd_of h159) (fun _ _ => cwV 1 X.1.2.2.2.2 (lw_V q2984 q2986 qs93 q174 q2987) rfl rfl rfl (by decide +kernel) ⟨(Nat.le_of_ble_eq_true rfl), (Nat.le_of_ble_eq_true rfl)⟩) mH_rc rfl rfl hl.1 rfl rfl (Nat.le_of_ble_eq_true rfl) dX6_agree_159 ?_
                refine J.br (fun _ _ _ _ ka kb => lv_icmp_ne (tgt := 184) X.1.1 X.1.2.1 dX6_agree_162 (by decide) kb ka) (fun c162 => ?_) (fun c162 => ?_)
                · refine J.pu (fun _ _ _ _ k => lv_aload_n X.1.1 X.1.2.1 dX6_agree_165 rfl (lv_at hl 0 rfl) k) ?_
                  refine J.mgA (k := 0) X (by decide) q2730 rfl rfl dX6_agree_166 ?_
                  refine J.pu (fun _ _ _ _ k => lv_bipush (v := 14) X.1.1 X.1.2.1 dX6_agree_169 (by decide) k) ?_
                  refine J.mld X hm (by decide) dX6_agree_171 (fun v171 h171 => ?_)
                  refine J.pu (fun _ _ _ _ k => lv_aload_n X.1.1 X.1.2.1 dX6_agree_172 rfl (lv_at hl 0 rfl) k) ?_
                  refine J.pu (fun _ _ _ _ k => lv_iconst (v := 3) X.1.1 X.1.2.1 dX6_agree_173 (by decide) k) ?_
                  refine J.bind (fun v174 h174 => ?_)
                  refine J.cV (q := (RX6, TX6, 26)) (ci := 5) (As := [.int 3]) (rest := [.int v171]) (s2 := [.int v174, .int v171]) X ⟨rfl, rfl⟩ (ct_X6_inState l hm σ n B39 3) (jrd_of h174) (fun _ _ => cwV 1 X.1.2.2.2.2 (lw_V q2984 q2986 qs93 q174 q2987) rfl rfl rfl (by decide +kernel) ⟨(Nat.le_of_ble_eq_true rfl), (Nat.le_of_ble_eq_true rfl)⟩) mH_rc rfl rfl hl.1 rfl rfl (Nat.le_of_ble_eq_true rfl) dX6_agree_174 ?_
                  refine J.br (fun _ _ _ _ ka kb => lv_icmp_ne (tgt := 184) X.1.1 X.1.2.1 dX6_agree_177 (by decide) kb ka) (fun c177 => ?_) (fun c177 => ?_)
                  · refine J.pu (fun _ _ _ _ k => lv_iconst (v := 1) X.1.1 X.1.2.1 dX6_agree_180 (by decide) k) ?_
                    refine J.pu (fun _ _ _ _ k => lv_goto (tgt := 185) X.1.1 X.1.2.1 dX6_agree_181 (by decide) k) ?_
                    exact J.zret (vr := fun t : Int32 × jM => jrI t.1) (fin := fun r : Int32 × jM => mH mo A σ r.2) (t := t) X hr (by decide) (by rfl) (by rfl) dX6_agree_185
                  · refine J.pu (fun _ _ _ _ k => lv_iconst (v := 0) X.1.1 X.1.2.1 dX6_agree_184 (by decide) k) ?_
                    exact J.zret (vr := fun t : Int32 × jM => jrI t.1) (fin := fun r : Int32 × jM => mH mo A σ r.2) (t := t) X hr (by decide) (by rfl) (by rfl) dX6_agree_185
                · refine J.pu (fun _ _ _ _ k => lv_iconst (v := 0) X.1.1 X.1.2.1 dX6_agree_184 (by decide) k) ?_
                  exact J.zret (vr := fun t : Int32 × jM => jrI t.1) (fin := fun r : Int32 × jM => mH mo A σ r.2) (t := t) X hr (by decide) (by rfl) (by rfl) dX6_agree_185
              · refine J.pu (fun _ _ _ _ k => lv_iconst (v := 0) X.1.1 X.1.2.1 dX6_agree_184 (by decide) k) ?_
                exact J.zret (vr := fun t : Int32 × jM => jrI t.1) (fin := fun r : Int32 × jM => mH mo A σ r.2) (t := t) X hr (by decide) (by rfl) (by rfl) dX6_agree_185
            · refine J.pu (fun _ _ _ _ k => lv_iconst (v := 0) X.1.1 X.1.2.1 dX6_agree_137 (by decide) k) ?_
              exact J.zret (vr := fun t : Int32 × jM => jrI t.1) (fin := fun r : Int32 × jM => mH mo A σ r.2) (t := t) X hr (by decide) (by rfl) (by rfl) dX6_agree_138
          · refine J.pu (fun _ _ _ _ k => lv_iconst (v := 0) X.1.1 X.1.2.1 dX6_agree_137 (by decide) k) ?_
            exact J.zret (vr := fun t : Int32 × jM => jrI t.1) (fin := fun r : Int32 × jM => mH mo A σ r.2) (t := t) X hr (by decide) (by rfl) (by rfl) dX6_agree_138
        · refine J.pu (fun _ _ _ _ k => lv_iconst (v := 0) X.1.1 X.1.2.1 dX6_agree_137 (by decide) k) ?_
          exact J.zret (vr := fun t : Int32 × jM => jrI t.1) (fin := fun r : Int32 × jM => mH mo A σ r.2) (t := t) X hr (by decide) (by rfl) (by rfl) dX6_agree_138
      · refine J.pu (fun _ _ _ _ k => lv_aload_n X.1.1 X.1.2.1 dX6_agree_49 rfl (lv_at hl 0 rfl) k) ?_
        refine J.pu (fun _ _ _ _ k => lv_iload_n X.1.1 X.1.2.1 dX6_agree_50 rfl (lv_at hl 3 rfl) k) ?_
        refine J.pu (fun _ _ _ _ k => lv_bipush (v := 6) X.1.1 X.1.2.1 dX6_agree_51 (by decide) k) ?_
        refine J.bind (fun v53 h53 => ?_)
        refine J.cV (q := (RX6, TX6, 26)) (ci := 5) (As := [.int x3_39, .int 6]) (rest := []) (s2 := [.int v53]) X ⟨rfl, rfl⟩ (ct_X6_ofChute l hm σ n B39 x3_39 6) (jrd_of h53) (fun _ _ => cwV 2 X.1.2.2.2.2 (lw_V q2908 q2910 qs77 q174 q2911) rfl rfl rfl (by decide +kernel) ⟨(Nat.le_of_ble_eq_true rfl), (Nat.le_of_ble_eq_true rfl)⟩) mH_rc rfl rfl hl.1 rfl rfl (Nat.le_of_ble_eq_true rfl) dX6_agree_53 ?_
        refine J.pu (fun _ _ _ _ k => lv_aload_n X.1.1 X.1.2.1 dX6_agree_56 rfl (lv_at hl 0 rfl) k) ?_
        refine J.pu (fun _ _ _ _ k => lv_iload_n X.1.1 X.1.2.1 dX6_agree_57 rfl (lv_at hl 3 rfl) k) ?_
        refine J.pu (fun _ _ _ _ k => lv_iconst (v := 1) X.1.1 X.1.2.1 dX6_agree_58 (by decide) k) ?_
        refine J.bind (fun v59 h59 => ?_)
        refine J.cV (q := (RX6, TX6, 26)) (ci := 5) (As := [.int x3_39, .int 1]) (rest := [.int v53]) (s2 := [.int v59, .int v53]) X ⟨rfl, rfl⟩ (ct_X6_ofChute l hm σ n B39 x3_39 1) (jrd_of h59) (fun _ _ => cwV 2 X.1.2.2.2.2 (lw_V q2908 q2910 qs77 q174 q2911) rfl rfl rfl (by decide +kernel) ⟨(Nat.le_of_ble_eq_true rfl), (Nat.le_of_ble_eq_true rfl)⟩) mH_rc rfl rfl hl.1 rfl rfl (Nat.le_of_ble_eq_true rfl) dX6_agree_59 ?_
        refine J.br (fun _ _ _ _ ka kb => lv_icmp_le (tgt := 67) X.1.1 X.1.2.1 dX6_agree_62 (by decide) ka kb) (fun c62 => ?_) (fun c62 => ?_)
        · refine J.pu (fun _ _ _ _ k => lv_iload_n X.1.1 X.1.2.1 dX6_agree_67 rfl (lv_at hl 1 rfl) k) ?_
          refine J.pu (fun _ _ _ _ k => lv_aload_n X.1.1 X.1.2.1 dX6_agree_68 rfl (lv_at hl 0 rfl) k) ?_
          refine J.pu (fun _ _ _ _ k => lv_iload_n X.1.1 X.1.2.1 dX6_agree_69 rfl (lv_at hl 3 rfl) k) ?_
          refine J.pu (fun _ _ _ _ k => lv_bipush (v := 7) X.1.1 X.1.2.1 dX6_agree_70 (by decide) k) ?_
          refine J.bind (fun v72 h72 => ?_)
          refine J.cV (q := (RX6, TX6, 26)) (ci := 5) (As := [.int x3_39, .int 7]) (rest := [.int x1_39]) (s2 := [.int v72, .int x1_39]) X ⟨rfl, rfl⟩ (ct_X6_ofChute l hm σ n B39 x3_39 7) (jrd_of h72) (fun _ _ => cwV 2 X.1.2.2.2.2 (lw_V q2908 q2910 qs77 q174 q2911) rfl rfl rfl (by decide +kernel) ⟨(Nat.le_of_ble_eq_true rfl), (Nat.le_of_ble_eq_true rfl)⟩) mH_rc rfl rfl hl.1 rfl rfl (Nat.le_of_ble_eq_true rfl) dX6_agree_72 ?_
          refine J.pu (fun _ _ _ _ k => lv_iadd X.1.1 X.1.2.1 dX6_agree_75 k) ?_
          refine J.istore_n (i := 1) (lv' := [(1, .int (x1_39 + v72)), (0, .ref mo), (2, .int x2_39), (3, .int x3_39)]) X.1.1 X.1.2.1 dX6_agree_76 rfl hl (by decide) (by first | rfl | simp [va_rf_cat, jcI, jcA, jcJ, jcD, jcF]) (fun ls hl => ?_)
          refine J.pu (fun _ _ _ _ k => lv_iload_n X.1.1 X.1.2.1 dX6_agree_77 rfl (lv_at hl 2 rfl) k) ?_
          refine J.pu (fun _ _ _ _ k => lv_aload_n X.1.1 X.1.2.1 dX6_agree_78 rfl (lv_at hl 1 rfl) k) ?_
          refine J.pu (fun _ _ _ _ k => lv_iload_n X.1.1 X.1.2.1 dX6_agree_79 rfl (lv_at hl 3 rfl) k) ?_
          refine J.pu (fun _ _ _ _ k => lv_bipush (v := 6) X.1.1 X.1.2.1 dX6_agree_80 (by decide) k) ?_
          refine J.bind (fun v82 h82 => ?_)
          refine J.cV (q := (RX6, TX6, 26)) (ci := 5) (As := [.int x3_39, .int 6]) (rest := [.int x2_39]) (s2 := [.int v82, .int x2_39]) X ⟨rfl, rfl⟩ (ct_X6_ofChute l hm σ n B39 x3_39 6) (jrd_of h82) (fun _ _ => cwV 2 X.1.2.2.2.2 (lw_V q2908 q2910 qs77 q174 q2911) rfl rfl rfl (by decide +kernel) ⟨(Nat.le_of_ble_eq_true rfl), (Nat.le_of_ble_eq_true rfl)⟩) mH_rc rfl rfl hl.1 rfl rfl (Nat.le_of_ble_eq_true rfl) dX6_agree_82 ?_
          refine J.pu (fun _ _ _ _ k => lv_iadd X.1.1 X.1.2.1 dX6_agree_85 k) ?_
          refine J.istore_n (i := 2) (lv' := [(2, .int (x2_39 + v82)), (1, .int (x1_39 + v72)), (0, .ref mo), (3, .int x3_39)]) X.1.1 X.1.2.1 dX6_agree_86 rfl hl (by decide) (by first | rfl | simp [va_rf_cat, jcI, jcA, jcJ, jcD, jcF]) (fun ls hl => ?_)
          refine J.iinc (k := 3) (lv' := [(3, .int (x3_39 + 1)), (2, .int (x2_39 + v82)), (1, .int (x1_39 + v72)), (0, .ref mo)]) (w := (x3_39 + 1)) X.1.1 X.1.2.1 dX6_agree_87 hl rfl rfl (by decide) (by first | rfl | simp [va_rf_cat, jcI, jcA, jcJ, jcD, jcF]) (fun ls hl => ?_)
          refine J.pu (fun _ _ _ _ k => lv_goto (tgt := 39) X.1.1 X.1.2.1 dX6_agree_90 (by decide) k) ?_
          exact ih39 (x1_39 + v72) (x2_39 + v82) (x3_39 + 1) ls (lv_sub hl [3, 2, 1, 0] rfl)
        · refine J.pu (fun _ _ _ _ k => lv_iconst (v := 0) X.1.1 X.1.2.1 dX6_agree_65 (by decide) k) ?_
          exact J.zret (vr := fun t : Int32 × jM => jrI t.1) (fin := fun r : Int32 × jM => mH mo A σ r.2) (t := t) X hr (by decide) (by rfl) (by rfl) dX6_agree_66
  have L7 : ∀ (B7 : jM) (n7 : Nat) (x1_7 : Int32) (ls : Array Slot), lv_has ls 4 [(0, .ref mo), (1, .int x1_7)] → jGo l G 4 86 (mH mo A σ M) (fun r : Int32 × jM => mH mo A σ r.2) (fun t => jrI t.1) t p e s m args below meth c (jloop (X6_agree_h7 n B7) n7 x1_7) (mH mo A σ B7) (F0 m 7 ls []) := by
    intro B7
    intro n7
    induction n7 with
    | zero => intro x1_7 ls hl; exact J.nil_
    | succ n7 ih7 =>
      intro x1_7 ls hl
      refine J.eq (jloop_s _ _ _) ?_
      dsimp only [X6_agree_h7]
      refine J.pu (fun _ _ _ _ k => lv_iload_n X.1.1 X.1.2.1 dX6_agree_7 rfl (lv_at hl 1 rfl) k) ?_
      refine J.pu (fun _ _ _ _ k => lv_aload_n X.1.1 X.1.2.1 dX6_agree_8 rfl (lv_at hl 0 rfl) k) ?_
      refine J.mgA (k := 0) X (by decide) q2730 rfl rfl dX6_agree_9 ?_
      refine J.pu (fun _ _ _ _ k => lv_iconst (v := 4) X.1.1 X.1.2.1 dX6_agree_12 (by decide) k) ?_
      refine J.mld X hm (by decide) dX6_agree_13 (fun v13 h13 => ?_)
      refine J.br (fun _ _ _ _ ka kb => lv_icmp_ge (tgt := 33) X.1.1 X.1.2.1 dX6_agree_14 (by decide) ka kb) (fun c14 => ?_) (fun c14 => ?_)
      · refine J.pu (fun _ _ _ _ k => lv_iconst (v := 0) X.1.1 X.1.2.1 dX6_agree_33 (by decide) k) ?_
        refine J.istore_n (i := 1) (lv' := [(1, .int 0), (0, .ref mo)]) X.1.1 X.1.2.1 dX6_agree_34 rfl hl (by decide) (by first | rfl | simp [va_rf_cat, jcI, jcA, jcJ, jcD, jcF]) (fun ls hl => ?_)
        refine J.pu (fun _ _ _ _ k => lv_iconst (v := 0) X.1.1 X.1.2.1 dX6_agree_35 (by decide) k) ?_
        refine J.istore_n (i := 2) (lv' := [(2, .int 0), (1, .int 0), (0, .ref mo)]) X.1.1 X.1.2.1 dX6_agree_36 rfl hl (by decide) (by first | rfl | simp [va_rf_cat, jcI, jcA, jcJ, jcD, jcF]) (fun ls hl => ?_)
        refine J.pu (fun _ _ _ _ k => lv_iconst (v := 0) X.1.1 X.1.2.1 dX6_agree_37 (by decide) k) ?_
        refine J.istore_n (i := 3) (lv' := [(3, .int 0), (2, .int 0), (1, .int 0), (0, .ref mo)]) X.1.1 X.1.2.1 dX6_agree_38 rfl hl (by decide) (by first | rfl | simp [va_rf_cat, jcI, jcA, jcJ, jcD, jcF]) (fun ls hl => ?_)
        exact L39 B7 n 0 0 0 ls (lv_sub hl [3, 2, 1, 0] rfl)
      · refine J.pu (fun _ _ _ _ k => lv_aload_n X.1.1 X.1.2.1 dX6_agree_17 rfl (lv_at hl 0 rfl) k) ?_
        refine J.pu (fun _ _ _ _ k => lv_iload_n X.1.1 X.1.2.1 dX6_agree_18 rfl (lv_at hl 1 rfl) k) ?_
        refine J.bind (fun v19 h19 => ?_)
        refine J.cV (q := (RX6, TX6, 26)) (ci := 5) (As := [.int x1_7]) (rest := []) (s2 := [.int v19]) X ⟨rfl, rfl⟩ (ct_X6_isRight l hm σ n B7 x1_7) (jrd_of h19) (fun _ _ => cwV 1 X.1.2.2.2.2 (lw_V q3244 q3246 qs132 q174 q3247) rfl rfl rfl (by decide +kernel) ⟨(Nat.le_of_ble_eq_true rfl), (Nat.le_of_ble_eq_true rfl)⟩) mH_rc rfl rfl hl.1 rfl rfl (Nat.le_of_ble_eq_true rfl) dX6_agree_19 ?_
        refine J.br (fun _ _ _ _ ka kb => lv_if_ne (tgt := 27) X.1.1 X.1.2.1 dX6_agree_22 (by decide) kb ka) (fun c22 => ?_) (fun c22 => ?_)
        · refine J.pu (fun _ _ _ _ k => lv_iconst (v := 0) X.1.1 X.1.2.1 dX6_agree_25 (by decide) k) ?_
          exact J.zret (vr := fun t : Int32 × jM => jrI t.1) (fin := fun r : Int32 × jM => mH mo A σ r.2) (t := t) X hr (by decide) (by rfl) (by rfl) dX6_agree_26
        · refine J.iinc (k := 1) (lv' := [(1, .int (x1_7 + 1)), (0, .ref mo)]) (w := (x1_7 + 1)) X.1.1 X.1.2.1 dX6_agree_27 hl rfl rfl (by decide) (by first | rfl | simp [va_rf_cat, jcI, jcA, jcJ, jcD, jcF]) (fun ls hl => ?_)
          refine J.pu (fun _ _ _ _ k => lv_goto (tgt := 7) X.1.1 X.1.2.1 dX6_agree_30 (by decide) k) ?_
          exact ih7 (x1_7 + 1) ls (lv_sub hl [1, 0] rfl)
  unfold X6_agree
  refine J.pu (fun _ _ _ _ k => lv_aload_n X.1.1 X.1.2.1 dX6_agree_0 rfl (lv_at hl 0 rfl) k) ?_
  refine J.pu (fun _ _ _ _ k => lv_iconst (v := 0) X.1.1 X.1.2.1 dX6_agree_1 (by decide) k) ?_
  refine J.mpS (k := 7) X hm (by decide) q2737 rfl rfl rfl dX6_agree_2 ?_
  refine J.pu (fun _ _ _ _ k => lv_iconst (v := 0) X.1.1 X.1.2.1 dX6_agree_5 (by decide) k) ?_
  refine J.istore_n (i := 1) (lv' := [(1, .int 0), (0, .ref mo)]) X.1.1 X.1.2.1 dX6_agree_6 rfl hl (by decide) (by first | rfl | simp [va_rf_cat, jcI, jcA, jcJ, jcD, jcF]) (fun ls hl => ?_)
  exact L7 (mP M 7 0) n 0 ls (lv_sub hl [1, 0] rfl)
noncomputable def X6_sortedPart (n : Nat) (M : jM) : Option (UInt64 × jM) :=
  (mA (mP M 7 0) 0 9).bind fun v11 => (mA (mP M 7 0) 0 10).bind fun v20 => if (v11 + v20) = 0 then (some (0, (mP M 7 0))) else (jn64 (FP.ddiv (FP.i2d v11) (FP.i2d (v11 + v20))) fun _ => some ((FP.ddiv (FP.i2d v11) (FP.i2d (v11 + v20))), (mP M 7 0)))
set_option maxHeartbeats 4000000 in
set_option maxRecDepth 100000 in
theorem ct_X6_sortedPart (l : Launch) {G : jG} {mo : Nat} {A : Nat → Nat} (hm : mOK G mo A) (σ : jH) (n : Nat) (M : jM) : jCt l G yX6_sortedPart (ws_ yX6_sortedPart cX6_sortedPart 3 (some .double)) 0 0 jrD [.ref mo] (mH mo A σ M) (mup mo A σ (X6_sortedPart n M)) := by
  refine jCt.wm (lv := [(0, .ref mo)]) (plainFor_of_name (by decide)) (Nat.le_of_ble_eq_true rfl) rfl ?_
  intro t p e s m args below meth c ls X hr hnm hl
  have X : jCx p c cX6_sortedPart 3 s m args RX6 G meth := X
  unfold X6_sortedPart
  refine J.pu (fun _ _ _ _ k => lv_aload_n X.1.1 X.1.2.1 dX6_sortedPart_0 rfl (lv_at hl 0 rfl) k) ?_
  refine J.pu (fun _ _ _ _ k => lv_iconst (v := 0) X.1.1 X.1.2.1 dX6_sortedPart_1 (by decide) k) ?_
  refine J.mpS (k := 7) X hm (by decide) q2737 rfl rfl rfl dX6_sortedPart_2 ?_
  refine J.pu (fun _ _ _ _ k => lv_aload_n X.1.1 X.1.2.1 dX6_sortedPart_5 rfl (lv_at hl 0 rfl) k) ?_
  refine J.mgA (k := 0) X (by decide) q2730 rfl rfl dX6_sortedPart_6 ?_
  refine J.pu (fun _ _ _ _ k => lv_bipush (v := 9) X.1.1 X.1.2.1 dX6_sortedPart_9 (by decide) k) ?_
  refine J.mld X hm (by decide) dX6_sortedPart_11 (fun v11 h11 => ?_)
  refine J.istore_n (i := 1) (lv' := [(1, .int v11), (0, .ref mo)]) X.1.1 X.1.2.1 dX6_sortedPart_12 rfl hl (by decide) (by first | rfl | simp [va_rf_cat, jcI, jcA, jcJ, jcD, jcF]) (fun ls hl => ?_)
  refine J.pu (fun _ _ _ _ k => lv_iload_n X.1.1 X.1.2.1 dX6_sortedPart_13 rfl (lv_at hl 0 rfl) k) ?_
  refine J.pu (fun _ _ _ _ k => lv_aload_n X.1.1 X.1.2.1 dX6_sortedPart_14 rfl (lv_at hl 1 rfl) k) ?_
  refine J.mgA (k := 0) X (by decide) q2730 rfl rfl dX6_sortedPart_15 ?_
  refine J.pu (fun _ _ _ _ k => lv_bipush (v := 10) X.1.1 X.1.2.1 dX6_sortedPart_18 (by decide) k) ?_
  refine J.mld X hm (by decide) dX6_sortedPart_20 (fun v20 h20 => ?_)
  refine J.pu (fun _ _ _ _ k => lv_iadd X.1.1 X.1.2.1 dX6_sortedPart_21 k) ?_
  refine J.istore_n (i := 2) (lv' := [(2, .int (v11 + v20)), (1, .int v11), (0, .ref mo)]) X.1.1 X.1.2.1 dX6_sortedPart_22 rfl hl (by decide) (by first | rfl | simp [va_rf_cat, jcI, jcA, jcJ, jcD, jcF]) (fun ls hl => ?_)
  refine J.pu (fun _ _ _ _ k => lv_iload_n X.1.1 X.1.2.1 dX6_sortedPart_23 rfl (lv_at hl 0 rfl) k) ?_
  refine J.br (fun _ _ _ _ ka kb => lv_if_ne (tgt := 31) X.1.1 X.1.2.1 dX6_sortedPart_24 (by decide) kb ka) (fun c24 => ?_) (fun c24 => ?_)
  · refine J.pu (fun _ _ _ _ k => lv_dconst0 X.1.1 X.1.2.1 dX6_sortedPart_27 k) ?_
    refine J.pu (fun _ _ _ _ k => lv_goto (tgt := 36) X.1.1 X.1.2.1 dX6_sortedPart_28 (by decide) k) ?_
    exact J.dret (vr := fun t : UInt64 × jM => jrD t.1) (fin := fun r : UInt64 × jM => mH mo A σ r.2) (t := t) X hr (by rfl) (by rfl) dX6_sortedPart_36
  · refine J.pu (fun _ _ _ _ k => lv_iload_n X.1.1 X.1.2.1 dX6_sortedPart_31 rfl (lv_at hl 1 rfl) k) ?_
    refine J.pu (fun _ _ _ _ k => lv_i2d X.1.1 X.1.2.1 dX6_sortedPart_32 k) ?_
    refine J.pu (fun _ _ _ _ k => lv_iload_n X.1.1 X.1.2.1 dX6_sortedPart_33 rfl (lv_at hl 0 rfl) k) ?_
    refine J.pu (fun _ _ _ _ k => lv_i2d X.1.1 X.1.2.1 dX6_sortedPart_34 k) ?_
    refine J.n64 (fun z35 => ?_)
    refine J.pu (fun _ _ _ _ k => lv_ddiv X.1.1 X.1.2.1 dX6_sortedPart_35 z35 k) ?_
    exact J.dret (vr := fun t : UInt64 × jM => jrD t.1) (fin := fun r : UInt64 × jM => mH mo A σ r.2) (t := t) X hr (by rfl) (by rfl) dX6_sortedPart_36
noncomputable def X6_load (n : Nat) (M : jM) : Option (UInt32 × jM) :=
  (X6_inState n (mP M 7 0) 0).bind fun v7 => (mA (mP M 7 0) 0 0).bind fun v16 => jn32 (FP.fdiv (FP.i2f v7) (FP.i2f v16)) fun _ => some ((FP.fdiv (FP.i2f v7) (FP.i2f v16)), (mP M 7 0))
set_option maxHeartbeats 4000000 in
set_option maxRecDepth 100000 in
theorem ct_X6_load (l : Launch) {G : jG} {mo : Nat} {A : Nat → Nat} (hm : mOK G mo A) (σ : jH) (n : Nat) (M : jM) : jCt l G yX6_load (ws_ yX6_load cX6_load 1 (some .float)) 2 45 jrF [.ref mo] (mH mo A σ M) (mup mo A σ (X6_load n M)) := by
  refine jCt.wm (lv := [(0, .ref mo)]) (plainFor_of_name (by decide)) (Nat.le_of_ble_eq_true rfl) rfl ?_
  intro t p e s m args below meth c ls X hr hnm hl
  have X : jCx p c cX6_load 1 s m args RX6 G meth := X
  unfold X6_load
  refine J.pu (fun _ _ _ _ k => lv_aload_n X.1.1 X.1.2.1 dX6_load_0 rfl (lv_at hl 0 rfl) k) ?_
  refine J.pu (fun _ _ _ _ k => lv_iconst (v := 0) X.1.1 X.1.2.1 dX6_load_1 (by decide) k) ?_
  refine J.mpS (k := 7) X hm (by decide) q2737 rfl rfl rfl dX6_load_2 ?_
  refine J.pu (fun _ _ _ _ k => lv_aload_n X.1.1 X.1.2.1 dX6_load_5 rfl (lv_at hl 0 rfl) k) ?_
  refine J.pu (fun _ _ _ _ k => lv_iconst (v := 0) X.1.1 X.1.2.1 dX6_load_6 (by decide) k) ?_
  refine J.bind (fun v7 h7 => ?_)
  refine J.cV (q := (RX6, TX6, 26)) (ci := 5) (As := [.int 0]) (rest := []) (s2 := [.int v7]) X ⟨rfl, rfl⟩ (ct_X6_inState l hm σ n (mP M 7 0) 0) (jrd_of h7) (fun _ _ => cwV 1 X.1.2.2.2.2 (lw_V q2984 q2986 qs93 q174 q2987) rfl rfl rfl (by decide +kernel) ⟨(Nat.le_of_ble_eq_true rfl), (Nat.le_of_ble_eq_true rfl)⟩) mH_rc rfl rfl hl.1 rfl rfl (Nat.le_of_ble_eq_true rfl) dX6_load_7 ?_
  refine J.pu (fun _ _ _ _ k => lv_i2f X.1.1 X.1.2.1 dX6_load_10 k) ?_
  refine J.pu (fun _ _ _ _ k => lv_aload_n X.1.1 X.1.2.1 dX6_load_11 rfl (lv_at hl 0 rfl) k) ?_
  refine J.mgA (k := 0) X (by decide) q2730 rfl rfl dX6_load_12 ?_
  refine J.pu (fun _ _ _ _ k => lv_iconst (v := 0) X.1.1 X.1.2.1 dX6_load_15 (by decide) k) ?_
  refine J.mld X hm (by decide) dX6_load_16 (fun v16 h16 => ?_)
  refine J.pu (fun _ _ _ _ k => lv_i2f X.1.1 X.1.2.1 dX6_load_17 k) ?_
  refine J.n32 (fun z18 => ?_)
  refine J.pu (fun _ _ _ _ k => lv_fdiv X.1.1 X.1.2.1 dX6_load_18 z18 k) ?_
  exact J.fret (vr := fun t : UInt32 × jM => jrF t.1) (fin := fun r : UInt32 × jM => mH mo A σ r.2) (t := t) X hr (by rfl) (by rfl) dX6_load_19
noncomputable def X6_put_j48 (n : Nat) (a1 : Int32) (a2 : Int32) (s1_48 : Int32) (B48 : jM) : Option (Int32 × jM) :=
  bd (X6_fails n B48 s1_48 3) fun v49 M49 => if v49 = 0 then (bd (X6_remembers n M49) fun v58 M58 => bd (X6_comes n M58 a1 a2) fun v64 M64 => some (v64, M64)) else (some (0, M49))
noncomputable def X6_put_j28 (n : Nat) (a1 : Int32) (a2 : Int32) (s1_28 : Int32) (B28 : jM) : Option (Int32 × jM) :=
  bd (X6_fails n B28 s1_28 2) fun v29 M29 => if v29 = 0 then ((X6_barsPut n M29).bind fun v37 => if v37 = 0 then (X6_put_j48 n a1 a2 0 M29) else (X6_put_j48 n a1 a2 1 M29)) else (some (0, M29))
noncomputable def X6_put (n : Nat) (M : jM) (a1 : Int32) (a2 : Int32) : Option (Int32 × jM) :=
  bd (X6_noChute n (mP M 7 0) a1) fun v7 M7 => if v7 = 0 then ((X6_inRange n M7 a2 0 5).bind fun v17 => if v17 = 0 then (X6_put_j28 n a1 a2 1 M7) else (X6_put_j28 n a1 a2 0 M7)) else (some (0, M7))
set_option maxHeartbeats 4000000 in
set_option maxRecDepth 100000 in
theorem ct_X6_put (l : Launch) {G : jG} {mo : Nat} {A : Nat → Nat} (hm : mOK G mo A) (σ : jH) (n : Nat) (M : jM) (a1 : Int32) (a2 : Int32) : jCt l G yX6_put (ws_ yX6_put cX6_put 3 (some .int)) 4 85 jrI [.ref mo, .int a1, .int a2] (mH mo A σ M) (mup mo A σ (X6_put n M a1 a2)) := by
  refine jCt.wm (lv := [(0, .ref mo), (1, .int a1), (2, .int a2)]) (plainFor_of_name (by decide)) (Nat.le_of_ble_eq_true rfl) rfl ?_
  intro t p e s m args below meth c ls X hr hnm hl
  have X : jCx p c cX6_put 3 s m args RX6 G meth := X
  have j48 : ∀ (s1_48 : Int32) (B48 : jM) (ls : Array Slot), lv_has ls 3 [(0, .ref mo), (1, .int a1), (2, .int a2)] → jGo l G 4 85 (mH mo A σ M) (fun r : Int32 × jM => mH mo A σ r.2) (fun t => jrI t.1) t p e s m args below meth c (X6_put_j48 n a1 a2 s1_48 B48) (mH mo A σ B48) (F0 m 48 ls [.int s1_48, .ref mo]) := by
    intro s1_48 B48 ls hl
    unfold X6_put_j48
    refine J.pu (fun _ _ _ _ k => lv_iconst (v := 3) X.1.1 X.1.2.1 dX6_put_48 (by decide) k) ?_
    refine J.bd' (fun v49 M49 h49 => ?_)
    refine J.cV (q := (RX6, TX6, 26)) (ci := 5) (As := [.int s1_48, .int 3]) (rest := []) (s2 := [.int v49]) X ⟨rfl, rfl⟩ (ct_X6_fails l hm σ n B48 s1_48 3) (mup_of h49) (fun _ _ => cwV 2 X.1.2.2.2.2 (lw_V q3075 q3077 qs111 q174 q3078) rfl rfl rfl (by decide +kernel) ⟨(Nat.le_of_ble_eq_true rfl), (Nat.le_of_ble_eq_true rfl)⟩) mH_rc rfl rfl hl.1 rfl rfl (Nat.le_of_ble_eq_true rfl) dX6_put_49 ?_
    refine J.br (fun _ _ _ _ ka kb => lv_if_eq (tgt := 57) X.1.1 X.1.2.1 dX6_put_52 (by decide) ka kb) (fun c52 => ?_) (fun c52 => ?_)
    · refine J.pu (fun _ _ _ _ k => lv_aload_n X.1.1 X.1.2.1 dX6_put_57 rfl (lv_at hl 0 rfl) k) ?_
      refine J.bd' (fun v58 M58 h58 => ?_)
      refine J.cV (q := (RX6, TX6, 26)) (ci := 5) (As := []) (rest := []) (s2 := []) X ⟨rfl, rfl⟩ (ct_X6_remembers l hm σ n M49) (mup_of h58) (fun _ _ => cwV 0 X.1.2.2.2.2 (lw_V q2944 q2946 qs83 q174 q2947) rfl rfl rfl (by decide +kernel) ⟨(Nat.le_of_ble_eq_true rfl), (Nat.le_of_ble_eq_true rfl)⟩) mH_rc rfl rfl hl.1 rfl rfl (Nat.le_of_ble_eq_true rfl) dX6_put_58 ?_
      refine J.pu (fun _ _ _ _ k => lv_aload_n X.1.1 X.1.2.1 dX6_put_61 rfl (lv_at hl 0 rfl) k) ?_
      refine J.pu (fun _ _ _ _ k => lv_iload_n X.1.1 X.1.2.1 dX6_put_62 rfl (lv_at hl 1 rfl) k) ?_
      refine J.pu (fun _ _ _ _ k => lv_iload_n X.1.1 X.1.2.1 dX6_put_63 rfl (lv_at hl 2 rfl) k) ?_
      refine J.bd' (fun v64 M64 h64 => ?_)
      refine J.cV (q := (RX6, TX6, 26)) (ci := 5) (As := [.int a1, .int a2]) (rest := []) (s2 := [.int v64]) X ⟨rfl, rfl⟩ (ct_X6_comes l hm σ n M58 a1 a2) (mup_of h64) (fun _ _ => cwV 2 X.1.2.2.2.2 (lw_V q2968 q2970 qs89 q174 q2971) rfl rfl rfl (by decide +kernel) ⟨(Nat.le_of_ble_eq_true rfl), (Nat.le_of_ble_eq_true rfl)⟩) mH_rc rfl rfl hl.1 rfl rfl (Nat.le_of_ble_eq_true rfl) dX6_put_64 ?_
      exact J.iret (vr := fun t : Int32 × jM => jrI t.1) (fin := fun r : Int32 × jM => mH mo A σ r.2) (t := t) X hr (by rfl) (by rfl) dX6_put_67
    · refine J.pu (fun _ _ _ _ k => lv_iconst (v := 0) X.1.1 X.1.2.1 dX6_put_55 (by decide) k) ?_
      exact J.iret (vr := fun t : Int32 × jM => jrI t.1) (fin := fun r : Int32 × jM => mH mo A σ r.2) (t := t) X hr (by rfl) (by rfl) dX6_put_56
  have j28 : ∀ (s1_28 : Int32) (B28 : jM) (ls : Array Slot), lv_has ls 3 [(0, .ref mo), (1, .int a1), (2, .int a2)] → jGo l G 4 85 (mH mo A σ M) (fun r : Int32 × jM => mH mo A σ r.2) (fun t => jrI t.1) t p e s m args below meth c (X6_put_j28 n a1 a2 s1_28 B28) (mH mo A σ B28) (F0 m 28 ls [.int s1_28, .ref mo]) := by
    intro s1_28 B28 ls hl
    unfold X6_put_j28
    refine J.pu (fun _ _ _ _ k => lv_iconst (v := 2) X.1.1 X.1.2.1 dX6_put_28 (by decide) k) ?_
    refine J.bd' (fun v29 M29 h29 => ?_)
    refine J.cV (q := (RX6, TX6, 26)) (ci := 5) (As := [.int s1_28, .int 2]) (rest := []) (s2 := [.int v29]) X ⟨rfl, rfl⟩ (ct_X6_fails l hm σ n B28 s1_28 2) (mup_of h29) (fun _ _ => cwV 2 X.1.2.2.2.2 (lw_V q3075 q3077 qs111 q174 q3078) rfl rfl rfl (by decide +kernel) ⟨(Nat.le_of_ble_eq_true rfl), (Nat.le_of_ble_eq_true rfl)⟩) mH_rc rfl rfl hl.1 rfl rfl (Nat.le_of_ble_eq_true rfl) dX6_put_29 ?_
    refine J.br (fun _ _ _ _ ka kb => lv_if_ne (tgt := 55) X.1.1 X.1.2.1 dX6_put_32 (by decide) kb ka) (fun c32 => ?_) (fun c32 => ?_)
    · refine J.pu (fun _ _ _ _ k => lv_aload_n X.1.1 X.1.2.1 dX6_put_35 rfl (lv_at hl 0 rfl) k) ?_
      refine J.pu (fun _ _ _ _ k => lv_aload_n X.1.1 X.1.2.1 dX6_put_36 rfl (lv_at hl 0 rfl) k) ?_
      refine J.bind (fun v37 h37 => ?_)
      refine J.cV (q := (RX6, TX6, 26)) (ci := 5) (As := []) (rest := [.ref mo]) (s2 := [.int v37, .ref mo]) X ⟨rfl, rfl⟩ (ct_X6_barsPut l hm σ n M29) (jrd_of h37) (fun _ _ => cwV 0 X.1.2.2.2.2 (lw_V q2952 q2954 qs85 q174 q2955) rfl rfl rfl (by decide +kernel) ⟨(Nat.le_of_ble_eq_true rfl), (Nat.le_of_ble_eq_true rfl)⟩) mH_rc rfl rfl hl.1 rfl rfl (Nat.le_of_ble_eq_true rfl) dX6_put_37 ?_
      refine J.br (fun _ _ _ _ ka kb => lv_if_eq (tgt := 47) X.1.1 X.1.2.1 dX6_put_40 (by decide) ka kb) (fun c40 => ?_) (fun c40 => ?_)
      · refine J.pu (fun _ _ _ _ k => lv_iconst (v := 0) X.1.1 X.1.2.1 dX6_put_47 (by decide) k) ?_
        exact j48 0 M29 ls (lv_sub hl [0, 1, 2] rfl)
      · refine J.pu (fun _ _ _ _ k => lv_iconst (v := 1) X.1.1 X.1.2.1 dX6_put_43 (by decide) k) ?_
        refine J.pu (fun _ _ _ _ k => lv_goto (tgt := 48) X.1.1 X.1.2.1 dX6_put_44 (by decide) k) ?_
        exact j48 1 M29 ls (lv_sub hl [0, 1, 2] rfl)
    · refine J.pu (fun _ _ _ _ k => lv_iconst (v := 0) X.1.1 X.1.2.1 dX6_put_55 (by decide) k) ?_
      exact J.iret (vr := fun t : Int32 × jM => jrI t.1) (fin := fun r : Int32 × jM => mH mo A σ r.2) (t := t) X hr (by rfl) (by rfl) dX6_put_56
  unfold X6_put
  refine J.pu (fun _ _ _ _ k => lv_aload_n X.1.1 X.1.2.1 dX6_put_0 rfl (lv_at hl 0 rfl) k) ?_
  refine J.pu (fun _ _ _ _ k => lv_iconst (v := 0) X.1.1 X.1.2.1 dX6_put_1 (by decide) k) ?_
  refine J.mpS (k := 7) X hm (by decide) q2737 rfl rfl rfl dX6_put_2 ?_
  refine J.pu (fun _ _ _ _ k => lv_aload_n X.1.1 X.1.2.1 dX6_put_5 rfl (lv_at hl 0 rfl) k) ?_
  refine J.pu (fun _ _ _ _ k => lv_iload_n X.1.1 X.1.2.1 dX6_put_6 rfl (lv_at hl 1 rfl) k) ?_
  refine J.bd' (fun v7 M7 h7 => ?_)
  refine J.cV (q := (RX6, TX6, 26)) (ci := 5) (As := [.int a1]) (rest := []) (s2 := [.int v7]) X ⟨rfl, rfl⟩ (ct_X6_noChute l hm σ n (mP M 7 0) a1) (mup_of h7) (fun _ _ => cwV 1 X.1.2.2.2.2 (lw_V q3115 q3117 qs117 q174 q3118) rfl rfl rfl (by decide +kernel) ⟨(Nat.le_of_ble_eq_true rfl), (Nat.le_of_ble_eq_true rfl)⟩) mH_rc rfl rfl hl.1 rfl rfl (Nat.le_of_ble_eq_true rfl) dX6_put_7 ?_
  refine J.br (fun _ _ _ _ ka kb => lv_if_ne (tgt := 55) X.1.1 X.1.2.1 dX6_put_10 (by decide) kb ka) (fun c10 => ?_) (fun c10 => ?_)
  · refine J.pu (fun _ _ _ _ k => lv_aload_n X.1.1 X.1.2.1 dX6_put_13 rfl (lv_at hl 0 rfl) k) ?_
    refine J.pu (fun _ _ _ _ k => lv_iload_n X.1.1 X.1.2.1 dX6_put_14 rfl (lv_at hl 2 rfl) k) ?_
    refine J.pu (fun _ _ _ _ k => lv_iconst (v := 0) X.1.1 X.1.2.1 dX6_put_15 (by decide) k) ?_
    refine J.pu (fun _ _ _ _ k => lv_iconst (v := 5) X.1.1 X.1.2.1 dX6_put_16 (by decide) k) ?_
    refine J.bind (fun v17 h17 => ?_)
    refine J.cS (As := [.int a2, .int 0, .int 5]) (rest := [.ref mo]) (s2 := [.int v17, .ref mo]) X ⟨rfl, rfl⟩ (ct_X6_inRange l hm σ n M7 a2 0 5) (jrd_of h17) (fun _ _ => va_cwS 3 X.1.2.2.2.2 (lw_S q2825 q2826 q174 q2827) rfl rfl rfl (by decide +kernel) ⟨(Nat.le_of_ble_eq_true rfl), (Nat.le_of_ble_eq_true rfl)⟩) rfl hl.1 rfl rfl (Nat.le_of_ble_eq_true rfl) dX6_put_17 ?_
    refine J.br (fun _ _ _ _ ka kb => lv_if_ne (tgt := 27) X.1.1 X.1.2.1 dX6_put_20 (by decide) kb ka) (fun c20 => ?_) (fun c20 => ?_)
    · refine J.pu (fun _ _ _ _ k => lv_iconst (v := 1) X.1.1 X.1.2.1 dX6_put_23 (by decide) k) ?_
      refine J.pu (fun _ _ _ _ k => lv_goto (tgt := 28) X.1.1 X.1.2.1 dX6_put_24 (by decide) k) ?_
      exact j28 1 M7 ls (lv_sub hl [0, 1, 2] rfl)
    · refine J.pu (fun _ _ _ _ k => lv_iconst (v := 0) X.1.1 X.1.2.1 dX6_put_27 (by decide) k) ?_
      exact j28 0 M7 ls (lv_sub hl [0, 1, 2] rfl)
  · refine J.pu (fun _ _ _ _ k => lv_iconst (v := 0) X.1.1 X.1.2.1 dX6_put_55 (by decide) k) ?_
    exact J.iret (vr := fun t : Int32 × jM => jrI t.1) (fin := fun r : Int32 × jM => mH mo A σ r.2) (t := t) X hr (by rfl) (by rfl) dX6_put_56
noncomputable def X6_tick_j49 (n : Nat) (a1 : Int32) (s1_49 : Int32) (B49 : jM) : Option (Int32 × jM) :=
  bd (X6_fails n B49 s1_49 2) fun v50 M50 => if v50 = 0 then (bd (X6_remembers n M50) fun v59 M59 => bd (X6_ticksMany n M59 a1) fun v64 M64 => some (v64, M64)) else (some (0, M50))
noncomputable def X6_tick_j22 (n : Nat) (a1 : Int32) (s1_22 : Int32) (B22 : jM) : Option (Int32 × jM) :=
  bd (X6_fails n B22 s1_22 1) fun v23 M23 => if v23 = 0 then ((mA M23 0 5).bind fun v35 => if (v35 + a1) ≤ 9999 then (X6_tick_j49 n a1 0 M23) else (X6_tick_j49 n a1 1 M23)) else (some (0, M23))
noncomputable def X6_tick (n : Nat) (M : jM) (a1 : Int32) : Option (Int32 × jM) :=
  (X6_inRange n (mP M 7 0) a1 1 500).bind fun v11 => if v11 = 0 then (X6_tick_j22 n a1 1 (mP M 7 0)) else (X6_tick_j22 n a1 0 (mP M 7 0))
set_option maxHeartbeats 4000000 in
set_option maxRecDepth 100000 in
theorem ct_X6_tick (l : Launch) {G : jG} {mo : Nat} {A : Nat → Nat} (hm : mOK G mo A) (σ : jH) (n : Nat) (M : jM) (a1 : Int32) : jCt l G yX6_tick (ws_ yX6_tick cX6_tick 2 (some .int)) 7 157 jrI [.ref mo, .int a1] (mH mo A σ M) (mup mo A σ (X6_tick n M a1)) := by
  refine jCt.wm (lv := [(0, .ref mo), (1, .int a1)]) (plainFor_of_name (by decide)) (Nat.le_of_ble_eq_true rfl) rfl ?_
  intro t p e s m args below meth c ls X hr hnm hl
  have X : jCx p c cX6_tick 2 s m args RX6 G meth := X
  have j49 : ∀ (s1_49 : Int32) (B49 : jM) (ls : Array Slot), lv_has ls 2 [(0, .ref mo), (1, .int a1)] → jGo l G 7 157 (mH mo A σ M) (fun r : Int32 × jM => mH mo A σ r.2) (fun t => jrI t.1) t p e s m args below meth c (X6_tick_j49 n a1 s1_49 B49) (mH mo A σ B49) (F0 m 49 ls [.int s1_49, .ref mo]) := by
    intro s1_49 B49 ls hl
    unfold X6_tick_j49
    refine J.pu (fun _ _ _ _ k => lv_iconst (v := 2) X.1.1 X.1.2.1 dX6_tick_49 (by decide) k) ?_
    refine J.bd' (fun v50 M50 h50 => ?_)
    refine J.cV (q := (RX6, TX6, 26)) (ci := 5) (As := [.int s1_49, .int 2]) (rest := []) (s2 := [.int v50]) X ⟨rfl, rfl⟩ (ct_X6_fails l hm σ n B49 s1_49 2) (mup_of h50) (fun _ _ => cwV 2 X.1.2.2.2.2 (lw_V q3075 q3077 qs111 q174 q3078) rfl rfl rfl (by decide +kernel) ⟨(Nat.le_of_ble_eq_true rfl), (Nat.le_of_ble_eq_true rfl)⟩) mH_rc rfl rfl hl.1 rfl rfl (Nat.le_of_ble_eq_true rfl) dX6_tick_50 ?_
    refine J.br (fun _ _ _ _ ka kb => lv_if_eq (tgt := 58) X.1.1 X.1.2.1 dX6_tick_53 (by decide) ka kb) (fun c53 => ?_) (fun c53 => ?_)
    · refine J.pu (fun _ _ _ _ k => lv_aload_n X.1.1 X.1.2.1 dX6_tick_58 rfl (lv_at hl 0 rfl) k) ?_
      refine J.bd' (fun v59 M59 h59 => ?_)
      refine J.cV (q := (RX6, TX6, 26)) (ci := 5) (As := []) (rest := []) (s2 := []) X ⟨rfl, rfl⟩ (ct_X6_remembers l hm σ n M50) (mup_of h59) (fun _ _ => cwV 0 X.1.2.2.2.2 (lw_V q2944 q2946 qs83 q174 q2947) rfl rfl rfl (by decide +kernel) ⟨(Nat.le_of_ble_eq_true rfl), (Nat.le_of_ble_eq_true rfl)⟩) mH_rc rfl rfl hl.1 rfl rfl (Nat.le_of_ble_eq_true rfl) dX6_tick_59 ?_
      refine J.pu (fun _ _ _ _ k => lv_aload_n X.1.1 X.1.2.1 dX6_tick_62 rfl (lv_at hl 0 rfl) k) ?_
      refine J.pu (fun _ _ _ _ k => lv_iload_n X.1.1 X.1.2.1 dX6_tick_63 rfl (lv_at hl 1 rfl) k) ?_
      refine J.bd' (fun v64 M64 h64 => ?_)
      refine J.cV (q := (RX6, TX6, 26)) (ci := 5) (As := [.int a1]) (rest := []) (s2 := [.int v64]) X ⟨rfl, rfl⟩ (ct_X6_ticksMany l hm σ n M59 a1) (mup_of h64) (fun _ _ => cwV 1 X.1.2.2.2.2 (lw_V q2980 q2982 qs92 q174 q2983) rfl rfl rfl (by decide +kernel) ⟨(Nat.le_of_ble_eq_true rfl), (Nat.le_of_ble_eq_true rfl)⟩) mH_rc rfl rfl hl.1 rfl rfl (Nat.le_of_ble_eq_true rfl) dX6_tick_64 ?_
      exact J.iret (vr := fun t : Int32 × jM => jrI t.1) (fin := fun r : Int32 × jM => mH mo A σ r.2) (t := t) X hr (by rfl) (by rfl) dX6_tick_67
    · refine J.pu (fun _ _ _ _ k => lv_iconst (v := 0) X.1.1 X.1.2.1 dX6_tick_56 (by decide) k) ?_
      exact J.iret (vr := fun t : Int32 × jM => jrI t.1) (fin := fun r : Int32 × jM => mH mo A σ r.2) (t := t) X hr (by rfl) (by rfl) dX6_tick_57
  have j22 : ∀ (s1_22 : Int32) (B22 : jM) (ls : Array Slot), lv_has ls 2 [(0, .ref mo), (1, .int a1)] → jGo l G 7 157 (mH mo A σ M) (fun r : Int32 × jM => mH mo A σ r.2) (fun t => jrI t.1) t p e s m args below meth c (X6_tick_j22 n a1 s1_22 B22) (mH mo A σ B22) (F0 m 22 ls [.int s1_22, .ref mo]) := by
    intro s1_22 B22 ls hl
    unfold X6_tick_j22
    refine J.pu (fun _ _ _ _ k => lv_iconst (v := 1) X.1.1 X.1.2.1 dX6_tick_22 (by decide) k) ?_
    refine J.bd' (fun v23 M23 h23 => ?_)
    refine J.cV (q := (RX6, TX6, 26)) (ci := 5) (As := [.int s1_22, .int 1]) (rest := []) (s2 := [.int v23]) X ⟨rfl, rfl⟩ (ct_X6_fails l hm σ n B22 s1_22 1) (mup_of h23) (fun _ _ => cwV 2 X.1.2.2.2.2 (lw_V q3075 q3077 qs111 q174 q3078) rfl rfl rfl (by decide +kernel) ⟨(Nat.le_of_ble_eq_true rfl), (Nat.le_of_ble_eq_true rfl)⟩) mH_rc rfl rfl hl.1 rfl rfl (Nat.le_of_ble_eq_true rfl) dX6_tick_23 ?_
    refine J.br (fun _ _ _ _ ka kb => lv_if_ne (tgt := 56) X.1.1 X.1.2.1 dX6_tick_26 (by decide) kb ka) (fun c26 => ?_) (fun c26 => ?_)
    · refine J.pu (fun _ _ _ _ k => lv_aload_n X.1.1 X.1.2.1 dX6_tick_29 rfl (lv_at hl 0 rfl) k) ?_
      refine J.pu (fun _ _ _ _ k => lv_aload_n X.1.1 X.1.2.1 dX6_tick_30 rfl (lv_at hl 0 rfl) k) ?_
      refine J.mgA (k := 0) X (by decide) q2730 rfl rfl dX6_tick_31 ?_
      refine J.pu (fun _ _ _ _ k => lv_iconst (v := 5) X.1.1 X.1.2.1 dX6_tick_34 (by decide) k) ?_
      refine J.mld X hm (by decide) dX6_tick_35 (fun v35 h35 => ?_)
      refine J.pu (fun _ _ _ _ k => lv_iload_n X.1.1 X.1.2.1 dX6_tick_36 rfl (lv_at hl 1 rfl) k) ?_
      refine J.pu (fun _ _ _ _ k => lv_iadd X.1.1 X.1.2.1 dX6_tick_37 k) ?_
      refine J.pu (fun _ _ _ _ k => lv_sipush (v := 9999) X.1.1 X.1.2.1 dX6_tick_38 (by decide) k) ?_
      refine J.br (fun _ _ _ _ ka kb => lv_icmp_le (tgt := 48) X.1.1 X.1.2.1 dX6_tick_41 (by decide) ka kb) (fun c41 => ?_) (fun c41 => ?_)
      · refine J.pu (fun _ _ _ _ k => lv_iconst (v := 0) X.1.1 X.1.2.1 dX6_tick_48 (by decide) k) ?_
        exact j49 0 M23 ls (lv_sub hl [0, 1] rfl)
      · refine J.pu (fun _ _ _ _ k => lv_iconst (v := 1) X.1.1 X.1.2.1 dX6_tick_44 (by decide) k) ?_
        refine J.pu (fun _ _ _ _ k => lv_goto (tgt := 49) X.1.1 X.1.2.1 dX6_tick_45 (by decide) k) ?_
        exact j49 1 M23 ls (lv_sub hl [0, 1] rfl)
    · refine J.pu (fun _ _ _ _ k => lv_iconst (v := 0) X.1.1 X.1.2.1 dX6_tick_56 (by decide) k) ?_
      exact J.iret (vr := fun t : Int32 × jM => jrI t.1) (fin := fun r : Int32 × jM => mH mo A σ r.2) (t := t) X hr (by rfl) (by rfl) dX6_tick_57
  unfold X6_tick
  refine J.pu (fun _ _ _ _ k => lv_aload_n X.1.1 X.1.2.1 dX6_tick_0 rfl (lv_at hl 0 rfl) k) ?_
  refine J.pu (fun _ _ _ _ k => lv_iconst (v := 0) X.1.1 X.1.2.1 dX6_tick_1 (by decide) k) ?_
  refine J.mpS (k := 7) X hm (by decide) q2737 rfl rfl rfl dX6_tick_2 ?_
  refine J.pu (fun _ _ _ _ k => lv_aload_n X.1.1 X.1.2.1 dX6_tick_5 rfl (lv_at hl 0 rfl) k) ?_
  refine J.pu (fun _ _ _ _ k => lv_iload_n X.1.1 X.1.2.1 dX6_tick_6 rfl (lv_at hl 1 rfl) k) ?_
  refine J.pu (fun _ _ _ _ k => lv_iconst (v := 1) X.1.1 X.1.2.1 dX6_tick_7 (by decide) k) ?_
  refine J.pu (fun _ _ _ _ k => lv_sipush (v := 500) X.1.1 X.1.2.1 dX6_tick_8 (by decide) k) ?_
  refine J.bind (fun v11 h11 => ?_)
  refine J.cS (As := [.int a1, .int 1, .int 500]) (rest := [.ref mo]) (s2 := [.int v11, .ref mo]) X ⟨rfl, rfl⟩ (ct_X6_inRange l hm σ n (mP M 7 0) a1 1 500) (jrd_of h11) (fun _ _ => va_cwS 3 X.1.2.2.2.2 (lw_S q2825 q2826 q174 q2827) rfl rfl rfl (by decide +kernel) ⟨(Nat.le_of_ble_eq_true rfl), (Nat.le_of_ble_eq_true rfl)⟩) rfl hl.1 rfl rfl (Nat.le_of_ble_eq_true rfl) dX6_tick_11 ?_
  refine J.br (fun _ _ _ _ ka kb => lv_if_ne (tgt := 21) X.1.1 X.1.2.1 dX6_tick_14 (by decide) kb ka) (fun c14 => ?_) (fun c14 => ?_)
  · refine J.pu (fun _ _ _ _ k => lv_iconst (v := 1) X.1.1 X.1.2.1 dX6_tick_17 (by decide) k) ?_
    refine J.pu (fun _ _ _ _ k => lv_goto (tgt := 22) X.1.1 X.1.2.1 dX6_tick_18 (by decide) k) ?_
    exact j22 1 (mP M 7 0) ls (lv_sub hl [0, 1] rfl)
  · refine J.pu (fun _ _ _ _ k => lv_iconst (v := 0) X.1.1 X.1.2.1 dX6_tick_21 (by decide) k) ?_
    exact j22 0 (mP M 7 0) ls (lv_sub hl [0, 1] rfl)
noncomputable def X6_slip_j27 (n : Nat) (a1 : Int32) (s1_27 : Int32) (B27 : jM) : Option (Int32 × jM) :=
  bd (X6_fails n B27 s1_27 2) fun v28 M28 => if v28 = 0 then (bd (X6_remembers n M28) fun v37 M37 => bd (X6_slips n M37 a1) fun v42 M42 => some (v42, M42)) else (some (0, M28))
noncomputable def X6_slip (n : Nat) (M : jM) (a1 : Int32) : Option (Int32 × jM) :=
  bd (X6_noParcel n (mP M 7 0) a1) fun v7 M7 => if v7 = 0 then ((X6_barsSlip n M7 a1).bind fun v16 => if v16 = 0 then (X6_slip_j27 n a1 0 M7) else (X6_slip_j27 n a1 1 M7)) else (some (0, M7))
set_option maxHeartbeats 4000000 in
set_option maxRecDepth 100000 in
theorem ct_X6_slip (l : Launch) {G : jG} {mo : Nat} {A : Nat → Nat} (hm : mOK G mo A) (σ : jH) (n : Nat) (M : jM) (a1 : Int32) : jCt l G yX6_slip (ws_ yX6_slip cX6_slip 2 (some .int)) 4 86 jrI [.ref mo, .int a1] (mH mo A σ M) (mup mo A σ (X6_slip n M a1)) := by
  refine jCt.wm (lv := [(0, .ref mo), (1, .int a1)]) (plainFor_of_name (by decide)) (Nat.le_of_ble_eq_true rfl) rfl ?_
  intro t p e s m args below meth c ls X hr hnm hl
  have X : jCx p c cX6_slip 2 s m args RX6 G meth := X
  have j27 : ∀ (s1_27 : Int32) (B27 : jM) (ls : Array Slot), lv_has ls 2 [(0, .ref mo), (1, .int a1)] → jGo l G 4 86 (mH mo A σ M) (fun r : Int32 × jM => mH mo A σ r.2) (fun t => jrI t.1) t p e s m args below meth c (X6_slip_j27 n a1 s1_27 B27) (mH mo A σ B27) (F0 m 27 ls [.int s1_27, .ref mo]) := by
    intro s1_27 B27 ls hl
    unfold X6_slip_j27
    refine J.pu (fun _ _ _ _ k => lv_iconst (v := 2) X.1.1 X.1.2.1 dX6_slip_27 (by decide) k) ?_
    refine J.bd' (fun v28 M28 h28 => ?_)
    refine J.cV (q := (RX6, TX6, 26)) (ci := 5) (As := [.int s1_27, .int 2]) (rest := []) (s2 := [.int v28]) X ⟨rfl, rfl⟩ (ct_X6_fails l hm σ n B27 s1_27 2) (mup_of h28) (fun _ _ => cwV 2 X.1.2.2.2.2 (lw_V q3075 q3077 qs111 q174 q3078) rfl rfl rfl (by decide +kernel) ⟨(Nat.le_of_ble_eq_true rfl), (Nat.le_of_ble_eq_true rfl)⟩) mH_rc rfl rfl hl.1 rfl rfl (Nat.le_of_ble_eq_true rfl) dX6_slip_28 ?_
    refine J.br (fun _ _ _ _ ka kb => lv_if_eq (tgt := 36) X.1.1 X.1.2.1 dX6_slip_31 (by decide) ka kb) (fun c31 => ?_) (fun c31 => ?_)
    · refine J.pu (fun _ _ _ _ k => lv_aload_n X.1.1 X.1.2.1 dX6_slip_36 rfl (lv_at hl 0 rfl) k) ?_
      refine J.bd' (fun v37 M37 h37 => ?_)
      refine J.cV (q := (RX6, TX6, 26)) (ci := 5) (As := []) (rest := []) (s2 := []) X ⟨rfl, rfl⟩ (ct_X6_remembers l hm σ n M28) (mup_of h37) (fun _ _ => cwV 0 X.1.2.2.2.2 (lw_V q2944 q2946 qs83 q174 q2947) rfl rfl rfl (by decide +kernel) ⟨(Nat.le_of_ble_eq_true rfl), (Nat.le_of_ble_eq_true rfl)⟩) mH_rc rfl rfl hl.1 rfl rfl (Nat.le_of_ble_eq_true rfl) dX6_slip_37 ?_
      refine J.pu (fun _ _ _ _ k => lv_aload_n X.1.1 X.1.2.1 dX6_slip_40 rfl (lv_at hl 0 rfl) k) ?_
      refine J.pu (fun _ _ _ _ k => lv_iload_n X.1.1 X.1.2.1 dX6_slip_41 rfl (lv_at hl 1 rfl) k) ?_
      refine J.bd' (fun v42 M42 h42 => ?_)
      refine J.cV (q := (RX6, TX6, 26)) (ci := 5) (As := [.int a1]) (rest := []) (s2 := [.int v42]) X ⟨rfl, rfl⟩ (ct_X6_slips l hm σ n M37 a1) (mup_of h42) (fun _ _ => cwV 1 X.1.2.2.2.2 (lw_V q3047 q3049 qs107 q174 q3050) rfl rfl rfl (by decide +kernel) ⟨(Nat.le_of_ble_eq_true rfl), (Nat.le_of_ble_eq_true rfl)⟩) mH_rc rfl rfl hl.1 rfl rfl (Nat.le_of_ble_eq_true rfl) dX6_slip_42 ?_
      exact J.iret (vr := fun t : Int32 × jM => jrI t.1) (fin := fun r : Int32 × jM => mH mo A σ r.2) (t := t) X hr (by rfl) (by rfl) dX6_slip_45
    · refine J.pu (fun _ _ _ _ k => lv_iconst (v := 0) X.1.1 X.1.2.1 dX6_slip_34 (by decide) k) ?_
      exact J.iret (vr := fun t : Int32 × jM => jrI t.1) (fin := fun r : Int32 × jM => mH mo A σ r.2) (t := t) X hr (by rfl) (by rfl) dX6_slip_35
  unfold X6_slip
  refine J.pu (fun _ _ _ _ k => lv_aload_n X.1.1 X.1.2.1 dX6_slip_0 rfl (lv_at hl 0 rfl) k) ?_
  refine J.pu (fun _ _ _ _ k => lv_iconst (v := 0) X.1.1 X.1.2.1 dX6_slip_1 (by decide) k) ?_
  refine J.mpS (k := 7) X hm (by decide) q2737 rfl rfl rfl dX6_slip_2 ?_
  refine J.pu (fun _ _ _ _ k => lv_aload_n X.1.1 X.1.2.1 dX6_slip_5 rfl (lv_at hl 0 rfl) k) ?_
  refine J.pu (fun _ _ _ _ k => lv_iload_n X.1.1 X.1.2.1 dX6_slip_6 rfl (lv_at hl 1 rfl) k) ?_
  refine J.bd' (fun v7 M7 h7 => ?_)
  refine J.cV (q := (RX6, TX6, 26)) (ci := 5) (As := [.int a1]) (rest := []) (s2 := [.int v7]) X ⟨rfl, rfl⟩ (ct_X6_noParcel l hm σ n (mP M 7 0) a1) (mup_of h7) (fun _ _ => cwV 1 X.1.2.2.2.2 (lw_V q3107 q3109 qs116 q174 q3110) rfl rfl rfl (by decide +kernel) ⟨(Nat.le_of_ble_eq_true rfl), (Nat.le_of_ble_eq_true rfl)⟩) mH_rc rfl rfl hl.1 rfl rfl (Nat.le_of_ble_eq_true rfl) dX6_slip_7 ?_
  refine J.br (fun _ _ _ _ ka kb => lv_if_ne (tgt := 34) X.1.1 X.1.2.1 dX6_slip_10 (by decide) kb ka) (fun c10 => ?_) (fun c10 => ?_)
  · refine J.pu (fun _ _ _ _ k => lv_aload_n X.1.1 X.1.2.1 dX6_slip_13 rfl (lv_at hl 0 rfl) k) ?_
    refine J.pu (fun _ _ _ _ k => lv_aload_n X.1.1 X.1.2.1 dX6_slip_14 rfl (lv_at hl 0 rfl) k) ?_
    refine J.pu (fun _ _ _ _ k => lv_iload_n X.1.1 X.1.2.1 dX6_slip_15 rfl (lv_at hl 1 rfl) k) ?_
    refine J.bind (fun v16 h16 => ?_)
    refine J.cV (q := (RX6, TX6, 26)) (ci := 5) (As := [.int a1]) (rest := [.ref mo]) (s2 := [.int v16, .ref mo]) X ⟨rfl, rfl⟩ (ct_X6_barsSlip l hm σ n M7 a1) (jrd_of h16) (fun _ _ => cwV 1 X.1.2.2.2.2 (lw_V q3043 q3045 qs106 q174 q3046) rfl rfl rfl (by decide +kernel) ⟨(Nat.le_of_ble_eq_true rfl), (Nat.le_of_ble_eq_true rfl)⟩) mH_rc rfl rfl hl.1 rfl rfl (Nat.le_of_ble_eq_true rfl) dX6_slip_16 ?_
    refine J.br (fun _ _ _ _ ka kb => lv_if_eq (tgt := 26) X.1.1 X.1.2.1 dX6_slip_19 (by decide) ka kb) (fun c19 => ?_) (fun c19 => ?_)
    · refine J.pu (fun _ _ _ _ k => lv_iconst (v := 0) X.1.1 X.1.2.1 dX6_slip_26 (by decide) k) ?_
      exact j27 0 M7 ls (lv_sub hl [0, 1] rfl)
    · refine J.pu (fun _ _ _ _ k => lv_iconst (v := 1) X.1.1 X.1.2.1 dX6_slip_22 (by decide) k) ?_
      refine J.pu (fun _ _ _ _ k => lv_goto (tgt := 27) X.1.1 X.1.2.1 dX6_slip_23 (by decide) k) ?_
      exact j27 1 M7 ls (lv_sub hl [0, 1] rfl)
  · refine J.pu (fun _ _ _ _ k => lv_iconst (v := 0) X.1.1 X.1.2.1 dX6_slip_34 (by decide) k) ?_
    exact J.iret (vr := fun t : Int32 × jM => jrI t.1) (fin := fun r : Int32 × jM => mH mo A σ r.2) (t := t) X hr (by rfl) (by rfl) dX6_slip_35
noncomputable def X6_empty (n : Nat) (M : jM) (a1 : Int32) : Option (Int32 × jM) :=
  bd (X6_noChute n (mP M 7 0) a1) fun v7 M7 => if v7 = 0 then (bd (X6_remembers n M7) fun v16 M16 => bd (X6_empties n M16 a1) fun v21 M21 => some (v21, M21)) else (some (0, M7))
set_option maxHeartbeats 4000000 in
set_option maxRecDepth 100000 in
theorem ct_X6_empty (l : Launch) {G : jG} {mo : Nat} {A : Nat → Nat} (hm : mOK G mo A) (σ : jH) (n : Nat) (M : jM) (a1 : Int32) : jCt l G yX6_empty (ws_ yX6_empty cX6_empty 2 (some .int)) 2 46 jrI [.ref mo, .int a1] (mH mo A σ M) (mup mo A σ (X6_empty n M a1)) := by
  refine jCt.wm (lv := [(0, .ref mo), (1, .int a1)]) (plainFor_of_name (by decide)) (Nat.le_of_ble_eq_true rfl) rfl ?_
  intro t p e s m args below meth c ls X hr hnm hl
  have X : jCx p c cX6_empty 2 s m args RX6 G meth := X
  unfold X6_empty
  refine J.pu (fun _ _ _ _ k => lv_aload_n X.1.1 X.1.2.1 dX6_empty_0 rfl (lv_at hl 0 rfl) k) ?_
  refine J.pu (fun _ _ _ _ k => lv_iconst (v := 0) X.1.1 X.1.2.1 dX6_empty_1 (by decide) k) ?_
  refine J.mpS (k := 7) X hm (by decide) q2737 rfl rfl rfl dX6_empty_2 ?_
  refine J.pu (fun _ _ _ _ k => lv_aload_n X.1.1 X.1.2.1 dX6_empty_5 rfl (lv_at hl 0 rfl) k) ?_
  refine J.pu (fun _ _ _ _ k => lv_iload_n X.1.1 X.1.2.1 dX6_empty_6 rfl (lv_at hl 1 rfl) k) ?_
  refine J.bd' (fun v7 M7 h7 => ?_)
  refine J.cV (q := (RX6, TX6, 26)) (ci := 5) (As := [.int a1]) (rest := []) (s2 := [.int v7]) X ⟨rfl, rfl⟩ (ct_X6_noChute l hm σ n (mP M 7 0) a1) (mup_of h7) (fun _ _ => cwV 1 X.1.2.2.2.2 (lw_V q3115 q3117 qs117 q174 q3118) rfl rfl rfl (by decide +kernel) ⟨(Nat.le_of_ble_eq_true rfl), (Nat.le_of_ble_eq_true rfl)⟩) mH_rc rfl rfl hl.1 rfl rfl (Nat.le_of_ble_eq_true rfl) dX6_empty_7 ?_
  refine J.br (fun _ _ _ _ ka kb => lv_if_eq (tgt := 15) X.1.1 X.1.2.1 dX6_empty_10 (by decide) ka kb) (fun c10 => ?_) (fun c10 => ?_)
  · refine J.pu (fun _ _ _ _ k => lv_aload_n X.1.1 X.1.2.1 dX6_empty_15 rfl (lv_at hl 0 rfl) k) ?_
    refine J.bd' (fun v16 M16 h16 => ?_)
    refine J.cV (q := (RX6, TX6, 26)) (ci := 5) (As := []) (rest := []) (s2 := []) X ⟨rfl, rfl⟩ (ct_X6_remembers l hm σ n M7) (mup_of h16) (fun _ _ => cwV 0 X.1.2.2.2.2 (lw_V q2944 q2946 qs83 q174 q2947) rfl rfl rfl (by decide +kernel) ⟨(Nat.le_of_ble_eq_true rfl), (Nat.le_of_ble_eq_true rfl)⟩) mH_rc rfl rfl hl.1 rfl rfl (Nat.le_of_ble_eq_true rfl) dX6_empty_16 ?_
    refine J.pu (fun _ _ _ _ k => lv_aload_n X.1.1 X.1.2.1 dX6_empty_19 rfl (lv_at hl 0 rfl) k) ?_
    refine J.pu (fun _ _ _ _ k => lv_iload_n X.1.1 X.1.2.1 dX6_empty_20 rfl (lv_at hl 1 rfl) k) ?_
    refine J.bd' (fun v21 M21 h21 => ?_)
    refine J.cV (q := (RX6, TX6, 26)) (ci := 5) (As := [.int a1]) (rest := []) (s2 := [.int v21]) X ⟨rfl, rfl⟩ (ct_X6_empties l hm σ n M16 a1) (mup_of h21) (fun _ _ => cwV 1 X.1.2.2.2.2 (lw_V q3051 q3053 qs108 q174 q3054) rfl rfl rfl (by decide +kernel) ⟨(Nat.le_of_ble_eq_true rfl), (Nat.le_of_ble_eq_true rfl)⟩) mH_rc rfl rfl hl.1 rfl rfl (Nat.le_of_ble_eq_true rfl) dX6_empty_21 ?_
    exact J.iret (vr := fun t : Int32 × jM => jrI t.1) (fin := fun r : Int32 × jM => mH mo A σ r.2) (t := t) X hr (by rfl) (by rfl) dX6_empty_24
  · refine J.pu (fun _ _ _ _ k => lv_iconst (v := 0) X.1.1 X.1.2.1 dX6_empty_13 (by decide) k) ?_
    exact J.iret (vr := fun t : Int32 × jM => jrI t.1) (fin := fun r : Int32 × jM => mH mo A σ r.2) (t := t) X hr (by rfl) (by rfl) dX6_empty_14
noncomputable def X6_shut (n : Nat) (M : jM) (a1 : Int32) (a2 : Int32) : Option (Int32 × jM) :=
  bd (X6_noChute n (mP M 7 0) a1) fun v7 M7 => if v7 = 0 then (bd (X6_remembers n M7) fun v16 M16 => (X6_one n M16 a2).bind fun v22 => bd (X6_opens n M16 a1 v22) fun v25 M25 => some (v25, M25)) else (some (0, M7))
set_option maxHeartbeats 4000000 in
set_option maxRecDepth 100000 in
theorem ct_X6_shut (l : Launch) {G : jG} {mo : Nat} {A : Nat → Nat} (hm : mOK G mo A) (σ : jH) (n : Nat) (M : jM) (a1 : Int32) (a2 : Int32) : jCt l G yX6_shut (ws_ yX6_shut cX6_shut 3 (some .int)) 2 46 jrI [.ref mo, .int a1, .int a2] (mH mo A σ M) (mup mo A σ (X6_shut n M a1 a2)) := by
  refine jCt.wm (lv := [(0, .ref mo), (1, .int a1), (2, .int a2)]) (plainFor_of_name (by decide)) (Nat.le_of_ble_eq_true rfl) rfl ?_
  intro t p e s m args below meth c ls X hr hnm hl
  have X : jCx p c cX6_shut 3 s m args RX6 G meth := X
  unfold X6_shut
  refine J.pu (fun _ _ _ _ k => lv_aload_n X.1.1 X.1.2.1 dX6_shut_0 rfl (lv_at hl 0 rfl) k) ?_
  refine J.pu (fun _ _ _ _ k => lv_iconst (v := 0) X.1.1 X.1.2.1 dX6_shut_1 (by decide) k) ?_
  refine J.mpS (k := 7) X hm (by decide) q2737 rfl rfl rfl dX6_shut_2 ?_
  refine J.pu (fun _ _ _ _ k => lv_aload_n X.1.1 X.1.2.1 dX6_shut_5 rfl (lv_at hl 0 rfl) k) ?_
  refine J.pu (fun _ _ _ _ k => lv_iload_n X.1.1 X.1.2.1 dX6_shut_6 rfl (lv_at hl 1 rfl) k) ?_
  refine J.bd' (fun v7 M7 h7 => ?_)
  refine J.cV (q := (RX6, TX6, 26)) (ci := 5) (As := [.int a1]) (rest := []) (s2 := [.int v7]) X ⟨rfl, rfl⟩ (ct_X6_noChute l hm σ n (mP M 7 0) a1) (mup_of h7) (fun _ _ => cwV 1 X.1.2.2.2.2 (lw_V q3115 q3117 qs117 q174 q3118) rfl rfl rfl (by decide +kernel) ⟨(Nat.le_of_ble_eq_true rfl), (Nat.le_of_ble_eq_true rfl)⟩) mH_rc rfl rfl hl.1 rfl rfl (Nat.le_of_ble_eq_true rfl) dX6_shut_7 ?_
  refine J.br (fun _ _ _ _ ka kb => lv_if_eq (tgt := 15) X.1.1 X.1.2.1 dX6_shut_10 (by decide) ka kb) (fun c10 => ?_) (fun c10 => ?_)
  · refine J.pu (fun _ _ _ _ k => lv_aload_n X.1.1 X.1.2.1 dX6_shut_15 rfl (lv_at hl 0 rfl) k) ?_
    refine J.bd' (fun v16 M16 h16 => ?_)
    refine J.cV (q := (RX6, TX6, 26)) (ci := 5) (As := []) (rest := []) (s2 := []) X ⟨rfl, rfl⟩ (ct_X6_remembers l hm σ n M7) (mup_of h16) (fun _ _ => cwV 0 X.1.2.2.2.2 (lw_V q2944 q2946 qs83 q174 q2947) rfl rfl rfl (by decide +kernel) ⟨(Nat.le_of_ble_eq_true rfl), (Nat.le_of_ble_eq_true rfl)⟩) mH_rc rfl rfl hl.1 rfl rfl (Nat.le_of_ble_eq_true rfl) dX6_shut_16 ?_
    refine J.pu (fun _ _ _ _ k => lv_aload_n X.1.1 X.1.2.1 dX6_shut_19 rfl (lv_at hl 0 rfl) k) ?_
    refine J.pu (fun _ _ _ _ k => lv_iload_n X.1.1 X.1.2.1 dX6_shut_20 rfl (lv_at hl 1 rfl) k) ?_
    refine J.pu (fun _ _ _ _ k => lv_iload_n X.1.1 X.1.2.1 dX6_shut_21 rfl (lv_at hl 2 rfl) k) ?_
    refine J.bind (fun v22 h22 => ?_)
    refine J.cS (As := [.int a2]) (rest := [.int a1, .ref mo]) (s2 := [.int v22, .int a1, .ref mo]) X ⟨rfl, rfl⟩ (ct_X6_one l hm σ n M16 a2) (jrd_of h22) (fun _ _ => va_cwS 1 X.1.2.2.2.2 (lw_S q2988 q2989 q174 q2990) rfl rfl rfl (by decide +kernel) ⟨(Nat.le_of_ble_eq_true rfl), (Nat.le_of_ble_eq_true rfl)⟩) rfl hl.1 rfl rfl (Nat.le_of_ble_eq_true rfl) dX6_shut_22 ?_
    refine J.bd' (fun v25 M25 h25 => ?_)
    refine J.cV (q := (RX6, TX6, 26)) (ci := 5) (As := [.int a1, .int v22]) (rest := []) (s2 := [.int v25]) X ⟨rfl, rfl⟩ (ct_X6_opens l hm σ n M16 a1 v22) (mup_of h25) (fun _ _ => cwV 2 X.1.2.2.2.2 (lw_V q3055 q3057 qs109 q174 q3058) rfl rfl rfl (by decide +kernel) ⟨(Nat.le_of_ble_eq_true rfl), (Nat.le_of_ble_eq_true rfl)⟩) mH_rc rfl rfl hl.1 rfl rfl (Nat.le_of_ble_eq_true rfl) dX6_shut_25 ?_
    exact J.iret (vr := fun t : Int32 × jM => jrI t.1) (fin := fun r : Int32 × jM => mH mo A σ r.2) (t := t) X hr (by rfl) (by rfl) dX6_shut_28
  · refine J.pu (fun _ _ _ _ k => lv_iconst (v := 0) X.1.1 X.1.2.1 dX6_shut_13 (by decide) k) ?_
    exact J.iret (vr := fun t : Int32 × jM => jrI t.1) (fin := fun r : Int32 × jM => mH mo A σ r.2) (t := t) X hr (by rfl) (by rfl) dX6_shut_14
noncomputable def X6_set_j58 (n : Nat) (a1 : Int32) (a2 : Int32) (s1_58 : Int32) (B58 : jM) : Option (Int32 × jM) :=
  bd (X6_fails n B58 s1_58 2) fun v59 M59 => if v59 = 0 then (bd (X6_remembers n M59) fun v68 M68 => bd (X6_sets n M68 a1 a2) fun v74 M74 => some (v74, M74)) else (some (0, M59))
noncomputable def X6_set_j20 (n : Nat) (a1 : Int32) (a2 : Int32) (B20 : jM) : Option (Int32 × jM) :=
  if a1 = (-1) then ((X6_inRange n B20 a2 1 9).bind fun v30 => if v30 = 0 then (X6_set_j58 n a1 a2 1 B20) else (X6_set_j58 n a1 a2 0 B20)) else ((X6_inRange n B20 a2 0 3).bind fun v47 => if v47 = 0 then (X6_set_j58 n a1 a2 1 B20) else (X6_set_j58 n a1 a2 0 B20))
noncomputable def X6_set (n : Nat) (M : jM) (a1 : Int32) (a2 : Int32) : Option (Int32 × jM) :=
  if a1 = (-1) then (X6_set_j20 n a1 a2 (mP M 7 0)) else (bd (X6_noChute n (mP M 7 0) a1) fun v12 M12 => if v12 = 0 then (X6_set_j20 n a1 a2 M12) else (some (0, M12)))
set_option maxHeartbeats 4000000 in
set_option maxRecDepth 100000 in
theorem ct_X6_set (l : Launch) {G : jG} {mo : Nat} {A : Nat → Nat} (hm : mOK G mo A) (σ : jH) (n : Nat) (M : jM) (a1 : Int32) (a2 : Int32) : jCt l G yX6_set (ws_ yX6_set cX6_set 3 (some .int)) 2 45 jrI [.ref mo, .int a1, .int a2] (mH mo A σ M) (mup mo A σ (X6_set n M a1 a2)) := by
  refine jCt.wm (lv := [(0, .ref mo), (1, .int a1), (2, .int a2)]) (plainFor_of_name (by decide)) (Nat.le_of_ble_eq_true rfl) rfl ?_
  intro t p e s m args below meth c ls X hr hnm hl
  have X : jCx p c cX6_set 3 s m args RX6 G meth := X
  have j58 : ∀ (s1_58 : Int32) (B58 : jM) (ls : Array Slot), lv_has ls 3 [(0, .ref mo), (1, .int a1), (2, .int a2)] → jGo l G 2 45 (mH mo A σ M) (fun r : Int32 × jM => mH mo A σ r.2) (fun t => jrI t.1) t p e s m args below meth c (X6_set_j58 n a1 a2 s1_58 B58) (mH mo A σ B58) (F0 m 58 ls [.int s1_58, .ref mo]) := by
    intro s1_58 B58 ls hl
    unfold X6_set_j58
    refine J.pu (fun _ _ _ _ k => lv_iconst (v := 2) X.1.1 X.1.2.1 dX6_set_58 (by decide) k) ?_
    refine J.bd' (fun v59 M59 h59 => ?_)
    refine J.cV (q := (RX6, TX6, 26)) (ci := 5) (As := [.int s1_58, .int 2]) (rest := []) (s2 := [.int v59]) X ⟨rfl, rfl⟩ (ct_X6_fails l hm σ n B58 s1_58 2) (mup_of h59) (fun _ _ => cwV 2 X.1.2.2.2.2 (lw_V q3075 q3077 qs111 q174 q3078) rfl rfl rfl (by decide +kernel) ⟨(Nat.le_of_ble_eq_true rfl), (Nat.le_of_ble_eq_true rfl)⟩) mH_rc rfl rfl hl.1 rfl rfl (Nat.le_of_ble_eq_true rfl) dX6_set_59 ?_
    refine J.br (fun _ _ _ _ ka kb => lv_if_eq (tgt := 67) X.1.1 X.1.2.1 dX6_set_62 (by decide) ka kb) (fun c62 => ?_) (fun c62 => ?_)
    · refine J.pu (fun _ _ _ _ k => lv_aload_n X.1.1 X.1.2.1 dX6_set_67 rfl (lv_at hl 0 rfl) k) ?_
      refine J.bd' (fun v68 M68 h68 => ?_)
      refine J.cV (q := (RX6, TX6, 26)) (ci := 5) (As := []) (rest := []) (s2 := []) X ⟨rfl, rfl⟩ (ct_X6_remembers l hm σ n M59) (mup_of h68) (fun _ _ => cwV 0 X.1.2.2.2.2 (lw_V q2944 q2946 qs83 q174 q2947) rfl rfl rfl (by decide +kernel) ⟨(Nat.le_of_ble_eq_true rfl), (Nat.le_of_ble_eq_true rfl)⟩) mH_rc rfl rfl hl.1 rfl rfl (Nat.le_of_ble_eq_true rfl) dX6_set_68 ?_
      refine J.pu (fun _ _ _ _ k => lv_aload_n X.1.1 X.1.2.1 dX6_set_71 rfl (lv_at hl 0 rfl) k) ?_
      refine J.pu (fun _ _ _ _ k => lv_iload_n X.1.1 X.1.2.1 dX6_set_72 rfl (lv_at hl 1 rfl) k) ?_
      refine J.pu (fun _ _ _ _ k => lv_iload_n X.1.1 X.1.2.1 dX6_set_73 rfl (lv_at hl 2 rfl) k) ?_
      refine J.bd' (fun v74 M74 h74 => ?_)
      refine J.cV (q := (RX6, TX6, 26)) (ci := 5) (As := [.int a1, .int a2]) (rest := []) (s2 := [.int v74]) X ⟨rfl, rfl⟩ (ct_X6_sets l hm σ n M68 a1 a2) (mup_of h74) (fun _ _ => cwV 2 X.1.2.2.2.2 (lw_V q3059 q3061 qs110 q174 q3062) rfl rfl rfl (by decide +kernel) ⟨(Nat.le_of_ble_eq_true rfl), (Nat.le_of_ble_eq_true rfl)⟩) mH_rc rfl rfl hl.1 rfl rfl (Nat.le_of_ble_eq_true rfl) dX6_set_74 ?_
      exact J.iret (vr := fun t : Int32 × jM => jrI t.1) (fin := fun r : Int32 × jM => mH mo A σ r.2) (t := t) X hr (by rfl) (by rfl) dX6_set_77
    · refine J.pu (fun _ _ _ _ k => lv_iconst (v := 0) X.1.1 X.1.2.1 dX6_set_65 (by decide) k) ?_
      exact J.iret (vr := fun t : Int32 × jM => jrI t.1) (fin := fun r : Int32 × jM => mH mo A σ r.2) (t := t) X hr (by rfl) (by rfl) dX6_set_66
  have j20 : ∀ (B20 : jM) (ls : Array Slot), lv_has ls 3 [(0, .ref mo), (1, .int a1), (2, .int a2)] → jGo l G 2 45 (mH mo A σ M) (fun r : Int32 × jM => mH mo A σ r.2) (fun t => jrI t.1) t p e s m args below meth c (X6_set_j20 n a1 a2 B20) (mH mo A σ B20) (F0 m 20 ls []) := by
    intro B20 ls hl
    unfold X6_set_j20
    refine J.pu (fun _ _ _ _ k => lv_aload_n X.1.1 X.1.2.1 dX6_set_20 rfl (lv_at hl 0 rfl) k) ?_
    refine J.pu (fun _ _ _ _ k => lv_iload_n X.1.1 X.1.2.1 dX6_set_21 rfl (lv_at hl 1 rfl) k) ?_
    refine J.pu (fun _ _ _ _ k => lv_iconst (v := (-1)) X.1.1 X.1.2.1 dX6_set_22 (by decide) k) ?_
    refine J.br (fun _ _ _ _ ka kb => lv_icmp_ne (tgt := 44) X.1.1 X.1.2.1 dX6_set_23 (by decide) kb ka) (fun c23 => ?_) (fun c23 => ?_)
    · refine J.pu (fun _ _ _ _ k => lv_iload_n X.1.1 X.1.2.1 dX6_set_26 rfl (lv_at hl 2 rfl) k) ?_
      refine J.pu (fun _ _ _ _ k => lv_iconst (v := 1) X.1.1 X.1.2.1 dX6_set_27 (by decide) k) ?_
      refine J.pu (fun _ _ _ _ k => lv_bipush (v := 9) X.1.1 X.1.2.1 dX6_set_28 (by decide) k) ?_
      refine J.bind (fun v30 h30 => ?_)
      refine J.cS (As := [.int a2, .int 1, .int 9]) (rest := [.ref mo]) (s2 := [.int v30, .ref mo]) X ⟨rfl, rfl⟩ (ct_X6_inRange l hm σ n B20 a2 1 9) (jrd_of h30) (fun _ _ => va_cwS 3 X.1.2.2.2.2 (lw_S q2825 q2826 q174 q2827) rfl rfl rfl (by decide +kernel) ⟨(Nat.le_of_ble_eq_true rfl), (Nat.le_of_ble_eq_true rfl)⟩) rfl hl.1 rfl rfl (Nat.le_of_ble_eq_true rfl) dX6_set_30 ?_
      refine J.br (fun _ _ _ _ ka kb => lv_if_ne (tgt := 40) X.1.1 X.1.2.1 dX6_set_33 (by decide) kb ka) (fun c33 => ?_) (fun c33 => ?_)
      · refine J.pu (fun _ _ _ _ k => lv_iconst (v := 1) X.1.1 X.1.2.1 dX6_set_36 (by decide) k) ?_
        refine J.pu (fun _ _ _ _ k => lv_goto (tgt := 58) X.1.1 X.1.2.1 dX6_set_37 (by decide) k) ?_
        exact j58 1 B20 ls (lv_sub hl [0, 1, 2] rfl)
      · refine J.pu (fun _ _ _ _ k => lv_iconst (v := 0) X.1.1 X.1.2.1 dX6_set_40 (by decide) k) ?_
        refine J.pu (fun _ _ _ _ k => lv_goto (tgt := 58) X.1.1 X.1.2.1 dX6_set_41 (by decide) k) ?_
        exact j58 0 B20 ls (lv_sub hl [0, 1, 2] rfl)
    · refine J.pu (fun _ _ _ _ k => lv_iload_n X.1.1 X.1.2.1 dX6_set_44 rfl (lv_at hl 2 rfl) k) ?_
      refine J.pu (fun _ _ _ _ k => lv_iconst (v := 0) X.1.1 X.1.2.1 dX6_set_45 (by decide) k) ?_
      refine J.pu (fun _ _ _ _ k => lv_iconst (v := 3) X.1.1 X.1.2.1 dX6_set_46 (by decide) k) ?_
      refine J.bind (fun v47 h47 => ?_)
      refine J.cS (As := [.int a2, .int 0, .int 3]) (rest := [.ref mo]) (s2 := [.int v47, .ref mo]) X ⟨rfl, rfl⟩ (ct_X6_inRange l hm σ n B20 a2 0 3) (jrd_of h47) (fun _ _ => va_cwS 3 X.1.2.2.2.2 (lw_S q2825 q2826 q174 q2827) rfl rfl rfl (by decide +kernel) ⟨(Nat.le_of_ble_eq_true rfl), (Nat.le_of_ble_eq_true rfl)⟩) rfl hl.1 rfl rfl (Nat.le_of_ble_eq_true rfl) dX6_set_47 ?_
      refine J.br (fun _ _ _ _ ka kb => lv_if_ne (tgt := 57) X.1.1 X.1.2.1 dX6_set_50 (by decide) kb ka) (fun c50 => ?_) (fun c50 => ?_)
      · refine J.pu (fun _ _ _ _ k => lv_iconst (v := 1) X.1.1 X.1.2.1 dX6_set_53 (by decide) k) ?_
        refine J.pu (fun _ _ _ _ k => lv_goto (tgt := 58) X.1.1 X.1.2.1 dX6_set_54 (by decide) k) ?_
        exact j58 1 B20 ls (lv_sub hl [0, 1, 2] rfl)
      · refine J.pu (fun _ _ _ _ k => lv_iconst (v := 0) X.1.1 X.1.2.1 dX6_set_57 (by decide) k) ?_
        exact j58 0 B20 ls (lv_sub hl [0, 1, 2] rfl)
  unfold X6_set
  refine J.pu (fun _ _ _ _ k => lv_aload_n X.1.1 X.1.2.1 dX6_set_0 rfl (lv_at hl 0 rfl) k) ?_
  refine J.pu (fun _ _ _ _ k => lv_iconst (v := 0) X.1.1 X.1.2.1 dX6_set_1 (by decide) k) ?_
  refine J.mpS (k := 7) X hm (by decide) q2737 rfl rfl rfl dX6_set_2 ?_
  refine J.pu (fun _ _ _ _ k => lv_iload_n X.1.1 X.1.2.1 dX6_set_5 rfl (lv_at hl 1 rfl) k) ?_
  refine J.pu (fun _ _ _ _ k => lv_iconst (v := (-1)) X.1.1 X.1.2.1 dX6_set_6 (by decide) k) ?_
  refine J.br (fun _ _ _ _ ka kb => lv_icmp_eq (tgt := 20) X.1.1 X.1.2.1 dX6_set_7 (by decide) ka kb) (fun c7 => ?_) (fun c7 => ?_)
  · exact j20 (mP M 7 0) ls (lv_sub hl [0, 1, 2] rfl)
  · refine J.pu (fun _ _ _ _ k => lv_aload_n X.1.1 X.1.2.1 dX6_set_10 rfl (lv_at hl 0 rfl) k) ?_
    refine J.pu (fun _ _ _ _ k => lv_iload_n X.1.1 X.1.2.1 dX6_set_11 rfl (lv_at hl 1 rfl) k) ?_
    refine J.bd' (fun v12 M12 h12 => ?_)
    refine J.cV (q := (RX6, TX6, 26)) (ci := 5) (As := [.int a1]) (rest := []) (s2 := [.int v12]) X ⟨rfl, rfl⟩ (ct_X6_noChute l hm σ n (mP M 7 0) a1) (mup_of h12) (fun _ _ => cwV 1 X.1.2.2.2.2 (lw_V q3115 q3117 qs117 q174 q3118) rfl rfl rfl (by decide +kernel) ⟨(Nat.le_of_ble_eq_true rfl), (Nat.le_of_ble_eq_true rfl)⟩) mH_rc rfl rfl hl.1 rfl rfl (Nat.le_of_ble_eq_true rfl) dX6_set_12 ?_
    refine J.br (fun _ _ _ _ ka kb => lv_if_eq (tgt := 20) X.1.1 X.1.2.1 dX6_set_15 (by decide) ka kb) (fun c15 => ?_) (fun c15 => ?_)
    · exact j20 M12 ls (lv_sub hl [0, 1, 2] rfl)
    · refine J.pu (fun _ _ _ _ k => lv_iconst (v := 0) X.1.1 X.1.2.1 dX6_set_18 (by decide) k) ?_
      exact J.iret (vr := fun t : Int32 × jM => jrI t.1) (fin := fun r : Int32 × jM => mH mo A σ r.2) (t := t) X hr (by rfl) (by rfl) dX6_set_19
noncomputable def X6_undo_j18 (n : Nat) (s1_18 : Int32) (B18 : jM) : Option (Int32 × jM) :=
  bd (X6_fails n B18 s1_18 1) fun v19 M19 => if v19 = 0 then (bd (X6_copies n (mP M19 5 ((M19.2 5) - 1)) 4 (525 * ((mP M19 5 ((M19.2 5) - 1)).2 5)) 0 0) fun v54 M54 => some ((M54.2 5), M54)) else (some (0, M19))
noncomputable def X6_undo (n : Nat) (M : jM) : Option (Int32 × jM) :=
  if ((mP M 7 0).2 5) = 0 then (X6_undo_j18 n 1 (mP M 7 0)) else (X6_undo_j18 n 0 (mP M 7 0))
set_option maxHeartbeats 4000000 in
set_option maxRecDepth 100000 in
theorem ct_X6_undo (l : Launch) {G : jG} {mo : Nat} {A : Nat → Nat} (hm : mOK G mo A) (σ : jH) (n : Nat) (M : jM) : jCt l G yX6_undo (ws_ yX6_undo cX6_undo 1 (some .int)) 1 24 jrI [.ref mo] (mH mo A σ M) (mup mo A σ (X6_undo n M)) := by
  refine jCt.wm (lv := [(0, .ref mo)]) (plainFor_of_name (by decide)) (Nat.le_of_ble_eq_true rfl) rfl ?_
  intro t p e s m args below meth c ls X hr hnm hl
  have X : jCx p c cX6_undo 1 s m args RX6 G meth := X
  have j18 : ∀ (s1_18 : Int32) (B18 : jM) (ls : Array Slot), lv_has ls 1 [(0, .ref mo)] → jGo l G 1 24 (mH mo A σ M) (fun r : Int32 × jM => mH mo A σ r.2) (fun t => jrI t.1) t p e s m args below meth c (X6_undo_j18 n s1_18 B18) (mH mo A σ B18) (F0 m 18 ls [.int s1_18, .ref mo]) := by
    intro s1_18 B18 ls hl
    unfold X6_undo_j18
    refine J.pu (fun _ _ _ _ k => lv_iconst (v := 1) X.1.1 X.1.2.1 dX6_undo_18 (by decide) k) ?_
    refine J.bd' (fun v19 M19 h19 => ?_)
    refine J.cV (q := (RX6, TX6, 26)) (ci := 5) (As := [.int s1_18, .int 1]) (rest := []) (s2 := [.int v19]) X ⟨rfl, rfl⟩ (ct_X6_fails l hm σ n B18 s1_18 1) (mup_of h19) (fun _ _ => cwV 2 X.1.2.2.2.2 (lw_V q3075 q3077 qs111 q174 q3078) rfl rfl rfl (by decide +kernel) ⟨(Nat.le_of_ble_eq_true rfl), (Nat.le_of_ble_eq_true rfl)⟩) mH_rc rfl rfl hl.1 rfl rfl (Nat.le_of_ble_eq_true rfl) dX6_undo_19 ?_
    refine J.br (fun _ _ _ _ ka kb => lv_if_eq (tgt := 27) X.1.1 X.1.2.1 dX6_undo_22 (by decide) ka kb) (fun c22 => ?_) (fun c22 => ?_)
    · refine J.pu (fun _ _ _ _ k => lv_aload_n X.1.1 X.1.2.1 dX6_undo_27 rfl (lv_at hl 0 rfl) k) ?_
      refine J.pu (fun _ _ _ _ k => lv_dup X.1.1 X.1.2.1 dX6_undo_28 rfl k) ?_
      refine J.mgS (k := 5) X (by decide) q2735 rfl rfl dX6_undo_29 ?_
      refine J.pu (fun _ _ _ _ k => lv_iconst (v := 1) X.1.1 X.1.2.1 dX6_undo_32 (by decide) k) ?_
      refine J.pu (fun _ _ _ _ k => lv_isub X.1.1 X.1.2.1 dX6_undo_33 k) ?_
      refine J.mpS (k := 5) X hm (by decide) q2735 rfl rfl rfl dX6_undo_34 ?_
      refine J.pu (fun _ _ _ _ k => lv_aload_n X.1.1 X.1.2.1 dX6_undo_37 rfl (lv_at hl 0 rfl) k) ?_
      refine J.mgA (k := 4) X (by decide) q2734 rfl rfl dX6_undo_38 ?_
      refine J.pu (fun _ _ _ _ k => lv_sipush (v := 525) X.1.1 X.1.2.1 dX6_undo_41 (by decide) k) ?_
      refine J.pu (fun _ _ _ _ k => lv_aload_n X.1.1 X.1.2.1 dX6_undo_44 rfl (lv_at hl 0 rfl) k) ?_
      refine J.mgS (k := 5) X (by decide) q2735 rfl rfl dX6_undo_45 ?_
      refine J.pu (fun _ _ _ _ k => lv_imul X.1.1 X.1.2.1 dX6_undo_48 k) ?_
      refine J.pu (fun _ _ _ _ k => lv_aload_n X.1.1 X.1.2.1 dX6_undo_49 rfl (lv_at hl 0 rfl) k) ?_
      refine J.mgA (k := 0) X (by decide) q2730 rfl rfl dX6_undo_50 ?_
      refine J.pu (fun _ _ _ _ k => lv_iconst (v := 0) X.1.1 X.1.2.1 dX6_undo_53 (by decide) k) ?_
      refine J.bd' (fun v54 M54 h54 => ?_)
      refine J.cS (As := [.ref (A 4), .int (525 * ((mP M19 5 ((M19.2 5) - 1)).2 5)), .ref (A 0), .int 0]) (rest := []) (s2 := []) X ⟨rfl, rfl⟩ (ct_X6_copies l hm σ n (mP M19 5 ((M19.2 5) - 1)) 4 (525 * ((mP M19 5 ((M19.2 5) - 1)).2 5)) 0 0 (by decide) (by decide)) (mup_of h54) (fun _ _ => va_cwS 4 X.1.2.2.2.2 (lw_S q2832 q2833 q174 q2834) rfl rfl rfl (by decide +kernel) ⟨(Nat.le_of_ble_eq_true rfl), (Nat.le_of_ble_eq_true rfl)⟩) rfl hl.1 rfl rfl (Nat.le_of_ble_eq_true rfl) dX6_undo_54 ?_
      refine J.pu (fun _ _ _ _ k => lv_aload_n X.1.1 X.1.2.1 dX6_undo_57 rfl (lv_at hl 0 rfl) k) ?_
      refine J.mgS (k := 5) X (by decide) q2735 rfl rfl dX6_undo_58 ?_
      exact J.iret (vr := fun t : Int32 × jM => jrI t.1) (fin := fun r : Int32 × jM => mH mo A σ r.2) (t := t) X hr (by rfl) (by rfl) dX6_undo_61
    · refine J.pu (fun _ _ _ _ k => lv_iconst (v := 0) X.1.1 X.1.2.1 dX6_undo_25 (by decide) k) ?_
      exact J.iret (vr := fun t : Int32 × jM => jrI t.1) (fin := fun r : Int32 × jM => mH mo A σ r.2) (t := t) X hr (by rfl) (by rfl) dX6_undo_26
  unfold X6_undo
  refine J.pu (fun _ _ _ _ k => lv_aload_n X.1.1 X.1.2.1 dX6_undo_0 rfl (lv_at hl 0 rfl) k) ?_
  refine J.pu (fun _ _ _ _ k => lv_iconst (v := 0) X.1.1 X.1.2.1 dX6_undo_1 (by decide) k) ?_
  refine J.mpS (k := 7) X hm (by decide) q2737 rfl rfl rfl dX6_undo_2 ?_
  refine J.pu (fun _ _ _ _ k => lv_aload_n X.1.1 X.1.2.1 dX6_undo_5 rfl (lv_at hl 0 rfl) k) ?_
  refine J.pu (fun _ _ _ _ k => lv_aload_n X.1.1 X.1.2.1 dX6_undo_6 rfl (lv_at hl 0 rfl) k) ?_
  refine J.mgS (k := 5) X (by decide) q2735 rfl rfl dX6_undo_7 ?_
  refine J.br (fun _ _ _ _ ka kb => lv_if_ne (tgt := 17) X.1.1 X.1.2.1 dX6_undo_10 (by decide) kb ka) (fun c10 => ?_) (fun c10 => ?_)
  · refine J.pu (fun _ _ _ _ k => lv_iconst (v := 1) X.1.1 X.1.2.1 dX6_undo_13 (by decide) k) ?_
    refine J.pu (fun _ _ _ _ k => lv_goto (tgt := 18) X.1.1 X.1.2.1 dX6_undo_14 (by decide) k) ?_
    exact j18 1 (mP M 7 0) ls (lv_sub hl [0] rfl)
  · refine J.pu (fun _ _ _ _ k => lv_iconst (v := 0) X.1.1 X.1.2.1 dX6_undo_17 (by decide) k) ?_
    exact j18 0 (mP M 7 0) ls (lv_sub hl [0] rfl)
noncomputable def X6_signOf (n : Nat) (M : jM) (a1 : Int32) : Option (Int32) :=
  if a1 = (-1) then (some 46) else ((X6_of n M a1 1).bind fun v11 => if v11 ≤ 0 then ((X6_isTracked n M a1).bind fun v22 => if v22 = 0 then (some 33) else ((X6_lagOf n M a1).bind fun v30 => if v30 = 0 then ((X6_of n M a1 0).bind fun v41 => some (48 + v41)) else (some 33))) else (some 63))
set_option maxHeartbeats 4000000 in
set_option maxRecDepth 100000 in
theorem ct_X6_signOf (l : Launch) {G : jG} {mo : Nat} {A : Nat → Nat} (hm : mOK G mo A) (σ : jH) (n : Nat) (M : jM) (a1 : Int32) : jCt l G yX6_signOf (ws_ yX6_signOf cX6_signOf 2 (some .int)) 3 65 jrI [.ref mo, .int a1] (mH mo A σ M) (jrd (mH mo A σ M) (X6_signOf n M a1)) := by
  refine jCt.rd (lv := [(0, .ref mo), (1, .int a1)]) (plainFor_of_name (by decide)) (Nat.le_of_ble_eq_true rfl) rfl ?_
  intro t p e s m args below meth c ls X hr hnm hl
  have X : jCx p c cX6_signOf 2 s m args RX6 G meth := X
  unfold X6_signOf
  refine J.pu (fun _ _ _ _ k => lv_iload_n X.1.1 X.1.2.1 dX6_signOf_0 rfl (lv_at hl 1 rfl) k) ?_
  refine J.pu (fun _ _ _ _ k => lv_iconst (v := (-1)) X.1.1 X.1.2.1 dX6_signOf_1 (by decide) k) ?_
  refine J.br (fun _ _ _ _ ka kb => lv_icmp_ne (tgt := 8) X.1.1 X.1.2.1 dX6_signOf_2 (by decide) kb ka) (fun c2 => ?_) (fun c2 => ?_)
  · refine J.pu (fun _ _ _ _ k => lv_bipush (v := 46) X.1.1 X.1.2.1 dX6_signOf_5 (by decide) k) ?_
    exact J.iret (vr := jrI) (fin := fun _ : Int32 => (mH mo A σ M)) (t := t) X hr (by rfl) (by rfl) dX6_signOf_7
  · refine J.pu (fun _ _ _ _ k => lv_aload_n X.1.1 X.1.2.1 dX6_signOf_8 rfl (lv_at hl 0 rfl) k) ?_
    refine J.pu (fun _ _ _ _ k => lv_iload_n X.1.1 X.1.2.1 dX6_signOf_9 rfl (lv_at hl 1 rfl) k) ?_
    refine J.pu (fun _ _ _ _ k => lv_iconst (v := 1) X.1.1 X.1.2.1 dX6_signOf_10 (by decide) k) ?_
    refine J.bind (fun v11 h11 => ?_)
    refine J.cV (q := (RX6, TX6, 26)) (ci := 5) (As := [.int a1, .int 1]) (rest := []) (s2 := [.int v11]) X ⟨rfl, rfl⟩ (ct_X6_of l hm σ n M a1 1) (jrd_of h11) (fun _ _ => cwV 2 X.1.2.2.2.2 (lw_V q2964 q2966 qs88 q174 q2967) rfl rfl rfl (by decide +kernel) ⟨(Nat.le_of_ble_eq_true rfl), (Nat.le_of_ble_eq_true rfl)⟩) mH_rc rfl rfl hl.1 rfl rfl (Nat.le_of_ble_eq_true rfl) dX6_signOf_11 ?_
    refine J.br (fun _ _ _ _ ka kb => lv_if_le (tgt := 20) X.1.1 X.1.2.1 dX6_signOf_14 (by decide) ka kb) (fun c14 => ?_) (fun c14 => ?_)
    · refine J.pu (fun _ _ _ _ k => lv_aload_n X.1.1 X.1.2.1 dX6_signOf_20 rfl (lv_at hl 0 rfl) k) ?_
      refine J.pu (fun _ _ _ _ k => lv_iload_n X.1.1 X.1.2.1 dX6_signOf_21 rfl (lv_at hl 1 rfl) k) ?_
      refine J.bind (fun v22 h22 => ?_)
      refine J.cV (q := (RX6, TX6, 26)) (ci := 5) (As := [.int a1]) (rest := []) (s2 := [.int v22]) X ⟨rfl, rfl⟩ (ct_X6_isTracked l hm σ n M a1) (jrd_of h22) (fun _ _ => cwV 1 X.1.2.2.2.2 (lw_V q3023 q3025 qs101 q174 q3026) rfl rfl rfl (by decide +kernel) ⟨(Nat.le_of_ble_eq_true rfl), (Nat.le_of_ble_eq_true rfl)⟩) mH_rc rfl rfl hl.1 rfl rfl (Nat.le_of_ble_eq_true rfl) dX6_signOf_22 ?_
      refine J.br (fun _ _ _ _ ka kb => lv_if_eq (tgt := 48) X.1.1 X.1.2.1 dX6_signOf_25 (by decide) ka kb) (fun c25 => ?_) (fun c25 => ?_)
      · refine J.pu (fun _ _ _ _ k => lv_bipush (v := 33) X.1.1 X.1.2.1 dX6_signOf_48 (by decide) k) ?_
        exact J.iret (vr := jrI) (fin := fun _ : Int32 => (mH mo A σ M)) (t := t) X hr (by rfl) (by rfl) dX6_signOf_50
      · refine J.pu (fun _ _ _ _ k => lv_aload_n X.1.1 X.1.2.1 dX6_signOf_28 rfl (lv_at hl 0 rfl) k) ?_
        refine J.pu (fun _ _ _ _ k => lv_iload_n X.1.1 X.1.2.1 dX6_signOf_29 rfl (lv_at hl 1 rfl) k) ?_
        refine J.bind (fun v30 h30 => ?_)
        refine J.cV (q := (RX6, TX6, 26)) (ci := 5) (As := [.int a1]) (rest := []) (s2 := [.int v30]) X ⟨rfl, rfl⟩ (ct_X6_lagOf l hm σ n M a1) (jrd_of h30) (fun _ _ => cwV 1 X.1.2.2.2.2 (lw_V q3008 q3010 qs98 q174 q3011) rfl rfl rfl (by decide +kernel) ⟨(Nat.le_of_ble_eq_true rfl), (Nat.le_of_ble_eq_true rfl)⟩) mH_rc rfl rfl hl.1 rfl rfl (Nat.le_of_ble_eq_true rfl) dX6_signOf_30 ?_
        refine J.br (fun _ _ _ _ ka kb => lv_if_ne (tgt := 48) X.1.1 X.1.2.1 dX6_signOf_33 (by decide) kb ka) (fun c33 => ?_) (fun c33 => ?_)
        · refine J.pu (fun _ _ _ _ k => lv_bipush (v := 48) X.1.1 X.1.2.1 dX6_signOf_36 (by decide) k) ?_
          refine J.pu (fun _ _ _ _ k => lv_aload_n X.1.1 X.1.2.1 dX6_signOf_38 rfl (lv_at hl 0 rfl) k) ?_
          refine J.pu (fun _ _ _ _ k => lv_iload_n X.1.1 X.1.2.1 dX6_signOf_39 rfl (lv_at hl 1 rfl) k) ?_
          refine J.pu (fun _ _ _ _ k => lv_iconst (v := 0) X.1.1 X.1.2.1 dX6_signOf_40 (by decide) k) ?_
          refine J.bind (fun v41 h41 => ?_)
          refine J.cV (q := (RX6, TX6, 26)) (ci := 5) (As := [.int a1, .int 0]) (rest := [.int 48]) (s2 := [.int v41, .int 48]) X ⟨rfl, rfl⟩ (ct_X6_of l hm σ n M a1 0) (jrd_of h41) (fun _ _ => cwV 2 X.1.2.2.2.2 (lw_V q2964 q2966 qs88 q174 q2967) rfl rfl rfl (by decide +kernel) ⟨(Nat.le_of_ble_eq_true rfl), (Nat.le_of_ble_eq_true rfl)⟩) mH_rc rfl rfl hl.1 rfl rfl (Nat.le_of_ble_eq_true rfl) dX6_signOf_41 ?_
          refine J.pu (fun _ _ _ _ k => lv_iadd X.1.1 X.1.2.1 dX6_signOf_44 k) ?_
          refine J.pu (fun _ _ _ _ k => lv_goto (tgt := 50) X.1.1 X.1.2.1 dX6_signOf_45 (by decide) k) ?_
          exact J.iret (vr := jrI) (fin := fun _ : Int32 => (mH mo A σ M)) (t := t) X hr (by rfl) (by rfl) dX6_signOf_50
        · refine J.pu (fun _ _ _ _ k => lv_bipush (v := 33) X.1.1 X.1.2.1 dX6_signOf_48 (by decide) k) ?_
          exact J.iret (vr := jrI) (fin := fun _ : Int32 => (mH mo A σ M)) (t := t) X hr (by rfl) (by rfl) dX6_signOf_50
    · refine J.pu (fun _ _ _ _ k => lv_bipush (v := 63) X.1.1 X.1.2.1 dX6_signOf_17 (by decide) k) ?_
      exact J.iret (vr := jrI) (fin := fun _ : Int32 => (mH mo A σ M)) (t := t) X hr (by rfl) (by rfl) dX6_signOf_19
noncomputable def X6_write (n : Nat) (M : jM) (a1 : Int32) : Option (Unit × jM) :=
  (mS M 24 (M.2 25) a1).bind fun M9 => some ((), (mP M9 25 ((M9.2 25) + 1)))
set_option maxHeartbeats 4000000 in
set_option maxRecDepth 100000 in
theorem ct_X6_write (l : Launch) {G : jG} {mo : Nat} {A : Nat → Nat} (hm : mOK G mo A) (σ : jH) (n : Nat) (M : jM) (a1 : Int32) : jCt l G yX6_write (ws_ yX6_write cX6_write 2 none) 0 0 jrV [.ref mo, .int a1] (mH mo A σ M) (mup mo A σ (X6_write n M a1)) := by
  refine jCt.wm (lv := [(0, .ref mo), (1, .int a1)]) (plainFor_of_name (by decide)) (Nat.le_of_ble_eq_true rfl) rfl ?_
  intro t p e s m args below meth c ls X hr hnm hl
  have X : jCx p c cX6_write 2 s m args RX6 G meth := X
  unfold X6_write
  refine J.pu (fun _ _ _ _ k => lv_aload_n X.1.1 X.1.2.1 dX6_write_0 rfl (lv_at hl 0 rfl) k) ?_
  refine J.mgA (k := 24) X (by decide) q2754 rfl rfl dX6_write_1 ?_
  refine J.pu (fun _ _ _ _ k => lv_aload_n X.1.1 X.1.2.1 dX6_write_4 rfl (lv_at hl 0 rfl) k) ?_
  refine J.mgS (k := 25) X (by decide) q2755 rfl rfl dX6_write_5 ?_
  refine J.pu (fun _ _ _ _ k => lv_iload_n X.1.1 X.1.2.1 dX6_write_8 rfl (lv_at hl 1 rfl) k) ?_
  refine J.mst X hm (by decide) dX6_write_9 (fun M9 h9 => ?_)
  refine J.pu (fun _ _ _ _ k => lv_aload_n X.1.1 X.1.2.1 dX6_write_10 rfl (lv_at hl 0 rfl) k) ?_
  refine J.pu (fun _ _ _ _ k => lv_dup X.1.1 X.1.2.1 dX6_write_11 rfl k) ?_
  refine J.mgS (k := 25) X (by decide) q2755 rfl rfl dX6_write_12 ?_
  refine J.pu (fun _ _ _ _ k => lv_iconst (v := 1) X.1.1 X.1.2.1 dX6_write_15 (by decide) k) ?_
  refine J.pu (fun _ _ _ _ k => lv_iadd X.1.1 X.1.2.1 dX6_write_16 k) ?_
  refine J.mpS (k := 25) X hm (by decide) q2755 rfl rfl rfl dX6_write_17 ?_
  exact J.vret (vr := fun t : Unit × jM => jrV t.1) (fin := fun r : Unit × jM => mH mo A σ r.2) (t := t) X hr (by rfl) (by rfl) dX6_write_20
noncomputable def X6_printLoop_h12 (n : Nat) (rec12 : Int32 × jM → Option (Int32 × jM)) (q12 : Int32 × jM) : Option (Int32 × jM) :=
  let x1_12 := q12.1; let B12 := q12.2; (mA B12 0 0).bind fun v18 => if v18 ≤ x1_12 then (some ((B12.2 25), B12)) else ((X6_parcelIn n B12 x1_12).bind fun v26 => (X6_signOf n B12 v26).bind fun v29 => bd (X6_write n B12 v29) fun v32 M32 => rec12 ((x1_12 + 1), M32))
noncomputable def X6_printLoop (n : Nat) (M : jM) : Option (Int32 × jM) :=
  jloop (X6_printLoop_h12 n) n (0, (mP (mP M 7 0) 25 0))
set_option maxHeartbeats 4000000 in
set_option maxRecDepth 100000 in
theorem ct_X6_printLoop (l : Launch) {G : jG} {mo : Nat} {A : Nat → Nat} (hm : mOK G mo A) (σ : jH) (n : Nat) (M : jM) : jCt l G yX6_printLoop (ws_ yX6_printLoop cX6_printLoop 2 (some .int)) 4 86 jrI [.ref mo] (mH mo A σ M) (mup mo A σ (X6_printLoop n M)) := by
  refine jCt.wm (lv := [(0, .ref mo)]) (plainFor_of_name (by decide)) (Nat.le_of_ble_eq_true rfl) rfl ?_
  intro t p e s m args below meth c ls X hr hnm hl
  have X : jCx p c cX6_printLoop 2 s m args RX6 G meth := X
  have L12 : ∀ (n12 : Nat) (x1_12 : Int32) (B12 : jM) (ls : Array Slot), lv_has ls 2 [(0, .ref mo), (1, .int x1_12)] → jGo l G 4 86 (mH mo A σ M) (fun r : Int32 × jM => mH mo A σ r.2) (fun t => jrI t.1) t p e s m args below meth c (jloop (X6_printLoop_h12 n) n12 (x1_12, B12)) (mH mo A σ B12) (F0 m 12 ls []) := by
    intro n12
    induction n12 with
    | zero => intro x1_12 B12 ls hl; exact J.nil_
    | succ n12 ih12 =>
      intro x1_12 B12 ls hl
      refine J.eq (jloop_s _ _ _) ?_
      dsimp only [X6_printLoop_h12]
      refine J.pu (fun _ _ _ _ k => lv_iload_n X.1.1 X.1.2.1 dX6_printLoop_12 rfl (lv_at hl 1 rfl) k) ?_
      refine J.pu (fun _ _ _ _ k => lv_aload_n X.1.1 X.1.2.1 dX6_printLoop_13 rfl (lv_at hl 0 rfl) k) ?_
      refine J.mgA (k := 0) X (by decide) q2730 rfl rfl dX6_printLoop_14 ?_
      refine J.pu (fun _ _ _ _ k => lv_iconst (v := 0) X.1.1 X.1.2.1 dX6_printLoop_17 (by decide) k) ?_
      refine J.mld X hm (by decide) dX6_printLoop_18 (fun v18 h18 => ?_)
      refine J.br (fun _ _ _ _ ka kb => lv_icmp_ge (tgt := 41) X.1.1 X.1.2.1 dX6_printLoop_19 (by decide) ka kb) (fun c19 => ?_) (fun c19 => ?_)
      · refine J.pu (fun _ _ _ _ k => lv_aload_n X.1.1 X.1.2.1 dX6_printLoop_41 rfl (lv_at hl 0 rfl) k) ?_
        refine J.mgS (k := 25) X (by decide) q2755 rfl rfl dX6_printLoop_42 ?_
        exact J.iret (vr := fun t : Int32 × jM => jrI t.1) (fin := fun r : Int32 × jM => mH mo A σ r.2) (t := t) X hr (by rfl) (by rfl) dX6_printLoop_45
      · refine J.pu (fun _ _ _ _ k => lv_aload_n X.1.1 X.1.2.1 dX6_printLoop_22 rfl (lv_at hl 0 rfl) k) ?_
        refine J.pu (fun _ _ _ _ k => lv_aload_n X.1.1 X.1.2.1 dX6_printLoop_23 rfl (lv_at hl 0 rfl) k) ?_
        refine J.pu (fun _ _ _ _ k => lv_aload_n X.1.1 X.1.2.1 dX6_printLoop_24 rfl (lv_at hl 0 rfl) k) ?_
        refine J.pu (fun _ _ _ _ k => lv_iload_n X.1.1 X.1.2.1 dX6_printLoop_25 rfl (lv_at hl 1 rfl) k) ?_
        refine J.bind (fun v26 h26 => ?_)
        refine J.cV (q := (RX6, TX6, 26)) (ci := 5) (As := [.int x1_12]) (rest := [.ref mo, .ref mo]) (s2 := [.int v26, .ref mo, .ref mo]) X ⟨rfl, rfl⟩ (ct_X6_parcelIn l hm σ n B12 x1_12) (jrd_of h26) (fun _ _ => cwV 1 X.1.2.2.2.2 (lw_V q2956 q2958 qs86 q174 q2959) rfl rfl rfl (by decide +kernel) ⟨(Nat.le_of_ble_eq_true rfl), (Nat.le_of_ble_eq_true rfl)⟩) mH_rc rfl rfl hl.1 rfl rfl (Nat.le_of_ble_eq_true rfl) dX6_printLoop_26 ?_
        refine J.bind (fun v29 h29 => ?_)
        refine J.cV (q := (RX6, TX6, 26)) (ci := 5) (As := [.int v26]) (rest := [.ref mo]) (s2 := [.int v29, .ref mo]) X ⟨rfl, rfl⟩ (ct_X6_signOf l hm σ n B12 v26) (jrd_of h29) (fun _ _ => cwV 1 X.1.2.2.2.2 (lw_V q3292 q3294 qs134 q174 q3295) rfl rfl rfl (by decide +kernel) ⟨(Nat.le_of_ble_eq_true rfl), (Nat.le_of_ble_eq_true rfl)⟩) mH_rc rfl rfl hl.1 rfl rfl (Nat.le_of_ble_eq_true rfl) dX6_printLoop_29 ?_
        refine J.bd' (fun v32 M32 h32 => ?_)
        refine J.cV (q := (RX6, TX6, 26)) (ci := 5) (As := [.int v29]) (rest := []) (s2 := []) X ⟨rfl, rfl⟩ (ct_X6_write l hm σ n B12 v29) (mup_of h32) (fun _ _ => cwV 1 X.1.2.2.2.2 (lw_V q3296 q3298 qs135 q174 q3299) rfl rfl rfl (by decide +kernel) ⟨(Nat.le_of_ble_eq_true rfl), (Nat.le_of_ble_eq_true rfl)⟩) mH_rc rfl rfl hl.1 rfl rfl (Nat.le_of_ble_eq_true rfl) dX6_printLoop_32 ?_
        refine J.iinc (k := 1) (lv' := [(1, .int (x1_12 + 1)), (0, .ref mo)]) (w := (x1_12 + 1)) X.1.1 X.1.2.1 dX6_printLoop_35 hl rfl rfl (by decide) (by first | rfl | simp [va_rf_cat, jcI, jcA, jcJ, jcD, jcF]) (fun ls hl => ?_)
        refine J.pu (fun _ _ _ _ k => lv_goto (tgt := 12) X.1.1 X.1.2.1 dX6_printLoop_38 (by decide) k) ?_
        exact ih12 (x1_12 + 1) M32 ls (lv_sub hl [1, 0] rfl)
  unfold X6_printLoop
  refine J.pu (fun _ _ _ _ k => lv_aload_n X.1.1 X.1.2.1 dX6_printLoop_0 rfl (lv_at hl 0 rfl) k) ?_
  refine J.pu (fun _ _ _ _ k => lv_iconst (v := 0) X.1.1 X.1.2.1 dX6_printLoop_1 (by decide) k) ?_
  refine J.mpS (k := 7) X hm (by decide) q2737 rfl rfl rfl dX6_printLoop_2 ?_
  refine J.pu (fun _ _ _ _ k => lv_aload_n X.1.1 X.1.2.1 dX6_printLoop_5 rfl (lv_at hl 0 rfl) k) ?_
  refine J.pu (fun _ _ _ _ k => lv_iconst (v := 0) X.1.1 X.1.2.1 dX6_printLoop_6 (by decide) k) ?_
  refine J.mpS (k := 25) X hm (by decide) q2755 rfl rfl rfl dX6_printLoop_7 ?_
  refine J.pu (fun _ _ _ _ k => lv_iconst (v := 0) X.1.1 X.1.2.1 dX6_printLoop_10 (by decide) k) ?_
  refine J.istore_n (i := 1) (lv' := [(1, .int 0), (0, .ref mo)]) X.1.1 X.1.2.1 dX6_printLoop_11 rfl hl (by decide) (by first | rfl | simp [va_rf_cat, jcI, jcA, jcJ, jcD, jcF]) (fun ls hl => ?_)
  exact L12 n 0 (mP (mP M 7 0) 25 0) ls (lv_sub hl [1, 0] rfl)
noncomputable def X6_writeNumber_j17 (n : Nat) (a1 : Int32) (B17 : jM) : Option (Unit × jM) :=
  bd (X6_write n B17 (48 + (a1 - a1 / 10 * 10))) fun v25 M25 => some ((), M25)
noncomputable def X6_writeNumber (n : Nat) (M : jM) (a1 : Int32) : Option (Unit × jM) :=
  if a1 ≤ 9 then (X6_writeNumber_j17 n a1 M) else (bd (X6_write n M (48 + (a1 / 10))) fun v14 M14 => X6_writeNumber_j17 n a1 M14)
set_option maxHeartbeats 4000000 in
set_option maxRecDepth 100000 in
theorem ct_X6_writeNumber (l : Launch) {G : jG} {mo : Nat} {A : Nat → Nat} (hm : mOK G mo A) (σ : jH) (n : Nat) (M : jM) (a1 : Int32) : jCt l G yX6_writeNumber (ws_ yX6_writeNumber cX6_writeNumber 2 none) 1 21 jrV [.ref mo, .int a1] (mH mo A σ M) (mup mo A σ (X6_writeNumber n M a1)) := by
  refine jCt.wm (lv := [(0, .ref mo), (1, .int a1)]) (plainFor_of_name (by decide)) (Nat.le_of_ble_eq_true rfl) rfl ?_
  intro t p e s m args below meth c ls X hr hnm hl
  have X : jCx p c cX6_writeNumber 2 s m args RX6 G meth := X
  have j17 : ∀ (B17 : jM) (ls : Array Slot), lv_has ls 2 [(0, .ref mo), (1, .int a1)] → jGo l G 1 21 (mH mo A σ M) (fun r : Unit × jM => mH mo A σ r.2) (fun t => jrV t.1) t p e s m args below meth c (X6_writeNumber_j17 n a1 B17) (mH mo A σ B17) (F0 m 17 ls []) := by
    intro B17 ls hl
    unfold X6_writeNumber_j17
    refine J.pu (fun _ _ _ _ k => lv_aload_n X.1.1 X.1.2.1 dX6_writeNumber_17 rfl (lv_at hl 0 rfl) k) ?_
    refine J.pu (fun _ _ _ _ k => lv_bipush (v := 48) X.1.1 X.1.2.1 dX6_writeNumber_18 (by decide) k) ?_
    refine J.pu (fun _ _ _ _ k => lv_iload_n X.1.1 X.1.2.1 dX6_writeNumber_20 rfl (lv_at hl 1 rfl) k) ?_
    refine J.pu (fun _ _ _ _ k => lv_bipush (v := 10) X.1.1 X.1.2.1 dX6_writeNumber_21 (by decide) k) ?_
    refine J.pu (fun _ _ _ _ k => lv_irem X.1.1 X.1.2.1 dX6_writeNumber_23 (by decide) k) ?_
    refine J.pu (fun _ _ _ _ k => lv_iadd X.1.1 X.1.2.1 dX6_writeNumber_24 k) ?_
    refine J.bd' (fun v25 M25 h25 => ?_)
    refine J.cV (q := (RX6, TX6, 26)) (ci := 5) (As := [.int (48 + (a1 - a1 / 10 * 10))]) (rest := []) (s2 := []) X ⟨rfl, rfl⟩ (ct_X6_write l hm σ n B17 (48 + (a1 - a1 / 10 * 10))) (mup_of h25) (fun _ _ => cwV 1 X.1.2.2.2.2 (lw_V q3296 q3298 qs135 q174 q3299) rfl rfl rfl (by decide +kernel) ⟨(Nat.le_of_ble_eq_true rfl), (Nat.le_of_ble_eq_true rfl)⟩) mH_rc rfl rfl hl.1 rfl rfl (Nat.le_of_ble_eq_true rfl) dX6_writeNumber_25 ?_
    exact J.vret (vr := fun t : Unit × jM => jrV t.1) (fin := fun r : Unit × jM => mH mo A σ r.2) (t := t) X hr (by rfl) (by rfl) dX6_writeNumber_28
  unfold X6_writeNumber
  refine J.pu (fun _ _ _ _ k => lv_iload_n X.1.1 X.1.2.1 dX6_writeNumber_0 rfl (lv_at hl 1 rfl) k) ?_
  refine J.pu (fun _ _ _ _ k => lv_bipush (v := 9) X.1.1 X.1.2.1 dX6_writeNumber_1 (by decide) k) ?_
  refine J.br (fun _ _ _ _ ka kb => lv_icmp_le (tgt := 17) X.1.1 X.1.2.1 dX6_writeNumber_3 (by decide) ka kb) (fun c3 => ?_) (fun c3 => ?_)
  · exact j17 M ls (lv_sub hl [0, 1] rfl)
  · refine J.pu (fun _ _ _ _ k => lv_aload_n X.1.1 X.1.2.1 dX6_writeNumber_6 rfl (lv_at hl 0 rfl) k) ?_
    refine J.pu (fun _ _ _ _ k => lv_bipush (v := 48) X.1.1 X.1.2.1 dX6_writeNumber_7 (by decide) k) ?_
    refine J.pu (fun _ _ _ _ k => lv_iload_n X.1.1 X.1.2.1 dX6_writeNumber_9 rfl (lv_at hl 1 rfl) k) ?_
    refine J.pu (fun _ _ _ _ k => lv_bipush (v := 10) X.1.1 X.1.2.1 dX6_writeNumber_10 (by decide) k) ?_
    refine J.pu (fun _ _ _ _ k => lv_idiv X.1.1 X.1.2.1 dX6_writeNumber_12 (by decide) k) ?_
    refine J.pu (fun _ _ _ _ k => lv_iadd X.1.1 X.1.2.1 dX6_writeNumber_13 k) ?_
    refine J.bd' (fun v14 M14 h14 => ?_)
    refine J.cV (q := (RX6, TX6, 26)) (ci := 5) (As := [.int (48 + (a1 / 10))]) (rest := []) (s2 := []) X ⟨rfl, rfl⟩ (ct_X6_write l hm σ n M (48 + (a1 / 10))) (mup_of h14) (fun _ _ => cwV 1 X.1.2.2.2.2 (lw_V q3296 q3298 qs135 q174 q3299) rfl rfl rfl (by decide +kernel) ⟨(Nat.le_of_ble_eq_true rfl), (Nat.le_of_ble_eq_true rfl)⟩) mH_rc rfl rfl hl.1 rfl rfl (Nat.le_of_ble_eq_true rfl) dX6_writeNumber_14 ?_
    exact j17 M14 ls (lv_sub hl [0, 1] rfl)
noncomputable def X6_printChutes_j81 (n : Nat) (rec12 : Int32 × jM → Option (Int32 × jM)) (rec60 : Int32 × jM → Option (Int32 × jM)) (x1_60 : Int32) (x2_81 : Int32) (B81 : jM) : Option (Int32 × jM) :=
  (X6_ofChute n B81 x1_60 (8 + x2_81)).bind fun v88 => bd (X6_writeNumber n B81 v88) fun v91 M91 => rec60 ((x2_81 + 1), M91)
noncomputable def X6_printChutes_h60 (n : Nat) (rec12 : Int32 × jM → Option (Int32 × jM)) (x1_60 : Int32) (rec60 : Int32 × jM → Option (Int32 × jM)) (q60 : Int32 × jM) : Option (Int32 × jM) :=
  let x2_60 := q60.1; let B60 := q60.2; (X6_ofChute n B60 x1_60 6).bind fun v65 => if v65 ≤ x2_60 then (rec12 ((x1_60 + 1), B60)) else (if x2_60 ≤ 0 then (X6_printChutes_j81 n rec12 rec60 x1_60 x2_60 B60) else (bd (X6_write n B60 44) fun v78 M78 => X6_printChutes_j81 n rec12 rec60 x1_60 x2_60 M78))
noncomputable def X6_printChutes_j55 (n : Nat) (rec12 : Int32 × jM → Option (Int32 × jM)) (x1_55 : Int32) (s1_55 : Int32) (B55 : jM) : Option (Int32 × jM) :=
  bd (X6_write n B55 s1_55) fun v55 M55 => jloop (X6_printChutes_h60 n rec12 x1_55) n (0, M55)
noncomputable def X6_printChutes_j32 (n : Nat) (rec12 : Int32 × jM → Option (Int32 × jM)) (x1_32 : Int32) (B32 : jM) : Option (Int32 × jM) :=
  bd (X6_writeNumber n B32 x1_32) fun v34 M34 => (X6_ofChute n M34 x1_32 5).bind fun v41 => if v41 = 1 then (X6_printChutes_j55 n rec12 x1_32 58 M34) else (X6_printChutes_j55 n rec12 x1_32 120 M34)
noncomputable def X6_printChutes_h12 (n : Nat) (rec12 : Int32 × jM → Option (Int32 × jM)) (q12 : Int32 × jM) : Option (Int32 × jM) :=
  let x1_12 := q12.1; let B12 := q12.2; (mA B12 0 3).bind fun v18 => if v18 ≤ x1_12 then (some ((B12.2 25), B12)) else (if x1_12 ≤ 0 then (X6_printChutes_j32 n rec12 x1_12 B12) else (bd (X6_write n B12 32) fun v29 M29 => X6_printChutes_j32 n rec12 x1_12 M29))
noncomputable def X6_printChutes (n : Nat) (M : jM) : Option (Int32 × jM) :=
  jloop (X6_printChutes_h12 n) n (0, (mP (mP M 7 0) 25 0))
set_option maxHeartbeats 4000000 in
set_option maxRecDepth 100000 in
theorem ct_X6_printChutes (l : Launch) {G : jG} {mo : Nat} {A : Nat → Nat} (hm : mOK G mo A) (σ : jH) (n : Nat) (M : jM) : jCt l G yX6_printChutes (ws_ yX6_printChutes cX6_printChutes 3 (some .int)) 2 42 jrI [.ref mo] (mH mo A σ M) (mup mo A σ (X6_printChutes n M)) := by
  refine jCt.wm (lv := [(0, .ref mo)]) (plainFor_of_name (by decide)) (Nat.le_of_ble_eq_true rfl) rfl ?_
  intro t p e s m args below meth c ls X hr hnm hl
  have X : jCx p c cX6_printChutes 3 s m args RX6 G meth := X
  have L12 : ∀ (n12 : Nat) (x1_12 : Int32) (B12 : jM) (ls : Array Slot), lv_has ls 3 [(0, .ref mo), (1, .int x1_12)] → jGo l G 2 42 (mH mo A σ M) (fun r : Int32 × jM => mH mo A σ r.2) (fun t => jrI t.1) t p e s m args below meth c (jloop (X6_printChutes_h12 n) n12 (x1_12, B12)) (mH mo A σ B12) (F0 m 12 ls []) := by
    intro n12
    induction n12 with
    | zero => intro x1_12 B12 ls hl; exact J.nil_
    | succ n12 ih12 =>
      have L60 : ∀ (x1_60 : Int32) (n60 : Nat) (x2_60 : Int32) (B60 : jM) (ls : Array Slot), lv_has ls 3 [(0, .ref mo), (1, .int x1_60), (2, .int x2_60)] → jGo l G 2 42 (mH mo A σ M) (fun r : Int32 × jM => mH mo A σ r.2) (fun t => jrI t.1) t p e s m args below meth c (jloop (X6_printChutes_h60 n (jloop (X6_printChutes_h12 n) n12) x1_60) n60 (x2_60, B60)) (mH mo A σ B60) (F0 m 60 ls []) := by
        intro x1_60
        intro n60
        induction n60 with
        | zero => intro x2_60 B60 ls hl; exact J.nil_
        | succ n60 ih60 =>
          have j81 : ∀ (x2_81 : Int32) (B81 : jM) (ls : Array Slot), lv_has ls 3 [(0, .ref mo), (1, .int x1_60), (2, .int x2_81)] → jGo l G 2 42 (mH mo A σ M) (fun r : Int32 × jM => mH mo A σ r.2) (fun t => jrI t.1) t p e s m args below meth c (X6_printChutes_j81 n (jloop (X6_printChutes_h12 n) n12) (jloop (X6_printChutes_h60 n (jloop (X6_printChutes_h12 n) n12) x1_60) n60) x1_60 x2_81 B81) (mH mo A σ B81) (F0 m 81 ls []) := by
            intro x2_81 B81 ls hl
            unfold X6_printChutes_j81
            refine J.pu (fun _ _ _ _ k => lv_aload_n X.1.1 X.1.2.1 dX6_printChutes_81 rfl (lv_at hl 0 rfl) k) ?_
            refine J.pu (fun _ _ _ _ k => lv_aload_n X.1.1 X.1.2.1 dX6_printChutes_82 rfl (lv_at hl 0 rfl) k) ?_
            refine J.pu (fun _ _ _ _ k => lv_iload_n X.1.1 X.1.2.1 dX6_printChutes_83 rfl (lv_at hl 1 rfl) k) ?_
            refine J.pu (fun _ _ _ _ k => lv_bipush (v := 8) X.1.1 X.1.2.1 dX6_printChutes_84 (by decide) k) ?_
            refine J.pu (fun _ _ _ _ k => lv_iload_n X.1.1 X.1.2.1 dX6_printChutes_86 rfl (lv_at hl 2 rfl) k) ?_
            refine J.pu (fun _ _ _ _ k => lv_iadd X.1.1 X.1.2.1 dX6_printChutes_87 k) ?_
            refine J.bind (fun v88 h88 => ?_)
            refine J.cV (q := (RX6, TX6, 26)) (ci := 5) (As := [.int x1_60, .int (8 + x2_81)]) (rest := [.ref mo]) (s2 := [.int v88, .ref mo]) X ⟨rfl, rfl⟩ (ct_X6_ofChute l hm σ n B81 x1_60 (8 + x2_81)) (jrd_of h88) (fun _ _ => cwV 2 X.1.2.2.2.2 (lw_V q2908 q2910 qs77 q174 q2911) rfl rfl rfl (by decide +kernel) ⟨(Nat.le_of_ble_eq_true rfl), (Nat.le_of_ble_eq_true rfl)⟩) mH_rc rfl rfl hl.1 rfl rfl (Nat.le_of_ble_eq_true rfl) dX6_printChutes_88 ?_
            refine J.bd' (fun v91 M91 h91 => ?_)
            refine J.cV (q := (RX6, TX6, 26)) (ci := 5) (As := [.int v88]) (rest := []) (s2 := []) X ⟨rfl, rfl⟩ (ct_X6_writeNumber l hm σ n B81 v88) (mup_of h91) (fun _ _ => cwV 1 X.1.2.2.2.2 (lw_V q3304 q3306 qs136 q174 q3307) rfl rfl rfl (by decide +kernel) ⟨(Nat.le_of_ble_eq_true rfl), (Nat.le_of_ble_eq_true rfl)⟩) mH_rc rfl rfl hl.1 rfl rfl (Nat.le_of_ble_eq_true rfl) dX6_printChutes_91 ?_
            refine J.iinc (k := 2) (lv' := [(2, .int (x2_81 + 1)), (0, .ref mo), (1, .int x1_60)]) (w := (x2_81 + 1)) X.1.1 X.1.2.1 dX6_printChutes_94 hl rfl rfl (by decide) (by first | rfl | simp [va_rf_cat, jcI, jcA, jcJ, jcD, jcF]) (fun ls hl => ?_)
            refine J.pu (fun _ _ _ _ k => lv_goto (tgt := 60) X.1.1 X.1.2.1 dX6_printChutes_97 (by decide) k) ?_
            exact ih60 (x2_81 + 1) M91 ls (lv_sub hl [1, 2, 0] rfl)
          intro x2_60 B60 ls hl
          refine J.eq (jloop_s _ _ _) ?_
          dsimp only [X6_printChutes_h60]
          refine J.pu (fun _ _ _ _ k => lv_iload_n X.1.1 X.1.2.1 dX6_printChutes_60 rfl (lv_at hl 2 rfl) k) ?_
          refine J.pu (fun _ _ _ _ k => lv_aload_n X.1.1 X.1.2.1 dX6_printChutes_61 rfl (lv_at hl 0 rfl) k) ?_
          refine J.pu (fun _ _ _ _ k => lv_iload_n X.1.1 X.1.2.1 dX6_printChutes_62 rfl (lv_at hl 1 rfl) k) ?_
          refine J.pu (fun _ _ _ _ k => lv_bipush (v := 6) X.1.1 X.1.2.1 dX6_printChutes_63 (by decide) k) ?_
          refine J.bind (fun v65 h65 => ?_)
          refine J.cV (q := (RX6, TX6, 26)) (ci := 5) (As := [.int x1_60, .int 6]) (rest := [.int x2_60]) (s2 := [.int v65, .int x2_60]) X ⟨rfl, rfl⟩ (ct_X6_ofChute l hm σ n B60 x1_60 6) (jrd_of h65) (fun _ _ => cwV 2 X.1.2.2.2.2 (lw_V q2908 q2910 qs77 q174 q2911) rfl rfl rfl (by decide +kernel) ⟨(Nat.le_of_ble_eq_true rfl), (Nat.le_of_ble_eq_true rfl)⟩) mH_rc rfl rfl hl.1 rfl rfl (Nat.le_of_ble_eq_true rfl) dX6_printChutes_65 ?_
          refine J.br (fun _ _ _ _ ka kb => lv_icmp_ge (tgt := 100) X.1.1 X.1.2.1 dX6_printChutes_68 (by decide) ka kb) (fun c68 => ?_) (fun c68 => ?_)
          · refine J.iinc (k := 1) (lv' := [(1, .int (x1_60 + 1)), (0, .ref mo), (2, .int x2_60)]) (w := (x1_60 + 1)) X.1.1 X.1.2.1 dX6_printChutes_100 hl rfl rfl (by decide) (by first | rfl | simp [va_rf_cat, jcI, jcA, jcJ, jcD, jcF]) (fun ls hl => ?_)
            refine J.pu (fun _ _ _ _ k => lv_goto (tgt := 12) X.1.1 X.1.2.1 dX6_printChutes_103 (by decide) k) ?_
            exact ih12 (x1_60 + 1) B60 ls (lv_sub hl [1, 0] rfl)
          · refine J.pu (fun _ _ _ _ k => lv_iload_n X.1.1 X.1.2.1 dX6_printChutes_71 rfl (lv_at hl 2 rfl) k) ?_
            refine J.br (fun _ _ _ _ ka kb => lv_if_le (tgt := 81) X.1.1 X.1.2.1 dX6_printChutes_72 (by decide) ka kb) (fun c72 => ?_) (fun c72 => ?_)
            · exact j81 x2_60 B60 ls (lv_sub hl [0, 1, 2] rfl)
            · refine J.pu (fun _ _ _ _ k => lv_aload_n X.1.1 X.1.2.1 dX6_printChutes_75 rfl (lv_at hl 0 rfl) k) ?_
              refine J.pu (fun _ _ _ _ k => lv_bipush (v := 44) X.1.1 X.1.2.1 dX6_printChutes_76 (by decide) k) ?_
              refine J.bd' (fun v78 M78 h78 => ?_)
              refine J.cV (q := (RX6, TX6, 26)) (ci := 5) (As := [.int 44]) (rest := []) (s2 := []) X ⟨rfl, rfl⟩ (ct_X6_write l hm σ n B60 44) (mup_of h78) (fun _ _ => cwV 1 X.1.2.2.2.2 (lw_V q3296 q3298 qs135 q174 q3299) rfl rfl rfl (by decide +kernel) ⟨(Nat.le_of_ble_eq_true rfl), (Nat.le_of_ble_eq_true rfl)⟩) mH_rc rfl rfl hl.1 rfl rfl (Nat.le_of_ble_eq_true rfl) dX6_printChutes_78 ?_
              exact j81 x2_60 M78 ls (lv_sub hl [0, 1, 2] rfl)
      have j55 : ∀ (x1_55 : Int32) (s1_55 : Int32) (B55 : jM) (ls : Array Slot), lv_has ls 3 [(0, .ref mo), (1, .int x1_55)] → jGo l G 2 42 (mH mo A σ M) (fun r : Int32 × jM => mH mo A σ r.2) (fun t => jrI t.1) t p e s m args below meth c (X6_printChutes_j55 n (jloop (X6_printChutes_h12 n) n12) x1_55 s1_55 B55) (mH mo A σ B55) (F0 m 55 ls [.int s1_55, .ref mo]) := by
        intro x1_55 s1_55 B55 ls hl
        unfold X6_printChutes_j55
        refine J.bd' (fun v55 M55 h55 => ?_)
        refine J.cV (q := (RX6, TX6, 26)) (ci := 5) (As := [.int s1_55]) (rest := []) (s2 := []) X ⟨rfl, rfl⟩ (ct_X6_write l hm σ n B55 s1_55) (mup_of h55) (fun _ _ => cwV 1 X.1.2.2.2.2 (lw_V q3296 q3298 qs135 q174 q3299) rfl rfl rfl (by decide +kernel) ⟨(Nat.le_of_ble_eq_true rfl), (Nat.le_of_ble_eq_true rfl)⟩) mH_rc rfl rfl hl.1 rfl rfl (Nat.le_of_ble_eq_true rfl) dX6_printChutes_55 ?_
        refine J.pu (fun _ _ _ _ k => lv_iconst (v := 0) X.1.1 X.1.2.1 dX6_printChutes_58 (by decide) k) ?_
        refine J.istore_n (i := 2) (lv' := [(2, .int 0), (0, .ref mo), (1, .int x1_55)]) X.1.1 X.1.2.1 dX6_printChutes_59 rfl hl (by decide) (by first | rfl | simp [va_rf_cat, jcI, jcA, jcJ, jcD, jcF]) (fun ls hl => ?_)
        exact L60 x1_55 n 0 M55 ls (lv_sub hl [1, 2, 0] rfl)
      have j32 : ∀ (x1_32 : Int32) (B32 : jM) (ls : Array Slot), lv_has ls 3 [(0, .ref mo), (1, .int x1_32)] → jGo l G 2 42 (mH mo A σ M) (fun r : Int32 × jM => mH mo A σ r.2) (fun t => jrI t.1) t p e s m args below meth c (X6_printChutes_j32 n (jloop (X6_printChutes_h12 n) n12) x1_32 B32) (mH mo A σ B32) (F0 m 32 ls []) := by
        intro x1_32 B32 ls hl
        unfold X6_printChutes_j32
        refine J.pu (fun _ _ _ _ k => lv_aload_n X.1.1 X.1.2.1 dX6_printChutes_32 rfl (lv_at hl 0 rfl) k) ?_
        refine J.pu (fun _ _ _ _ k => lv_iload_n X.1.1 X.1.2.1 dX6_printChutes_33 rfl (lv_at hl 1 rfl) k) ?_
        refine J.bd' (fun v34 M34 h34 => ?_)
        refine J.cV (q := (RX6, TX6, 26)) (ci := 5) (As := [.int x1_32]) (rest := []) (s2 := []) X ⟨rfl, rfl⟩ (ct_X6_writeNumber l hm σ n B32 x1_32) (mup_of h34) (fun _ _ => cwV 1 X.1.2.2.2.2 (lw_V q3304 q3306 qs136 q174 q3307) rfl rfl rfl (by decide +kernel) ⟨(Nat.le_of_ble_eq_true rfl), (Nat.le_of_ble_eq_true rfl)⟩) mH_rc rfl rfl hl.1 rfl rfl (Nat.le_of_ble_eq_true rfl) dX6_printChutes_34 ?_
        refine J.pu (fun _ _ _ _ k => lv_aload_n X.1.1 X.1.2.1 dX6_printChutes_37 rfl (lv_at hl 0 rfl) k) ?_
        refine J.pu (fun _ _ _ _ k => lv_aload_n X.1.1 X.1.2.1 dX6_printChutes_38 rfl (lv_at hl 0 rfl) k) ?_
        refine J.pu (fun _ _ _ _ k => lv_iload_n X.1.1 X.1.2.1 dX6_printChutes_39 rfl (lv_at hl 1 rfl) k) ?_
        refine J.pu (fun _ _ _ _ k => lv_iconst (v := 5) X.1.1 X.1.2.1 dX6_printChutes_40 (by decide) k) ?_
        refine J.bind (fun v41 h41 => ?_)
        refine J.cV (q := (RX6, TX6, 26)) (ci := 5) (As := [.int x1_32, .int 5]) (rest := [.ref mo]) (s2 := [.int v41, .ref mo]) X ⟨rfl, rfl⟩ (ct_X6_ofChute l hm σ n M34 x1_32 5) (jrd_of h41) (fun _ _ => cwV 2 X.1.2.2.2.2 (lw_V q2908 q2910 qs77 q174 q2911) rfl rfl rfl (by decide +kernel) ⟨(Nat.le_of_ble_eq_true rfl), (Nat.le_of_ble_eq_true rfl)⟩) mH_rc rfl rfl hl.1 rfl rfl (Nat.le_of_ble_eq_true rfl) dX6_printChutes_41 ?_
        refine J.pu (fun _ _ _ _ k => lv_iconst (v := 1) X.1.1 X.1.2.1 dX6_printChutes_44 (by decide) k) ?_
        refine J.br (fun _ _ _ _ ka kb => lv_icmp_ne (tgt := 53) X.1.1 X.1.2.1 dX6_printChutes_45 (by decide) kb ka) (fun c45 => ?_) (fun c45 => ?_)
        · refine J.pu (fun _ _ _ _ k => lv_bipush (v := 58) X.1.1 X.1.2.1 dX6_printChutes_48 (by decide) k) ?_
          refine J.pu (fun _ _ _ _ k => lv_goto (tgt := 55) X.1.1 X.1.2.1 dX6_printChutes_50 (by decide) k) ?_
          exact j55 x1_32 58 M34 ls (lv_sub hl [0, 1] rfl)
        · refine J.pu (fun _ _ _ _ k => lv_bipush (v := 120) X.1.1 X.1.2.1 dX6_printChutes_53 (by decide) k) ?_
          exact j55 x1_32 120 M34 ls (lv_sub hl [0, 1] rfl)
      intro x1_12 B12 ls hl
      refine J.eq (jloop_s _ _ _) ?_
      dsimp only [X6_printChutes_h12]
      refine J.pu (fun _ _ _ _ k => lv_iload_n X.1.1 X.1.2.1 dX6_printChutes_12 rfl (lv_at hl 1 rfl) k) ?_
      refine J.pu (fun _ _ _ _ k => lv_aload_n X.1.1 X.1.2.1 dX6_printChutes_13 rfl (lv_at hl 0 rfl) k) ?_
      refine J.mgA (k := 0) X (by decide) q2730 rfl rfl dX6_printChutes_14 ?_
      refine J.pu (fun _ _ _ _ k => lv_iconst (v := 3) X.1.1 X.1.2.1 dX6_printChutes_17 (by decide) k) ?_
      refine J.mld X hm (by decide) dX6_printChutes_18 (fun v18 h18 => ?_)
      refine J.br (fun _ _ _ _ ka kb => lv_icmp_ge (tgt := 106) X.1.1 X.1.2.1 dX6_printChutes_19 (by decide) ka kb) (fun c19 => ?_) (fun c19 => ?_)
      · refine J.pu (fun _ _ _ _ k => lv_aload_n X.1.1 X.1.2.1 dX6_printChutes_106 rfl (lv_at hl 0 rfl) k) ?_
        refine J.mgS (k := 25) X (by decide) q2755 rfl rfl dX6_printChutes_107 ?_
        exact J.iret (vr := fun t : Int32 × jM => jrI t.1) (fin := fun r : Int32 × jM => mH mo A σ r.2) (t := t) X hr (by rfl) (by rfl) dX6_printChutes_110
      · refine J.pu (fun _ _ _ _ k => lv_iload_n X.1.1 X.1.2.1 dX6_printChutes_22 rfl (lv_at hl 1 rfl) k) ?_
        refine J.br (fun _ _ _ _ ka kb => lv_if_le (tgt := 32) X.1.1 X.1.2.1 dX6_printChutes_23 (by decide) ka kb) (fun c23 => ?_) (fun c23 => ?_)
        · exact j32 x1_12 B12 ls (lv_sub hl [0, 1] rfl)
        · refine J.pu (fun _ _ _ _ k => lv_aload_n X.1.1 X.1.2.1 dX6_printChutes_26 rfl (lv_at hl 0 rfl) k) ?_
          refine J.pu (fun _ _ _ _ k => lv_bipush (v := 32) X.1.1 X.1.2.1 dX6_printChutes_27 (by decide) k) ?_
          refine J.bd' (fun v29 M29 h29 => ?_)
          refine J.cV (q := (RX6, TX6, 26)) (ci := 5) (As := [.int 32]) (rest := []) (s2 := []) X ⟨rfl, rfl⟩ (ct_X6_write l hm σ n B12 32) (mup_of h29) (fun _ _ => cwV 1 X.1.2.2.2.2 (lw_V q3296 q3298 qs135 q174 q3299) rfl rfl rfl (by decide +kernel) ⟨(Nat.le_of_ble_eq_true rfl), (Nat.le_of_ble_eq_true rfl)⟩) mH_rc rfl rfl hl.1 rfl rfl (Nat.le_of_ble_eq_true rfl) dX6_printChutes_29 ?_
          exact j32 x1_12 M29 ls (lv_sub hl [0, 1] rfl)
  unfold X6_printChutes
  refine J.pu (fun _ _ _ _ k => lv_aload_n X.1.1 X.1.2.1 dX6_printChutes_0 rfl (lv_at hl 0 rfl) k) ?_
  refine J.pu (fun _ _ _ _ k => lv_iconst (v := 0) X.1.1 X.1.2.1 dX6_printChutes_1 (by decide) k) ?_
  refine J.mpS (k := 7) X hm (by decide) q2737 rfl rfl rfl dX6_printChutes_2 ?_
  refine J.pu (fun _ _ _ _ k => lv_aload_n X.1.1 X.1.2.1 dX6_printChutes_5 rfl (lv_at hl 0 rfl) k) ?_
  refine J.pu (fun _ _ _ _ k => lv_iconst (v := 0) X.1.1 X.1.2.1 dX6_printChutes_6 (by decide) k) ?_
  refine J.mpS (k := 25) X hm (by decide) q2755 rfl rfl rfl dX6_printChutes_7 ?_
  refine J.pu (fun _ _ _ _ k => lv_iconst (v := 0) X.1.1 X.1.2.1 dX6_printChutes_10 (by decide) k) ?_
  refine J.istore_n (i := 1) (lv' := [(1, .int 0), (0, .ref mo)]) X.1.1 X.1.2.1 dX6_printChutes_11 rfl hl (by decide) (by first | rfl | simp [va_rf_cat, jcI, jcA, jcJ, jcD, jcF]) (fun ls hl => ?_)
  exact L12 n 0 (mP (mP M 7 0) 25 0) ls (lv_sub hl [1, 0] rfl)
noncomputable def X6_outputByte (n : Nat) (M : jM) (a1 : Int32) : Option (Int32 × jM) :=
  (X6_inRange n (mP M 7 0) a1 0 (((mP M 7 0).2 25) - 1)).bind fun v13 => if v13 = 0 then (some ((-1), (mP M 7 0))) else ((mA (mP M 7 0) 24 a1).bind fun v24 => some (v24, (mP M 7 0)))
set_option maxHeartbeats 4000000 in
set_option maxRecDepth 100000 in
theorem ct_X6_outputByte (l : Launch) {G : jG} {mo : Nat} {A : Nat → Nat} (hm : mOK G mo A) (σ : jH) (n : Nat) (M : jM) (a1 : Int32) : jCt l G yX6_outputByte (ws_ yX6_outputByte cX6_outputByte 2 (some .int)) 1 22 jrI [.ref mo, .int a1] (mH mo A σ M) (mup mo A σ (X6_outputByte n M a1)) := by
  refine jCt.wm (lv := [(0, .ref mo), (1, .int a1)]) (plainFor_of_name (by decide)) (Nat.le_of_ble_eq_true rfl) rfl ?_
  intro t p e s m args below meth c ls X hr hnm hl
  have X : jCx p c cX6_outputByte 2 s m args RX6 G meth := X
  unfold X6_outputByte
  refine J.pu (fun _ _ _ _ k => lv_aload_n X.1.1 X.1.2.1 dX6_outputByte_0 rfl (lv_at hl 0 rfl) k) ?_
  refine J.pu (fun _ _ _ _ k => lv_iconst (v := 0) X.1.1 X.1.2.1 dX6_outputByte_1 (by decide) k) ?_
  refine J.mpS (k := 7) X hm (by decide) q2737 rfl rfl rfl dX6_outputByte_2 ?_
  refine J.pu (fun _ _ _ _ k => lv_iload_n X.1.1 X.1.2.1 dX6_outputByte_5 rfl (lv_at hl 1 rfl) k) ?_
  refine J.pu (fun _ _ _ _ k => lv_iconst (v := 0) X.1.1 X.1.2.1 dX6_outputByte_6 (by decide) k) ?_
  refine J.pu (fun _ _ _ _ k => lv_aload_n X.1.1 X.1.2.1 dX6_outputByte_7 rfl (lv_at hl 0 rfl) k) ?_
  refine J.mgS (k := 25) X (by decide) q2755 rfl rfl dX6_outputByte_8 ?_
  refine J.pu (fun _ _ _ _ k => lv_iconst (v := 1) X.1.1 X.1.2.1 dX6_outputByte_11 (by decide) k) ?_
  refine J.pu (fun _ _ _ _ k => lv_isub X.1.1 X.1.2.1 dX6_outputByte_12 k) ?_
  refine J.bind (fun v13 h13 => ?_)
  refine J.cS (As := [.int a1, .int 0, .int (((mP M 7 0).2 25) - 1)]) (rest := []) (s2 := [.int v13]) X ⟨rfl, rfl⟩ (ct_X6_inRange l hm σ n (mP M 7 0) a1 0 (((mP M 7 0).2 25) - 1)) (jrd_of h13) (fun _ _ => va_cwS 3 X.1.2.2.2.2 (lw_S q2825 q2826 q174 q2827) rfl rfl rfl (by decide +kernel) ⟨(Nat.le_of_ble_eq_true rfl), (Nat.le_of_ble_eq_true rfl)⟩) rfl hl.1 rfl rfl (Nat.le_of_ble_eq_true rfl) dX6_outputByte_13 ?_
  refine J.br (fun _ _ _ _ ka kb => lv_if_eq (tgt := 28) X.1.1 X.1.2.1 dX6_outputByte_16 (by decide) ka kb) (fun c16 => ?_) (fun c16 => ?_)
  · refine J.pu (fun _ _ _ _ k => lv_iconst (v := (-1)) X.1.1 X.1.2.1 dX6_outputByte_28 (by decide) k) ?_
    exact J.iret (vr := fun t : Int32 × jM => jrI t.1) (fin := fun r : Int32 × jM => mH mo A σ r.2) (t := t) X hr (by rfl) (by rfl) dX6_outputByte_29
  · refine J.pu (fun _ _ _ _ k => lv_aload_n X.1.1 X.1.2.1 dX6_outputByte_19 rfl (lv_at hl 0 rfl) k) ?_
    refine J.mgA (k := 24) X (by decide) q2754 rfl rfl dX6_outputByte_20 ?_
    refine J.pu (fun _ _ _ _ k => lv_iload_n X.1.1 X.1.2.1 dX6_outputByte_23 rfl (lv_at hl 1 rfl) k) ?_
    refine J.mld X hm (by decide) dX6_outputByte_24 (fun v24 h24 => ?_)
    refine J.pu (fun _ _ _ _ k => lv_goto (tgt := 29) X.1.1 X.1.2.1 dX6_outputByte_25 (by decide) k) ?_
    exact J.iret (vr := fun t : Int32 × jM => jrI t.1) (fin := fun r : Int32 × jM => mH mo A σ r.2) (t := t) X hr (by rfl) (by rfl) dX6_outputByte_29
noncomputable def X6_saveState (n : Nat) (M : jM) : Option (Int32 × jM) :=
  bd (X6_copies n (mP M 7 0) 0 0 3 0) fun v15 M15 => (mA (mP M15 6 1) 0 5).bind fun v28 => some (v28, (mP M15 6 1))
set_option maxHeartbeats 4000000 in
set_option maxRecDepth 100000 in
theorem ct_X6_saveState (l : Launch) {G : jG} {mo : Nat} {A : Nat → Nat} (hm : mOK G mo A) (σ : jH) (n : Nat) (M : jM) : jCt l G yX6_saveState (ws_ yX6_saveState cX6_saveState 1 (some .int)) 1 24 jrI [.ref mo] (mH mo A σ M) (mup mo A σ (X6_saveState n M)) := by
  refine jCt.wm (lv := [(0, .ref mo)]) (plainFor_of_name (by decide)) (Nat.le_of_ble_eq_true rfl) rfl ?_
  intro t p e s m args below meth c ls X hr hnm hl
  have X : jCx p c cX6_saveState 1 s m args RX6 G meth := X
  unfold X6_saveState
  refine J.pu (fun _ _ _ _ k => lv_aload_n X.1.1 X.1.2.1 dX6_saveState_0 rfl (lv_at hl 0 rfl) k) ?_
  refine J.pu (fun _ _ _ _ k => lv_iconst (v := 0) X.1.1 X.1.2.1 dX6_saveState_1 (by decide) k) ?_
  refine J.mpS (k := 7) X hm (by decide) q2737 rfl rfl rfl dX6_saveState_2 ?_
  refine J.pu (fun _ _ _ _ k => lv_aload_n X.1.1 X.1.2.1 dX6_saveState_5 rfl (lv_at hl 0 rfl) k) ?_
  refine J.mgA (k := 0) X (by decide) q2730 rfl rfl dX6_saveState_6 ?_
  refine J.pu (fun _ _ _ _ k => lv_iconst (v := 0) X.1.1 X.1.2.1 dX6_saveState_9 (by decide) k) ?_
  refine J.pu (fun _ _ _ _ k => lv_aload_n X.1.1 X.1.2.1 dX6_saveState_10 rfl (lv_at hl 0 rfl) k) ?_
  refine J.mgA (k := 3) X (by decide) q2733 rfl rfl dX6_saveState_11 ?_
  refine J.pu (fun _ _ _ _ k => lv_iconst (v := 0) X.1.1 X.1.2.1 dX6_saveState_14 (by decide) k) ?_
  refine J.bd' (fun v15 M15 h15 => ?_)
  refine J.cS (As := [.ref (A 0), .int 0, .ref (A 3), .int 0]) (rest := []) (s2 := []) X ⟨rfl, rfl⟩ (ct_X6_copies l hm σ n (mP M 7 0) 0 0 3 0 (by decide) (by decide)) (mup_of h15) (fun _ _ => va_cwS 4 X.1.2.2.2.2 (lw_S q2832 q2833 q174 q2834) rfl rfl rfl (by decide +kernel) ⟨(Nat.le_of_ble_eq_true rfl), (Nat.le_of_ble_eq_true rfl)⟩) rfl hl.1 rfl rfl (Nat.le_of_ble_eq_true rfl) dX6_saveState_15 ?_
  refine J.pu (fun _ _ _ _ k => lv_aload_n X.1.1 X.1.2.1 dX6_saveState_18 rfl (lv_at hl 0 rfl) k) ?_
  refine J.pu (fun _ _ _ _ k => lv_iconst (v := 1) X.1.1 X.1.2.1 dX6_saveState_19 (by decide) k) ?_
  refine J.mpB (k := 6) X hm (by decide) q2736 rfl rfl rfl (by decide) dX6_saveState_20 ?_
  refine J.pu (fun _ _ _ _ k => lv_aload_n X.1.1 X.1.2.1 dX6_saveState_23 rfl (lv_at hl 0 rfl) k) ?_
  refine J.mgA (k := 0) X (by decide) q2730 rfl rfl dX6_saveState_24 ?_
  refine J.pu (fun _ _ _ _ k => lv_iconst (v := 5) X.1.1 X.1.2.1 dX6_saveState_27 (by decide) k) ?_
  refine J.mld X hm (by decide) dX6_saveState_28 (fun v28 h28 => ?_)
  exact J.iret (vr := fun t : Int32 × jM => jrI t.1) (fin := fun r : Int32 × jM => mH mo A σ r.2) (t := t) X hr (by rfl) (by rfl) dX6_saveState_29
noncomputable def X6_restoreState_j18 (n : Nat) (s1_18 : Int32) (B18 : jM) : Option (Int32 × jM) :=
  bd (X6_fails n B18 s1_18 1) fun v19 M19 => if v19 = 0 then (bd (X6_copies n M19 3 0 0 0) fun v37 M37 => (mA (mP M37 5 0) 0 5).bind fun v50 => some (v50, (mP M37 5 0))) else (some (0, M19))
noncomputable def X6_restoreState (n : Nat) (M : jM) : Option (Int32 × jM) :=
  if ((mP M 7 0).2 6) = 0 then (X6_restoreState_j18 n 1 (mP M 7 0)) else (X6_restoreState_j18 n 0 (mP M 7 0))
set_option maxHeartbeats 4000000 in
set_option maxRecDepth 100000 in
theorem ct_X6_restoreState (l : Launch) {G : jG} {mo : Nat} {A : Nat → Nat} (hm : mOK G mo A) (σ : jH) (n : Nat) (M : jM) : jCt l G yX6_restoreState (ws_ yX6_restoreState cX6_restoreState 1 (some .int)) 1 24 jrI [.ref mo] (mH mo A σ M) (mup mo A σ (X6_restoreState n M)) := by
  refine jCt.wm (lv := [(0, .ref mo)]) (plainFor_of_name (by decide)) (Nat.le_of_ble_eq_true rfl) rfl ?_
  intro t p e s m args below meth c ls X hr hnm hl
  have X : jCx p c cX6_restoreState 1 s m args RX6 G meth := X
  have j18 : ∀ (s1_18 : Int32) (B18 : jM) (ls : Array Slot), lv_has ls 1 [(0, .ref mo)] → jGo l G 1 24 (mH mo A σ M) (fun r : Int32 × jM => mH mo A σ r.2) (fun t => jrI t.1) t p e s m args below meth c (X6_restoreState_j18 n s1_18 B18) (mH mo A σ B18) (F0 m 18 ls [.int s1_18, .ref mo]) := by
    intro s1_18 B18 ls hl
    unfold X6_restoreState_j18
    refine J.pu (fun _ _ _ _ k => lv_iconst (v := 1) X.1.1 X.1.2.1 dX6_restoreState_18 (by decide) k) ?_
    refine J.bd' (fun v19 M19 h19 => ?_)
    refine J.cV (q := (RX6, TX6, 26)) (ci := 5) (As := [.int s1_18, .int 1]) (rest := []) (s2 := [.int v19]) X ⟨rfl, rfl⟩ (ct_X6_fails l hm σ n B18 s1_18 1) (mup_of h19) (fun _ _ => cwV 2 X.1.2.2.2.2 (lw_V q3075 q3077 qs111 q174 q3078) rfl rfl rfl (by decide +kernel) ⟨(Nat.le_of_ble_eq_true rfl), (Nat.le_of_ble_eq_true rfl)⟩) mH_rc rfl rfl hl.1 rfl rfl (Nat.le_of_ble_eq_true rfl) dX6_restoreState_19 ?_
    refine J.br (fun _ _ _ _ ka kb => lv_if_eq (tgt := 27) X.1.1 X.1.2.1 dX6_restoreState_22 (by decide) ka kb) (fun c22 => ?_) (fun c22 => ?_)
    · refine J.pu (fun _ _ _ _ k => lv_aload_n X.1.1 X.1.2.1 dX6_restoreState_27 rfl (lv_at hl 0 rfl) k) ?_
      refine J.mgA (k := 3) X (by decide) q2733 rfl rfl dX6_restoreState_28 ?_
      refine J.pu (fun _ _ _ _ k => lv_iconst (v := 0) X.1.1 X.1.2.1 dX6_restoreState_31 (by decide) k) ?_
      refine J.pu (fun _ _ _ _ k => lv_aload_n X.1.1 X.1.2.1 dX6_restoreState_32 rfl (lv_at hl 0 rfl) k) ?_
      refine J.mgA (k := 0) X (by decide) q2730 rfl rfl dX6_restoreState_33 ?_
      refine J.pu (fun _ _ _ _ k => lv_iconst (v := 0) X.1.1 X.1.2.1 dX6_restoreState_36 (by decide) k) ?_
      refine J.bd' (fun v37 M37 h37 => ?_)
      refine J.cS (As := [.ref (A 3), .int 0, .ref (A 0), .int 0]) (rest := []) (s2 := []) X ⟨rfl, rfl⟩ (ct_X6_copies l hm σ n M19 3 0 0 0 (by decide) (by decide)) (mup_of h37) (fun _ _ => va_cwS 4 X.1.2.2.2.2 (lw_S q2832 q2833 q174 q2834) rfl rfl rfl (by decide +kernel) ⟨(Nat.le_of_ble_eq_true rfl), (Nat.le_of_ble_eq_true rfl)⟩) rfl hl.1 rfl rfl (Nat.le_of_ble_eq_true rfl) dX6_restoreState_37 ?_
      refine J.pu (fun _ _ _ _ k => lv_aload_n X.1.1 X.1.2.1 dX6_restoreState_40 rfl (lv_at hl 0 rfl) k) ?_
      refine J.pu (fun _ _ _ _ k => lv_iconst (v := 0) X.1.1 X.1.2.1 dX6_restoreState_41 (by decide) k) ?_
      refine J.mpS (k := 5) X hm (by decide) q2735 rfl rfl rfl dX6_restoreState_42 ?_
      refine J.pu (fun _ _ _ _ k => lv_aload_n X.1.1 X.1.2.1 dX6_restoreState_45 rfl (lv_at hl 0 rfl) k) ?_
      refine J.mgA (k := 0) X (by decide) q2730 rfl rfl dX6_restoreState_46 ?_
      refine J.pu (fun _ _ _ _ k => lv_iconst (v := 5) X.1.1 X.1.2.1 dX6_restoreState_49 (by decide) k) ?_
      refine J.mld X hm (by decide) dX6_restoreState_50 (fun v50 h50 => ?_)
      exact J.iret (vr := fun t : Int32 × jM => jrI t.1) (fin := fun r : Int32 × jM => mH mo A σ r.2) (t := t) X hr (by rfl) (by rfl) dX6_restoreState_51
    · refine J.pu (fun _ _ _ _ k => lv_iconst (v := 0) X.1.1 X.1.2.1 dX6_restoreState_25 (by decide) k) ?_
      exact J.iret (vr := fun t : Int32 × jM => jrI t.1) (fin := fun r : Int32 × jM => mH mo A σ r.2) (t := t) X hr (by rfl) (by rfl) dX6_restoreState_26
  unfold X6_restoreState
  refine J.pu (fun _ _ _ _ k => lv_aload_n X.1.1 X.1.2.1 dX6_restoreState_0 rfl (lv_at hl 0 rfl) k) ?_
  refine J.pu (fun _ _ _ _ k => lv_iconst (v := 0) X.1.1 X.1.2.1 dX6_restoreState_1 (by decide) k) ?_
  refine J.mpS (k := 7) X hm (by decide) q2737 rfl rfl rfl dX6_restoreState_2 ?_
  refine J.pu (fun _ _ _ _ k => lv_aload_n X.1.1 X.1.2.1 dX6_restoreState_5 rfl (lv_at hl 0 rfl) k) ?_
  refine J.pu (fun _ _ _ _ k => lv_aload_n X.1.1 X.1.2.1 dX6_restoreState_6 rfl (lv_at hl 0 rfl) k) ?_
  refine J.mgS (k := 6) X (by decide) q2736 rfl rfl dX6_restoreState_7 ?_
  refine J.br (fun _ _ _ _ ka kb => lv_if_ne (tgt := 17) X.1.1 X.1.2.1 dX6_restoreState_10 (by decide) kb ka) (fun c10 => ?_) (fun c10 => ?_)
  · refine J.pu (fun _ _ _ _ k => lv_iconst (v := 1) X.1.1 X.1.2.1 dX6_restoreState_13 (by decide) k) ?_
    refine J.pu (fun _ _ _ _ k => lv_goto (tgt := 18) X.1.1 X.1.2.1 dX6_restoreState_14 (by decide) k) ?_
    exact j18 1 (mP M 7 0) ls (lv_sub hl [0] rfl)
  · refine J.pu (fun _ _ _ _ k => lv_iconst (v := 0) X.1.1 X.1.2.1 dX6_restoreState_17 (by decide) k) ?_
    exact j18 0 (mP M 7 0) ls (lv_sub hl [0] rfl)
