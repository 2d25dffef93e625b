/-! the component, walked: printed by wip gen/comp.py -/
set_option maxRecDepth 100000
noncomputable def X6h_begins_h2 (G : jG) (n : Nat) (this : Nat) (a1 : Int32) (a2 : Int32) (rec2 : Int32 × jH → Option (Unit × jH)) (q2 : Int32 × jH) : Option (Unit × jH) :=
  let x3_2 := q2.1; let B2 := q2.2; if 525 ≤ x3_2 then ((gR B2 (some this) 5 0).bind fun v23 => (sI G B2 v23 0 0 a1).bind fun S28 => (gR S28 (some this) 5 0).bind fun v30 => (sI G S28 v30 0 1 a2).bind fun S35 => (gR S35 (some this) 5 0).bind fun v37 => (sI G S35 v37 0 6 3).bind fun S43 => some ((), S43)) else ((gR B2 (some this) 5 0).bind fun v10 => (sI G B2 v10 0 x3_2 0).bind fun S15 => rec2 ((x3_2 + 1), S15))
noncomputable def X6h_begins_b (G : jG) (n : Nat) (σ : jH) (this : Nat) (a1 : Int32) (a2 : Int32) : Option (Unit × jH) :=
  jloop (X6h_begins_h2 G n this a1 a2) n (0, σ)
noncomputable def X6h_begins (G : jG) (n : Nat) (σ : jH) (this : Nat) (a1 : Int32) (a2 : Int32) : Option (Unit × jH) := jck σ (X6h_begins_b G n σ this a1 a2)
set_option maxHeartbeats 4000000 in
set_option maxRecDepth 100000 in
theorem ct_X6h_begins (l : Launch) (G : jG) (n : Nat) (σ : jH) (this : Nat) (a1 : Int32) (a2 : Int32) : jCt l G yX6_begins (ws_ yX6_begins cX6_begins 4 none) 0 0 jrV [.ref this, .int a1, .int a2] σ (X6h_begins G n σ this a1 a2) := by
  refine jCt.wr (lv := [(0, .ref this), (1, .int a1), (2, .int a2)]) (plainFor_of_name (by decide)) (Nat.le_of_ble_eq_true rfl) rfl ?_
  intro t p e s m args below meth c ls X hr hnm hl
  have X : jCx p c cX6_begins 4 s m args RX6 G meth := X
  have L2 : ∀ (n2 : Nat) (x3_2 : Int32) (B2 : jH) (ls : Array Slot), lv_has ls 4 [(0, .ref this), (1, .int a1), (2, .int a2), (3, .int x3_2)] → jGo l G 0 0 σ (Prod.snd : Unit × jH → jH) (fun t => jrV t.1) t p e s m args below meth c (jloop (X6h_begins_h2 G n this a1 a2) n2 (x3_2, B2)) B2 (F0 m 2 ls []) := by
    intro n2
    induction n2 with
    | zero => intro x3_2 B2 ls hl; exact J.nil_
    | succ n2 ih2 =>
      intro x3_2 B2 ls hl
      refine J.eq (jloop_s _ _ _) ?_
      dsimp only [X6h_begins_h2]
      refine J.pu (fun _ _ _ _ k => lv_iload_n X.1.1 X.1.2.1 dX6_begins_2 rfl (lv_at hl 3 rfl) k) ?_
      refine J.pu (fun _ _ _ _ k => lv_sipush (v := 525) X.1.1 X.1.2.1 dX6_begins_3 (by decide) k) ?_
      refine J.br (fun _ _ _ _ ka kb => lv_icmp_ge (tgt := 22) X.1.1 X.1.2.1 dX6_begins_6 (by decide) ka kb) (fun c6 => ?_) (fun c6 => ?_)
      · refine J.pu (fun _ _ _ _ k => lv_aload_n X.1.1 X.1.2.1 dX6_begins_22 rfl (lv_at hl 0 rfl) k) ?_
        refine J.getR (k := 0) (ci := 5) X in_X6 (show jCl[5]? = some (RX6, TX6, 26) from rfl) (by decide) q2730 (fun _ h => h) dX6_begins_23 (fun v23 h23 => ?_)
        refine J.pu (fun _ _ _ _ k => lv_iconst (v := 0) X.1.1 X.1.2.1 dX6_begins_26 (by decide) k) ?_
        refine J.pu (fun _ _ _ _ k => lv_iload_n X.1.1 X.1.2.1 dX6_begins_27 rfl (lv_at hl 1 rfl) k) ?_
        refine J.sI0 X dX6_begins_28 (fun S28 h28 => ?_)
        refine J.pu (fun _ _ _ _ k => lv_aload_n X.1.1 X.1.2.1 dX6_begins_29 rfl (lv_at hl 0 rfl) k) ?_
        refine J.getR (k := 0) (ci := 5) X in_X6 (show jCl[5]? = some (RX6, TX6, 26) from rfl) (by decide) q2730 (fun _ h => h) dX6_begins_30 (fun v30 h30 => ?_)
        refine J.pu (fun _ _ _ _ k => lv_iconst (v := 1) X.1.1 X.1.2.1 dX6_begins_33 (by decide) k) ?_
        refine J.pu (fun _ _ _ _ k => lv_iload_n X.1.1 X.1.2.1 dX6_begins_34 rfl (lv_at hl 2 rfl) k) ?_
        refine J.sI0 X dX6_begins_35 (fun S35 h35 => ?_)
        refine J.pu (fun _ _ _ _ k => lv_aload_n X.1.1 X.1.2.1 dX6_begins_36 rfl (lv_at hl 0 rfl) k) ?_
        refine J.getR (k := 0) (ci := 5) X in_X6 (show jCl[5]? = some (RX6, TX6, 26) from rfl) (by decide) q2730 (fun _ h => h) dX6_begins_37 (fun v37 h37 => ?_)
        refine J.pu (fun _ _ _ _ k => lv_bipush (v := 6) X.1.1 X.1.2.1 dX6_begins_40 (by decide) k) ?_
        refine J.pu (fun _ _ _ _ k => lv_iconst (v := 3) X.1.1 X.1.2.1 dX6_begins_42 (by decide) k) ?_
        refine J.sI0 X dX6_begins_43 (fun S43 h43 => ?_)
        exact J.vret (vr := fun t : Unit × jH => jrV t.1) (fin := Prod.snd) (t := t) X hr (by rfl) (by rfl) dX6_begins_44
      · refine J.pu (fun _ _ _ _ k => lv_aload_n X.1.1 X.1.2.1 dX6_begins_9 rfl (lv_at hl 0 rfl) k) ?_
        refine J.getR (k := 0) (ci := 5) X in_X6 (show jCl[5]? = some (RX6, TX6, 26) from rfl) (by decide) q2730 (fun _ h => h) dX6_begins_10 (fun v10 h10 => ?_)
        refine J.pu (fun _ _ _ _ k => lv_iload_n X.1.1 X.1.2.1 dX6_begins_13 rfl (lv_at hl 3 rfl) k) ?_
        refine J.pu (fun _ _ _ _ k => lv_iconst (v := 0) X.1.1 X.1.2.1 dX6_begins_14 (by decide) k) ?_
        refine J.sI0 X dX6_begins_15 (fun S15 h15 => ?_)
        refine J.iinc (k := 3) (lv' := [(3, .int (x3_2 + 1)), (0, .ref this), (1, .int a1), (2, .int a2)]) (w := (x3_2 + 1)) X.1.1 X.1.2.1 dX6_begins_16 hl rfl rfl (by decide) (by first | rfl | simp [va_rf_cat, jcI, jcA, jcJ, jcD, jcF]) (fun ls hl => ?_)
        refine J.pu (fun _ _ _ _ k => lv_goto (tgt := 2) X.1.1 X.1.2.1 dX6_begins_19 (by decide) k) ?_
        exact ih2 (x3_2 + 1) S15 ls (lv_sub hl [1, 2, 3, 0] rfl)
  unfold X6h_begins_b
  refine J.pu (fun _ _ _ _ k => lv_iconst (v := 0) X.1.1 X.1.2.1 dX6_begins_0 (by decide) k) ?_
  refine J.istore_n (i := 3) (lv' := [(3, .int 0), (0, .ref this), (1, .int a1), (2, .int a2)]) X.1.1 X.1.2.1 dX6_begins_1 rfl hl (by decide) (by first | rfl | simp [va_rf_cat, jcI, jcA, jcJ, jcD, jcF]) (fun ls hl => ?_)
  exact L2 n 0 σ ls (lv_sub hl [1, 2, 3, 0] rfl)
noncomputable def X6h_addsChute_b (G : jG) (n : Nat) (σ : jH) (this : Nat) (a1 : Int32) (a2 : Int32) (a3 : Int32) (a4 : Int32) : Option (Unit × jH) :=
  (gR σ (some this) 5 0).bind fun v1 => (aI σ v1 0 3).bind fun v5 => (rc σ (some this) 5).bind fun o13 => bd (mcall G σ o13 (fun M => X6_putsChute n M v5 0 a1)) fun v13 S13 => (rc S13 (some this) 5).bind fun o21 => bd (mcall G S13 o21 (fun M => X6_putsChute n M v5 1 a2)) fun v21 S21 => (rc S21 (some this) 5).bind fun o29 => bd (mcall G S21 o29 (fun M => X6_putsChute n M v5 2 a3)) fun v29 S29 => (rc S29 (some this) 5).bind fun o38 => bd (mcall G S29 o38 (fun M => X6_putsChute n M v5 3 a4)) fun v38 S38 => (rc S38 (some this) 5).bind fun o46 => bd (mcall G S38 o46 (fun M => X6_putsChute n M v5 5 1)) fun v46 S46 => (gR S46 (some this) 5 0).bind fun v50 => (aI S46 v50 0 3).bind fun v55 => (sI G S46 v50 0 3 (v55 + 1)).bind fun S58 => some ((), S58)
noncomputable def X6h_addsChute (G : jG) (n : Nat) (σ : jH) (this : Nat) (a1 : Int32) (a2 : Int32) (a3 : Int32) (a4 : Int32) : Option (Unit × jH) := jck σ (X6h_addsChute_b G n σ this a1 a2 a3 a4)
set_option maxHeartbeats 4000000 in
set_option maxRecDepth 100000 in
theorem ct_X6h_addsChute (l : Launch) (G : jG) (n : Nat) (σ : jH) (this : Nat) (a1 : Int32) (a2 : Int32) (a3 : Int32) (a4 : Int32) : jCt l G yX6_addsChute (ws_ yX6_addsChute cX6_addsChute 6 none) 1 23 jrV [.ref this, .int a1, .int a2, .int a3, .int a4] σ (X6h_addsChute G n σ this a1 a2 a3 a4) := by
  refine jCt.wr (lv := [(0, .ref this), (1, .int a1), (2, .int a2), (3, .int a3), (4, .int a4)]) (plainFor_of_name (by decide)) (Nat.le_of_ble_eq_true rfl) rfl ?_
  intro t p e s m args below meth c ls X hr hnm hl
  have X : jCx p c cX6_addsChute 6 s m args RX6 G meth := X
  unfold X6h_addsChute_b
  refine J.pu (fun _ _ _ _ k => lv_aload_n X.1.1 X.1.2.1 dX6_addsChute_0 rfl (lv_at hl 0 rfl) k) ?_
  refine J.getR (k := 0) (ci := 5) X in_X6 (show jCl[5]? = some (RX6, TX6, 26) from rfl) (by decide) q2730 (fun _ h => h) dX6_addsChute_1 (fun v1 h1 => ?_)
  refine J.pu (fun _ _ _ _ k => lv_iconst (v := 3) X.1.1 X.1.2.1 dX6_addsChute_4 (by decide) k) ?_
  refine J.aI0 X dX6_addsChute_5 (fun v5 h5 => ?_)
  refine J.istore (lv' := [(5, .int v5), (0, .ref this), (1, .int a1), (2, .int a2), (3, .int a3), (4, .int a4)]) X.1.1 X.1.2.1 dX6_addsChute_6 hl (by decide) (by first | rfl | simp [va_rf_cat, jcI, jcA, jcJ, jcD, jcF]) (fun ls hl => ?_)
  refine J.pu (fun _ _ _ _ k => lv_aload_n X.1.1 X.1.2.1 dX6_addsChute_8 rfl (lv_at hl 1 rfl) k) ?_
  refine J.pu (fun _ _ _ _ k => lv_iload X.1.1 X.1.2.1 dX6_addsChute_9 (lv_at hl 0 rfl) k) ?_
  refine J.pu (fun _ _ _ _ k => lv_iconst (v := 0) X.1.1 X.1.2.1 dX6_addsChute_11 (by decide) k) ?_
  refine J.pu (fun _ _ _ _ k => lv_iload_n X.1.1 X.1.2.1 dX6_addsChute_12 rfl (lv_at hl 2 rfl) k) ?_
  refine J.bind (fun o13 g13 => ?_)
  refine J.bd' (fun v13 S13 h13 => ?_)
  refine J.cV (q := (RX6, TX6, 26)) (ci := 5) (As := [.int v5, .int 0, .int a1]) (rest := []) (s2 := []) X ⟨rfl, rfl⟩ (jmcw (fun A hm σ9 hs M => ct_X6_putsChute l hm σ9 n M v5 0 a1)) h13 (fun _ _ => cwV 3 X.1.2.2.2.2 (lw_V q2726 q2728 qs58 q174 q2729) rfl rfl rfl (by decide +kernel) ⟨(Nat.le_of_ble_eq_true rfl), (Nat.le_of_ble_eq_true rfl)⟩) g13 rfl rfl hl.1 rfl rfl (Nat.le_of_ble_eq_true rfl) dX6_addsChute_13 ?_
  refine J.pu (fun _ _ _ _ k => lv_aload_n X.1.1 X.1.2.1 dX6_addsChute_16 rfl (lv_at hl 1 rfl) k) ?_
  refine J.pu (fun _ _ _ _ k => lv_iload X.1.1 X.1.2.1 dX6_addsChute_17 (lv_at hl 0 rfl) k) ?_
  refine J.pu (fun _ _ _ _ k => lv_iconst (v := 1) X.1.1 X.1.2.1 dX6_addsChute_19 (by decide) k) ?_
  refine J.pu (fun _ _ _ _ k => lv_iload_n X.1.1 X.1.2.1 dX6_addsChute_20 rfl (lv_at hl 3 rfl) k) ?_
  refine J.bind (fun o21 g21 => ?_)
  refine J.bd' (fun v21 S21 h21 => ?_)
  refine J.cV (q := (RX6, TX6, 26)) (ci := 5) (As := [.int v5, .int 1, .int a2]) (rest := []) (s2 := []) X ⟨rfl, rfl⟩ (jmcw (fun A hm σ9 hs M => ct_X6_putsChute l hm σ9 n M v5 1 a2)) h21 (fun _ _ => cwV 3 X.1.2.2.2.2 (lw_V q2726 q2728 qs58 q174 q2729) rfl rfl rfl (by decide +kernel) ⟨(Nat.le_of_ble_eq_true rfl), (Nat.le_of_ble_eq_true rfl)⟩) g21 rfl rfl hl.1 rfl rfl (Nat.le_of_ble_eq_true rfl) dX6_addsChute_21 ?_
  refine J.pu (fun _ _ _ _ k => lv_aload_n X.1.1 X.1.2.1 dX6_addsChute_24 rfl (lv_at hl 1 rfl) k) ?_
  refine J.pu (fun _ _ _ _ k => lv_iload X.1.1 X.1.2.1 dX6_addsChute_25 (lv_at hl 0 rfl) k) ?_
  refine J.pu (fun _ _ _ _ k => lv_iconst (v := 2) X.1.1 X.1.2.1 dX6_addsChute_27 (by decide) k) ?_
  refine J.pu (fun _ _ _ _ k => lv_iload_n X.1.1 X.1.2.1 dX6_addsChute_28 rfl (lv_at hl 4 rfl) k) ?_
  refine J.bind (fun o29 g29 => ?_)
  refine J.bd' (fun v29 S29 h29 => ?_)
  refine J.cV (q := (RX6, TX6, 26)) (ci := 5) (As := [.int v5, .int 2, .int a3]) (rest := []) (s2 := []) X ⟨rfl, rfl⟩ (jmcw (fun A hm σ9 hs M => ct_X6_putsChute l hm σ9 n M v5 2 a3)) h29 (fun _ _ => cwV 3 X.1.2.2.2.2 (lw_V q2726 q2728 qs58 q174 q2729) rfl rfl rfl (by decide +kernel) ⟨(Nat.le_of_ble_eq_true rfl), (Nat.le_of_ble_eq_true rfl)⟩) g29 rfl rfl hl.1 rfl rfl (Nat.le_of_ble_eq_true rfl) dX6_addsChute_29 ?_
  refine J.pu (fun _ _ _ _ k => lv_aload_n X.1.1 X.1.2.1 dX6_addsChute_32 rfl (lv_at hl 1 rfl) k) ?_
  refine J.pu (fun _ _ _ _ k => lv_iload X.1.1 X.1.2.1 dX6_addsChute_33 (lv_at hl 0 rfl) k) ?_
  refine J.pu (fun _ _ _ _ k => lv_iconst (v := 3) X.1.1 X.1.2.1 dX6_addsChute_35 (by decide) k) ?_
  refine J.pu (fun _ _ _ _ k => lv_iload X.1.1 X.1.2.1 dX6_addsChute_36 (lv_at hl 5 rfl) k) ?_
  refine J.bind (fun o38 g38 => ?_)
  refine J.bd' (fun v38 S38 h38 => ?_)
  refine J.cV (q := (RX6, TX6, 26)) (ci := 5) (As := [.int v5, .int 3, .int a4]) (rest := []) (s2 := []) X ⟨rfl, rfl⟩ (jmcw (fun A hm σ9 hs M => ct_X6_putsChute l hm σ9 n M v5 3 a4)) h38 (fun _ _ => cwV 3 X.1.2.2.2.2 (lw_V q2726 q2728 qs58 q174 q2729) rfl rfl rfl (by decide +kernel) ⟨(Nat.le_of_ble_eq_true rfl), (Nat.le_of_ble_eq_true rfl)⟩) g38 rfl rfl hl.1 rfl rfl (Nat.le_of_ble_eq_true rfl) dX6_addsChute_38 ?_
  refine J.pu (fun _ _ _ _ k => lv_aload_n X.1.1 X.1.2.1 dX6_addsChute_41 rfl (lv_at hl 1 rfl) k) ?_
  refine J.pu (fun _ _ _ _ k => lv_iload X.1.1 X.1.2.1 dX6_addsChute_42 (lv_at hl 0 rfl) k) ?_
  refine J.pu (fun _ _ _ _ k => lv_iconst (v := 5) X.1.1 X.1.2.1 dX6_addsChute_44 (by decide) k) ?_
  refine J.pu (fun _ _ _ _ k => lv_iconst (v := 1) X.1.1 X.1.2.1 dX6_addsChute_45 (by decide) k) ?_
  refine J.bind (fun o46 g46 => ?_)
  refine J.bd' (fun v46 S46 h46 => ?_)
  refine J.cV (q := (RX6, TX6, 26)) (ci := 5) (As := [.int v5, .int 5, .int 1]) (rest := []) (s2 := []) X ⟨rfl, rfl⟩ (jmcw (fun A hm σ9 hs M => ct_X6_putsChute l hm σ9 n M v5 5 1)) h46 (fun _ _ => cwV 3 X.1.2.2.2.2 (lw_V q2726 q2728 qs58 q174 q2729) rfl rfl rfl (by decide +kernel) ⟨(Nat.le_of_ble_eq_true rfl), (Nat.le_of_ble_eq_true rfl)⟩) g46 rfl rfl hl.1 rfl rfl (Nat.le_of_ble_eq_true rfl) dX6_addsChute_46 ?_
  refine J.pu (fun _ _ _ _ k => lv_aload_n X.1.1 X.1.2.1 dX6_addsChute_49 rfl (lv_at hl 1 rfl) k) ?_
  refine J.getR (k := 0) (ci := 5) X in_X6 (show jCl[5]? = some (RX6, TX6, 26) from rfl) (by decide) q2730 (fun _ h => h) dX6_addsChute_50 (fun v50 h50 => ?_)
  refine J.pu (fun _ _ _ _ k => lv_iconst (v := 3) X.1.1 X.1.2.1 dX6_addsChute_53 (by decide) k) ?_
  refine J.pu (fun _ _ _ _ k => lv_dup2_11 X.1.1 X.1.2.1 dX6_addsChute_54 rfl (va_rf_cat _) k) ?_
  refine J.aI0 X dX6_addsChute_55 (fun v55 h55 => ?_)
  refine J.pu (fun _ _ _ _ k => lv_iconst (v := 1) X.1.1 X.1.2.1 dX6_addsChute_56 (by decide) k) ?_
  refine J.pu (fun _ _ _ _ k => lv_iadd X.1.1 X.1.2.1 dX6_addsChute_57 k) ?_
  refine J.sI0 X dX6_addsChute_58 (fun S58 h58 => ?_)
  exact J.vret (vr := fun t : Unit × jH => jrV t.1) (fin := Prod.snd) (t := t) X hr (by rfl) (by rfl) dX6_addsChute_59
noncomputable def X6h_putsChute_b (G : jG) (n : Nat) (σ : jH) (this : Nat) (a1 : Int32) (a2 : Int32) (a3 : Int32) : Option (Unit × jH) :=
  (gR σ (some this) 5 0).bind fun v1 => (sI G σ v1 0 ((23 + (17 * a1)) + a2) a3).bind fun S14 => some ((), S14)
noncomputable def X6h_putsChute (G : jG) (n : Nat) (σ : jH) (this : Nat) (a1 : Int32) (a2 : Int32) (a3 : Int32) : Option (Unit × jH) := jck σ (X6h_putsChute_b G n σ this a1 a2 a3)
set_option maxHeartbeats 4000000 in
set_option maxRecDepth 100000 in
theorem ct_X6h_putsChute (l : Launch) (G : jG) (n : Nat) (σ : jH) (this : Nat) (a1 : Int32) (a2 : Int32) (a3 : Int32) : jCt l G yX6_putsChute (ws_ yX6_putsChute cX6_putsChute 4 none) 0 0 jrV [.ref this, .int a1, .int a2, .int a3] σ (X6h_putsChute G n σ this a1 a2 a3) := by
  refine jCt.wr (lv := [(0, .ref this), (1, .int a1), (2, .int a2), (3, .int a3)]) (plainFor_of_name (by decide)) (Nat.le_of_ble_eq_true rfl) rfl ?_
  intro t p e s m args below meth c ls X hr hnm hl
  have X : jCx p c cX6_putsChute 4 s m args RX6 G meth := X
  unfold X6h_putsChute_b
  refine J.pu (fun _ _ _ _ k => lv_aload_n X.1.1 X.1.2.1 dX6_putsChute_0 rfl (lv_at hl 0 rfl) k) ?_
  refine J.getR (k := 0) (ci := 5) X in_X6 (show jCl[5]? = some (RX6, TX6, 26) from rfl) (by decide) q2730 (fun _ h => h) dX6_putsChute_1 (fun v1 h1 => ?_)
  refine J.pu (fun _ _ _ _ k => lv_bipush (v := 23) X.1.1 X.1.2.1 dX6_putsChute_4 (by decide) k) ?_
  refine J.pu (fun _ _ _ _ k => lv_bipush (v := 17) X.1.1 X.1.2.1 dX6_putsChute_6 (by decide) k) ?_
  refine J.pu (fun _ _ _ _ k => lv_iload_n X.1.1 X.1.2.1 dX6_putsChute_8 rfl (lv_at hl 1 rfl) k) ?_
  refine J.pu (fun _ _ _ _ k => lv_imul X.1.1 X.1.2.1 dX6_putsChute_9 k) ?_
  refine J.pu (fun _ _ _ _ k => lv_iadd X.1.1 X.1.2.1 dX6_putsChute_10 k) ?_
  refine J.pu (fun _ _ _ _ k => lv_iload_n X.1.1 X.1.2.1 dX6_putsChute_11 rfl (lv_at hl 2 rfl) k) ?_
  refine J.pu (fun _ _ _ _ k => lv_iadd X.1.1 X.1.2.1 dX6_putsChute_12 k) ?_
  refine J.pu (fun _ _ _ _ k => lv_iload_n X.1.1 X.1.2.1 dX6_putsChute_13 rfl (lv_at hl 3 rfl) k) ?_
  refine J.sI0 X dX6_putsChute_14 (fun S14 h14 => ?_)
  exact J.vret (vr := fun t : Unit × jH => jrV t.1) (fin := Prod.snd) (t := t) X hr (by rfl) (by rfl) dX6_putsChute_15
noncomputable def X1_appendInput_b (G : jG) (n : Nat) (σ : jH) (this : Nat) (a1 : Int32) (a2 : Int32) (a3 : Int32) (a4 : Int32) (a5 : Int32) : Option (Int32 × jH) :=
  (gI σ (some this) 0 1).bind fun v1 => if (v1 + 20) ≤ 600 then ((rc σ (some this) 0).bind fun o17 => bd (X1_appends G n σ o17 a1) fun v17 S17 => (rc S17 (some this) 0).bind fun o22 => bd (X1_appends G n S17 o22 a2) fun v22 S22 => (rc S22 (some this) 0).bind fun o27 => bd (X1_appends G n S22 o27 a3) fun v27 S27 => (rc S27 (some this) 0).bind fun o33 => bd (X1_appends G n S27 o33 a4) fun v33 S33 => (rc S33 (some this) 0).bind fun o39 => bd (X1_appends G n S33 o39 a5) fun v39 S39 => (gI S39 (some this) 0 1).bind fun v43 => some (v43, S39)) else (some ((-1), σ))
noncomputable def X1_appendInput (G : jG) (n : Nat) (σ : jH) (this : Nat) (a1 : Int32) (a2 : Int32) (a3 : Int32) (a4 : Int32) (a5 : Int32) : Option (Int32 × jH) := jck σ (X1_appendInput_b G n σ this a1 a2 a3 a4 a5)
set_option maxHeartbeats 4000000 in
set_option maxRecDepth 100000 in
theorem ct_X1_appendInput (l : Launch) (G : jG) (n : Nat) (σ : jH) (this : Nat) (a1 : Int32) (a2 : Int32) (a3 : Int32) (a4 : Int32) (a5 : Int32) : jCt l G yX1_appendInput (ws_ yX1_appendInput cX1_appendInput 6 (some .int)) 1 22 jrI [.ref this, .int a1, .int a2, .int a3, .int a4, .int a5] σ (X1_appendInput G n σ this a1 a2 a3 a4 a5) := by
  refine jCt.wr (lv := [(0, .ref this), (1, .int a1), (2, .int a2), (3, .int a3), (4, .int a4), (5, .int a5)]) (plainFor_of_name (by decide)) (Nat.le_of_ble_eq_true rfl) rfl ?_
  intro t p e s m args below meth c ls X hr hnm hl
  have X : jCx p c cX1_appendInput 6 s m args RX1 G meth := X
  unfold X1_appendInput_b
  refine J.pu (fun _ _ _ _ k => lv_aload_n X.1.1 X.1.2.1 dX1_appendInput_0 rfl (lv_at hl 0 rfl) k) ?_
  refine J.getI (k := 1) (ci := 0) X in_X1 (show jCl[0]? = some (RX1, TX1, 9) from rfl) (by decide) q1325 (fun _ h => h) dX1_appendInput_1 (fun v1 h1 => ?_)
  refine J.pu (fun _ _ _ _ k => lv_bipush (v := 20) X.1.1 X.1.2.1 dX1_appendInput_4 (by decide) k) ?_
  refine J.pu (fun _ _ _ _ k => lv_iadd X.1.1 X.1.2.1 dX1_appendInput_6 k) ?_
  refine J.pu (fun _ _ _ _ k => lv_sipush (v := 600) X.1.1 X.1.2.1 dX1_appendInput_7 (by decide) k) ?_
  refine J.br (fun _ _ _ _ ka kb => lv_icmp_le (tgt := 15) X.1.1 X.1.2.1 dX1_appendInput_10 (by decide) ka kb) (fun c10 => ?_) (fun c10 => ?_)
  · refine J.pu (fun _ _ _ _ k => lv_aload_n X.1.1 X.1.2.1 dX1_appendInput_15 rfl (lv_at hl 0 rfl) k) ?_
    refine J.pu (fun _ _ _ _ k => lv_iload_n X.1.1 X.1.2.1 dX1_appendInput_16 rfl (lv_at hl 1 rfl) k) ?_
    refine J.bind (fun o17 g17 => ?_)
    refine J.bd' (fun v17 S17 h17 => ?_)
    refine J.cV (q := (RX1, TX1, 9)) (ci := 0) (As := [.int a1]) (rest := []) (s2 := []) X ⟨rfl, rfl⟩ (ct_X1_appends l G n σ o17 a1) h17 (fun _ _ => cwV 1 X.1.2.2.2.2 (lw_V q1357 q1359 qs13 q138 q1360) rfl rfl rfl (by decide +kernel) ⟨(Nat.le_of_ble_eq_true rfl), (Nat.le_of_ble_eq_true rfl)⟩) g17 rfl rfl hl.1 rfl rfl (Nat.le_of_ble_eq_true rfl) dX1_appendInput_17 ?_
    refine J.pu (fun _ _ _ _ k => lv_aload_n X.1.1 X.1.2.1 dX1_appendInput_20 rfl (lv_at hl 0 rfl) k) ?_
    refine J.pu (fun _ _ _ _ k => lv_iload_n X.1.1 X.1.2.1 dX1_appendInput_21 rfl (lv_at hl 2 rfl) k) ?_
    refine J.bind (fun o22 g22 => ?_)
    refine J.bd' (fun v22 S22 h22 => ?_)
    refine J.cV (q := (RX1, TX1, 9)) (ci := 0) (As := [.int a2]) (rest := []) (s2 := []) X ⟨rfl, rfl⟩ (ct_X1_appends l G n S17 o22 a2) h22 (fun _ _ => cwV 1 X.1.2.2.2.2 (lw_V q1357 q1359 qs13 q138 q1360) rfl rfl rfl (by decide +kernel) ⟨(Nat.le_of_ble_eq_true rfl), (Nat.le_of_ble_eq_true rfl)⟩) g22 rfl rfl hl.1 rfl rfl (Nat.le_of_ble_eq_true rfl) dX1_appendInput_22 ?_
    refine J.pu (fun _ _ _ _ k => lv_aload_n X.1.1 X.1.2.1 dX1_appendInput_25 rfl (lv_at hl 0 rfl) k) ?_
    refine J.pu (fun _ _ _ _ k => lv_iload_n X.1.1 X.1.2.1 dX1_appendInput_26 rfl (lv_at hl 3 rfl) k) ?_
    refine J.bind (fun o27 g27 => ?_)
    refine J.bd' (fun v27 S27 h27 => ?_)
    refine J.cV (q := (RX1, TX1, 9)) (ci := 0) (As := [.int a3]) (rest := []) (s2 := []) X ⟨rfl, rfl⟩ (ct_X1_appends l G n S22 o27 a3) h27 (fun _ _ => cwV 1 X.1.2.2.2.2 (lw_V q1357 q1359 qs13 q138 q1360) rfl rfl rfl (by decide +kernel) ⟨(Nat.le_of_ble_eq_true rfl), (Nat.le_of_ble_eq_true rfl)⟩) g27 rfl rfl hl.1 rfl rfl (Nat.le_of_ble_eq_true rfl) dX1_appendInput_27 ?_
    refine J.pu (fun _ _ _ _ k => lv_aload_n X.1.1 X.1.2.1 dX1_appendInput_30 rfl (lv_at hl 0 rfl) k) ?_
    refine J.pu (fun _ _ _ _ k => lv_iload X.1.1 X.1.2.1 dX1_appendInput_31 (lv_at hl 4 rfl) k) ?_
    refine J.bind (fun o33 g33 => ?_)
    refine J.bd' (fun v33 S33 h33 => ?_)
    refine J.cV (q := (RX1, TX1, 9)) (ci := 0) (As := [.int a4]) (rest := []) (s2 := []) X ⟨rfl, rfl⟩ (ct_X1_appends l G n S27 o33 a4) h33 (fun _ _ => cwV 1 X.1.2.2.2.2 (lw_V q1357 q1359 qs13 q138 q1360) rfl rfl rfl (by decide +kernel) ⟨(Nat.le_of_ble_eq_true rfl), (Nat.le_of_ble_eq_true rfl)⟩) g33 rfl rfl hl.1 rfl rfl (Nat.le_of_ble_eq_true rfl) dX1_appendInput_33 ?_
    refine J.pu (fun _ _ _ _ k => lv_aload_n X.1.1 X.1.2.1 dX1_appendInput_36 rfl (lv_at hl 0 rfl) k) ?_
    refine J.pu (fun _ _ _ _ k => lv_iload X.1.1 X.1.2.1 dX1_appendInput_37 (lv_at hl 5 rfl) k) ?_
    refine J.bind (fun o39 g39 => ?_)
    refine J.bd' (fun v39 S39 h39 => ?_)
    refine J.cV (q := (RX1, TX1, 9)) (ci := 0) (As := [.int a5]) (rest := []) (s2 := []) X ⟨rfl, rfl⟩ (ct_X1_appends l G n S33 o39 a5) h39 (fun _ _ => cwV 1 X.1.2.2.2.2 (lw_V q1357 q1359 qs13 q138 q1360) rfl rfl rfl (by decide +kernel) ⟨(Nat.le_of_ble_eq_true rfl), (Nat.le_of_ble_eq_true rfl)⟩) g39 rfl rfl hl.1 rfl rfl (Nat.le_of_ble_eq_true rfl) dX1_appendInput_39 ?_
    refine J.pu (fun _ _ _ _ k => lv_aload_n X.1.1 X.1.2.1 dX1_appendInput_42 rfl (lv_at hl 0 rfl) k) ?_
    refine J.getI (k := 1) (ci := 0) X in_X1 (show jCl[0]? = some (RX1, TX1, 9) from rfl) (by decide) q1325 (fun _ h => h) dX1_appendInput_43 (fun v43 h43 => ?_)
    exact J.iret (vr := fun t : Int32 × jH => jrI t.1) (fin := Prod.snd) (t := t) X hr (by rfl) (by rfl) dX1_appendInput_46
  · refine J.pu (fun _ _ _ _ k => lv_iconst (v := (-1)) X.1.1 X.1.2.1 dX1_appendInput_13 (by decide) k) ?_
    exact J.iret (vr := fun t : Int32 × jH => jrI t.1) (fin := Prod.snd) (t := t) X hr (by rfl) (by rfl) dX1_appendInput_14
noncomputable def X1_truncateInput_b (G : jG) (n : Nat) (σ : jH) (this : Nat) (a1 : Int32) : Option (Int32 × jH) :=
  (gI σ (some this) 0 1).bind fun v4 => (X1_isIn G n σ a1.toInt64 0 v4.toInt64).bind fun v8 => if v8 = 0 then (some (0, σ)) else ((pI G σ (some this) 0 1 a1).bind fun S18 => some (1, S18))
noncomputable def X1_truncateInput (G : jG) (n : Nat) (σ : jH) (this : Nat) (a1 : Int32) : Option (Int32 × jH) := jck σ (X1_truncateInput_b G n σ this a1)
set_option maxHeartbeats 4000000 in
set_option maxRecDepth 100000 in
theorem ct_X1_truncateInput (l : Launch) (G : jG) (n : Nat) (σ : jH) (this : Nat) (a1 : Int32) : jCt l G yX1_truncateInput (ws_ yX1_truncateInput cX1_truncateInput 2 (some .boolean)) 1 25 jrI [.ref this, .int a1] σ (X1_truncateInput G n σ this a1) := by
  refine jCt.wr (lv := [(0, .ref this), (1, .int a1)]) (plainFor_of_name (by decide)) (Nat.le_of_ble_eq_true rfl) rfl ?_
  intro t p e s m args below meth c ls X hr hnm hl
  have X : jCx p c cX1_truncateInput 2 s m args RX1 G meth := X
  unfold X1_truncateInput_b
  refine J.pu (fun _ _ _ _ k => lv_iload_n X.1.1 X.1.2.1 dX1_truncateInput_0 rfl (lv_at hl 1 rfl) k) ?_
  refine J.pu (fun _ _ _ _ k => lv_i2l (v := a1.toInt64) X.1.1 X.1.2.1 dX1_truncateInput_1 rfl k) ?_
  refine J.pu (fun _ _ _ _ k => lv_lconst (v := 0) X.1.1 X.1.2.1 dX1_truncateInput_2 (by decide) k) ?_
  refine J.pu (fun _ _ _ _ k => lv_aload_n X.1.1 X.1.2.1 dX1_truncateInput_3 rfl (lv_at hl 0 rfl) k) ?_
  refine J.getI (k := 1) (ci := 0) X in_X1 (show jCl[0]? = some (RX1, TX1, 9) from rfl) (by decide) q1325 (fun _ h => h) dX1_truncateInput_4 (fun v4 h4 => ?_)
  refine J.pu (fun _ _ _ _ k => lv_i2l (v := v4.toInt64) X.1.1 X.1.2.1 dX1_truncateInput_7 rfl k) ?_
  refine J.bind (fun v8 h8 => ?_)
  refine J.cS (As := [.long a1.toInt64, .long 0, .long v4.toInt64]) (rest := []) (s2 := [.int v8]) X ⟨rfl, rfl⟩ (ct_X1_isIn l G n σ a1.toInt64 0 v4.toInt64) (jrd_of h8) (fun _ _ => va_cwS 3 X.1.2.2.2.2 (lw_S q1365 q1366 q138 q1367) rfl rfl rfl (by decide +kernel) ⟨(Nat.le_of_ble_eq_true rfl), (Nat.le_of_ble_eq_true rfl)⟩) rfl hl.1 rfl rfl (Nat.le_of_ble_eq_true rfl) dX1_truncateInput_8 ?_
  refine J.br (fun _ _ _ _ ka kb => lv_if_ne (tgt := 16) X.1.1 X.1.2.1 dX1_truncateInput_11 (by decide) kb ka) (fun c11 => ?_) (fun c11 => ?_)
  · refine J.pu (fun _ _ _ _ k => lv_iconst (v := 0) X.1.1 X.1.2.1 dX1_truncateInput_14 (by decide) k) ?_
    exact J.zret (vr := fun t : Int32 × jH => jrI t.1) (fin := Prod.snd) (t := t) X hr (by decide) (by rfl) (by rfl) dX1_truncateInput_15
  · refine J.pu (fun _ _ _ _ k => lv_aload_n X.1.1 X.1.2.1 dX1_truncateInput_16 rfl (lv_at hl 0 rfl) k) ?_
    refine J.pu (fun _ _ _ _ k => lv_iload_n X.1.1 X.1.2.1 dX1_truncateInput_17 rfl (lv_at hl 1 rfl) k) ?_
    refine J.putI (k := 1) (ci := 0) X in_X1 (show jCl[0]? = some (RX1, TX1, 9) from rfl) tyX1_ok (fun a ha b hb h => Or.inl (nmX1 a ha b hb h)) (by decide) q1325 (fun _ h => h) rfl rfl dX1_truncateInput_18 (fun S18 h18 => ?_)
    refine J.pu (fun _ _ _ _ k => lv_iconst (v := 1) X.1.1 X.1.2.1 dX1_truncateInput_21 (by decide) k) ?_
    exact J.zret (vr := fun t : Int32 × jH => jrI t.1) (fin := Prod.snd) (t := t) X hr (by decide) (by rfl) (by rfl) dX1_truncateInput_22
noncomputable def X1_areChutes_h6 (G : jG) (n : Nat) (σ : jH) (this : Nat) (rec6 : Int32 × Int32 × Int32 → Option (Int32)) (q6 : Int32 × Int32 × Int32) : Option (Int32) :=
  let x1_6 := q6.1; let x2_6 := q6.2.1; let x3_6 := q6.2.2; (gR σ (some this) 0 4).bind fun v8 => (gR σ v8 1 3).bind fun v11 => (rc σ v11 15).bind fun o14 => (lSize 0 σ o14).bind fun v14 => if v14 ≤ x3_6 then ((gR σ (some this) 0 4).bind fun v80 => (gR σ v80 1 6).bind fun v83 => (aI σ v83 0 2).bind fun v90 => (aI σ v83 0 3).bind fun v93 => if x1_6 = (v90 + v93) then ((gR σ (some this) 0 4).bind fun v101 => (rc σ v101 1).bind fun o105 => (X2_those G n σ o105 2).bind fun v105 => if x1_6 = (x2_6 + v105) then ((gR σ (some this) 0 4).bind fun v114 => (rc σ v114 1).bind fun o118 => (X2_those G n σ o118 1).bind fun v118 => if x2_6 = v118 then ((aI σ v83 0 10).bind fun v127 => (gR σ (some this) 0 4).bind fun v129 => (rc σ v129 1).bind fun o133 => (X2_those G n σ o133 2).bind fun v133 => if v127 = v133 then (some 1) else (some 0)) else (some 0)) else (some 0)) else (some 0)) else ((gR σ (some this) 0 4).bind fun v23 => (rc σ v23 1).bind fun o27 => (X2_chute G n σ o27 x3_6).bind fun v27 => (gR σ v27 3 4).bind fun v34 => (rc σ v34 16).bind fun o37 => (lSize 1 σ o37).bind fun v37 => (gI σ v27 3 2).bind fun v44 => if v37 ≤ v44 then ((gI σ v27 3 7).bind fun v55 => (gR σ v27 3 4).bind fun v63 => (rc σ v63 16).bind fun o66 => (lSize 1 σ o66).bind fun v66 => rec6 ((x1_6 + v55), (x2_6 + v66), (x3_6 + 1))) else (some 0))
noncomputable def X1_areChutes (G : jG) (n : Nat) (σ : jH) (this : Nat) : Option (Int32) :=
  jloop (X1_areChutes_h6 G n σ this) n (0, 0, 0)
set_option maxHeartbeats 4000000 in
set_option maxRecDepth 100000 in
theorem ct_X1_areChutes (l : Launch) (G : jG) (n : Nat) (σ : jH) (this : Nat) : jCt l G yX1_areChutes (ws_ yX1_areChutes cX1_areChutes 5 (some .boolean)) 23 1265 jrI [.ref this] σ (jrd σ (X1_areChutes G n σ this)) := by
  refine jCt.rd (lv := [(0, .ref this)]) (plainFor_of_name (by decide)) (Nat.le_of_ble_eq_true rfl) rfl ?_
  intro t p e s m args below meth c ls X hr hnm hl
  have X : jCx p c cX1_areChutes 5 s m args RX1 G meth := X
  have L6 : ∀ (n6 : Nat) (x1_6 : Int32) (x2_6 : Int32) (x3_6 : Int32) (ls : Array Slot), lv_has ls 5 [(0, .ref this), (1, .int x1_6), (2, .int x2_6), (3, .int x3_6)] → jGo l G 23 1265 σ (fun _ : Int32 => σ) jrI t p e s m args below meth c (jloop (X1_areChutes_h6 G n σ this) n6 (x1_6, x2_6, x3_6)) σ (F0 m 6 ls []) := by
    intro n6
    induction n6 with
    | zero => intro x1_6 x2_6 x3_6 ls hl; exact J.nil_
    | succ n6 ih6 =>
      intro x1_6 x2_6 x3_6 ls hl
      refine J.eq (jloop_s _ _ _) ?_
      dsimp only [X1_areChutes_h6]
      refine J.pu (fun _ _ _ _ k => lv_iload_n X.1.1 X.1.2.1 dX1_areChutes_6 rfl (lv_at hl 3 rfl) k) ?_
      refine J.pu (fun _ _ _ _ k => lv_aload_n X.1.1 X.1.2.1 dX1_areChutes_7 rfl (lv_at hl 0 rfl) k) ?_
      refine J.getR (k := 4) (ci := 0) X in_X1 (show jCl[0]? = some (RX1, TX1, 9) from rfl) (by decide) q1329 (fun _ h => h) dX1_areChutes_8 (fun v8 h8 => ?_)
      refine J.getRN (k := 3) (ci := 1) X in_X2 (show jCl[1]? = some (RX2, TX2, 9) from rfl) (by decide) jnf8 (fun _ h => h) dX1_areChutes_11 (fun v11 h11 => ?_)
      refine J.bind (fun o14 g14 => ?_)
      refine J.bind (fun v14 h14 => ?_)
      refine J.cF (q := (RJ2, TJ2, 3)) (ci := 15) (As := []) (rest := [.int x3_6]) (s2 := [.int v14, .int x3_6]) X ⟨rfl, rfl⟩ (ct_J2_size l G σ o14) (jrd_of h14) (fun _ _ => va_cwF 0 X.1.2.2.2.2 (lw_F q1751 q832 q834 q142 q836) rfl rfl rfl (jfw2 X.2.1) (by decide +kernel) ⟨(Nat.le_of_ble_eq_true rfl), (Nat.le_of_ble_eq_true rfl)⟩) g14 rfl rfl hl.1 rfl rfl (Nat.le_of_ble_eq_true rfl) dX1_areChutes_14 ?_
      refine J.br (fun _ _ _ _ ka kb => lv_icmp_ge (tgt := 79) X.1.1 X.1.2.1 dX1_areChutes_19 (by decide) ka kb) (fun c19 => ?_) (fun c19 => ?_)
      · refine J.pu (fun _ _ _ _ k => lv_aload_n X.1.1 X.1.2.1 dX1_areChutes_79 rfl (lv_at hl 0 rfl) k) ?_
        refine J.getR (k := 4) (ci := 0) X in_X1 (show jCl[0]? = some (RX1, TX1, 9) from rfl) (by decide) q1329 (fun _ h => h) dX1_areChutes_80 (fun v80 h80 => ?_)
        refine J.getRN (k := 6) (ci := 1) X in_X2 (show jCl[1]? = some (RX2, TX2, 9) from rfl) (by decide) jnf12 (fun _ h => h) dX1_areChutes_83 (fun v83 h83 => ?_)
        refine J.astore_n (r := v83) (i := 3) (lv' := [(3, va_rf v83), (0, .ref this), (1, .int x1_6), (2, .int x2_6)]) X.1.1 X.1.2.1 dX1_areChutes_86 rfl hl (by decide) (by first | rfl | simp [va_rf_cat, jcI, jcA, jcJ, jcD, jcF]) (fun ls hl => ?_)
        refine J.pu (fun _ _ _ _ k => lv_iload_n X.1.1 X.1.2.1 dX1_areChutes_87 rfl (lv_at hl 2 rfl) k) ?_
        refine J.pu (fun _ _ _ _ k => W.rload_n X.1.1 X.1.2.1 dX1_areChutes_88 rfl (lv_at hl 0 rfl) k) ?_
        refine J.pu (fun _ _ _ _ k => lv_iconst (v := 2) X.1.1 X.1.2.1 dX1_areChutes_89 (by decide) k) ?_
        refine J.aI0 X dX1_areChutes_90 (fun v90 h90 => ?_)
        refine J.pu (fun _ _ _ _ k => W.rload_n X.1.1 X.1.2.1 dX1_areChutes_91 rfl (lv_at hl 0 rfl) k) ?_
        refine J.pu (fun _ _ _ _ k => lv_iconst (v := 3) X.1.1 X.1.2.1 dX1_areChutes_92 (by decide) k) ?_
        refine J.aI0 X dX1_areChutes_93 (fun v93 h93 => ?_)
        refine J.pu (fun _ _ _ _ k => lv_iadd X.1.1 X.1.2.1 dX1_areChutes_94 k) ?_
        refine J.br (fun _ _ _ _ ka kb => lv_icmp_ne (tgt := 143) X.1.1 X.1.2.1 dX1_areChutes_95 (by decide) kb ka) (fun c95 => ?_) (fun c95 => ?_)
        · refine J.pu (fun _ _ _ _ k => lv_iload_n X.1.1 X.1.2.1 dX1_areChutes_98 rfl (lv_at hl 2 rfl) k) ?_
          refine J.pu (fun _ _ _ _ k => lv_iload_n X.1.1 X.1.2.1 dX1_areChutes_99 rfl (lv_at hl 3 rfl) k) ?_
          refine J.pu (fun _ _ _ _ k => lv_aload_n X.1.1 X.1.2.1 dX1_areChutes_100 rfl (lv_at hl 1 rfl) k) ?_
          refine J.getR (k := 4) (ci := 0) X in_X1 (show jCl[0]? = some (RX1, TX1, 9) from rfl) (by decide) q1329 (fun _ h => h) dX1_areChutes_101 (fun v101 h101 => ?_)
          refine J.pu (fun _ _ _ _ k => lv_iconst (v := 2) X.1.1 X.1.2.1 dX1_areChutes_104 (by decide) k) ?_
          refine J.bind (fun o105 g105 => ?_)
          refine J.bind (fun v105 h105 => ?_)
          refine J.cV (q := (RX2, TX2, 9)) (ci := 1) (As := [.int 2]) (rest := [.int x2_6, .int x1_6]) (s2 := [.int v105, .int x2_6, .int x1_6]) X ⟨rfl, rfl⟩ (ct_X2_those l G n σ o105 2) (jrd_of h105) (fun _ _ => cwV 1 X.1.2.2.2.2 (lw_V q2167 q2061 q2062 q139 q2063) rfl rfl rfl (by decide +kernel) ⟨(Nat.le_of_ble_eq_true rfl), (Nat.le_of_ble_eq_true rfl)⟩) g105 rfl rfl hl.1 rfl rfl (Nat.le_of_ble_eq_true rfl) dX1_areChutes_105 ?_
          refine J.pu (fun _ _ _ _ k => lv_iadd X.1.1 X.1.2.1 dX1_areChutes_108 k) ?_
          refine J.br (fun _ _ _ _ ka kb => lv_icmp_ne (tgt := 143) X.1.1 X.1.2.1 dX1_areChutes_109 (by decide) kb ka) (fun c109 => ?_) (fun c109 => ?_)
          · refine J.pu (fun _ _ _ _ k => lv_iload_n X.1.1 X.1.2.1 dX1_areChutes_112 rfl (lv_at hl 3 rfl) k) ?_
            refine J.pu (fun _ _ _ _ k => lv_aload_n X.1.1 X.1.2.1 dX1_areChutes_113 rfl (lv_at hl 1 rfl) k) ?_
            refine J.getR (k := 4) (ci := 0) X in_X1 (show jCl[0]? = some (RX1, TX1, 9) from rfl) (by decide) q1329 (fun _ h => h) dX1_areChutes_114 (fun v114 h114 => ?_)
            refine J.pu (fun _ _ _ _ k => lv_iconst (v := 1) X.1.1 X.1.2.1 dX1_areChutes_117 (by decide) k) ?_
            refine J.bind (fun o118 g118 => ?_)
            refine J.bind (fun v118 h118 => ?_)
            refine J.cV (q := (RX2, TX2, 9)) (ci := 1) (As := [.int 1]) (rest := [.int x2_6]) (s2 := [.int v118, .int x2_6]) X ⟨rfl, rfl⟩ (ct_X2_those l G n σ o118 1) (jrd_of h118) (fun _ _ => cwV 1 X.1.2.2.2.2 (lw_V q2167 q2061 q2062 q139 q2063) rfl rfl rfl (by decide +kernel) ⟨(Nat.le_of_ble_eq_true rfl), (Nat.le_of_ble_eq_true rfl)⟩) g118 rfl rfl hl.1 rfl rfl (Nat.le_of_ble_eq_true rfl) dX1_areChutes_118 ?_
            refine J.br (fun _ _ _ _ ka kb => lv_icmp_ne (tgt := 143) X.1.1 X.1.2.1 dX1_areChutes_121 (by decide) kb ka) (fun c121 => ?_) (fun c121 => ?_)
            · refine J.pu (fun _ _ _ _ k => W.rload_n X.1.1 X.1.2.1 dX1_areChutes_124 rfl (lv_at hl 0 rfl) k) ?_
              refine J.pu (fun _ _ _ _ k => lv_bipush (v := 10) X.1.1 X.1.2.1 dX1_areChutes_125 (by decide) k) ?_
              refine J.aI0 X dX1_areChutes_127 (fun v127 h127 => ?_)
              refine J.pu (fun _ _ _ _ k => lv_aload_n X.1.1 X.1.2.1 dX1_areChutes_128 rfl (lv_at hl 1 rfl) k) ?_
              refine J.getR (k := 4) (ci := 0) X in_X1 (show jCl[0]? = some (RX1, TX1, 9) from rfl) (by decide) q1329 (fun _ h => h) dX1_areChutes_129 (fun v129 h129 => ?_)
              refine J.pu (fun _ _ _ _ k => lv_iconst (v := 2) X.1.1 X.1.2.1 dX1_areChutes_132 (by decide) k) ?_
              refine J.bind (fun o133 g133 => ?_)
              refine J.bind (fun v133 h133 => ?_)
              refine J.cV (q := (RX2, TX2, 9)) (ci := 1) (As := [.int 2]) (rest := [.int v127]) (s2 := [.int v133, .int v127]) X ⟨rfl, rfl⟩ (ct_X2_those l G n σ o133 2) (jrd_of h133) (fun _ _ => cwV 1 X.1.2.2.2.2 (lw_V q2167 q2061 q2062 q139 q2063) rfl rfl rfl (by decide +kernel) ⟨(Nat.le_of_ble_eq_true rfl), (Nat.le_of_ble_eq_true rfl)⟩) g133 rfl rfl hl.1 rfl rfl (Nat.le_of_ble_eq_true rfl) dX1_areChutes_133 ?_
              refine J.br (fun _ _ _ _ ka kb => lv_icmp_ne (tgt := 143) X.1.1 X.1.2.1 dX1_areChutes_136 (by decide) kb ka) (fun c136 => ?_) (fun c136 => ?_)
              · refine J.pu (fun _ _ _ _ k => lv_iconst (v := 1) X.1.1 X.1.2.1 dX1_areChutes_139 (by decide) k) ?_
                refine J.pu (fun _ _ _ _ k => lv_goto (tgt := 144) X.1.1 X.1.2.1 dX1_areChutes_140 (by decide) k) ?_
                exact J.zret (vr := jrI) (fin := fun _ : Int32 => σ) (t := t) X hr (by decide) (by rfl) (by rfl) dX1_areChutes_144
              · refine J.pu (fun _ _ _ _ k => lv_iconst (v := 0) X.1.1 X.1.2.1 dX1_areChutes_143 (by decide) k) ?_
                exact J.zret (vr := jrI) (fin := fun _ : Int32 => σ) (t := t) X hr (by decide) (by rfl) (by rfl) dX1_areChutes_144
            · refine J.pu (fun _ _ _ _ k => lv_iconst (v := 0) X.1.1 X.1.2.1 dX1_areChutes_143 (by decide) k) ?_
              exact J.zret (vr := jrI) (fin := fun _ : Int32 => σ) (t := t) X hr (by decide) (by rfl) (by rfl) dX1_areChutes_144
          · refine J.pu (fun _ _ _ _ k => lv_iconst (v := 0) X.1.1 X.1.2.1 dX1_areChutes_143 (by decide) k) ?_
            exact J.zret (vr := jrI) (fin := fun _ : Int32 => σ) (t := t) X hr (by decide) (by rfl) (by rfl) dX1_areChutes_144
        · refine J.pu (fun _ _ _ _ k => lv_iconst (v := 0) X.1.1 X.1.2.1 dX1_areChutes_143 (by decide) k) ?_
          exact J.zret (vr := jrI) (fin := fun _ : Int32 => σ) (t := t) X hr (by decide) (by rfl) (by rfl) dX1_areChutes_144
      · refine J.pu (fun _ _ _ _ k => lv_aload_n X.1.1 X.1.2.1 dX1_areChutes_22 rfl (lv_at hl 0 rfl) k) ?_
        refine J.getR (k := 4) (ci := 0) X in_X1 (show jCl[0]? = some (RX1, TX1, 9) from rfl) (by decide) q1329 (fun _ h => h) dX1_areChutes_23 (fun v23 h23 => ?_)
        refine J.pu (fun _ _ _ _ k => lv_iload_n X.1.1 X.1.2.1 dX1_areChutes_26 rfl (lv_at hl 3 rfl) k) ?_
        refine J.bind (fun o27 g27 => ?_)
        refine J.bind (fun v27 h27 => ?_)
        refine J.cV (q := (RX2, TX2, 9)) (ci := 1) (As := [.int x3_6]) (rest := []) (s2 := [va_rf v27]) X ⟨rfl, rfl⟩ (ct_X2_chute l G n σ o27 x3_6) (jrd_of h27) (fun _ _ => cwV 1 X.1.2.2.2.2 (lw_V q2185 q844 q845 q139 q846) rfl rfl rfl (by decide +kernel) ⟨(Nat.le_of_ble_eq_true rfl), (Nat.le_of_ble_eq_true rfl)⟩) g27 rfl rfl hl.1 rfl rfl (Nat.le_of_ble_eq_true rfl) dX1_areChutes_27 ?_
        refine J.astore (r := v27) (lv' := [(4, va_rf v27), (0, .ref this), (1, .int x1_6), (2, .int x2_6), (3, .int x3_6)]) X.1.1 X.1.2.1 dX1_areChutes_30 hl (by decide) (by first | rfl | simp [va_rf_cat, jcI, jcA, jcJ, jcD, jcF]) (fun ls hl => ?_)
        refine J.pu (fun _ _ _ _ k => W.rload X.1.1 X.1.2.1 dX1_areChutes_32 (lv_at hl 0 rfl) k) ?_
        refine J.getRN (k := 4) (ci := 3) X in_X4 (show jCl[3]? = some (RX4, TX4, 9) from rfl) (by decide) jnf24 (fun _ h => h) dX1_areChutes_34 (fun v34 h34 => ?_)
        refine J.bind (fun o37 g37 => ?_)
        refine J.bind (fun v37 h37 => ?_)
        refine J.cF (q := (RJ19, TJ19, 4)) (ci := 16) (As := []) (rest := []) (s2 := [.int v37]) X ⟨rfl, rfl⟩ (ct_J19_size l G σ o37) (jrd_of h37) (fun _ _ => va_cwF 0 X.1.2.2.2.2 (lw_F q1751 q837 q839 q163 q841) rfl rfl rfl (jfw3 X.2.1) (by decide +kernel) ⟨(Nat.le_of_ble_eq_true rfl), (Nat.le_of_ble_eq_true rfl)⟩) g37 rfl rfl hl.1 rfl rfl (Nat.le_of_ble_eq_true rfl) dX1_areChutes_37 ?_
        refine J.pu (fun _ _ _ _ k => W.rload X.1.1 X.1.2.1 dX1_areChutes_42 (lv_at hl 0 rfl) k) ?_
        refine J.getIN (k := 2) (ci := 3) X in_X4 (show jCl[3]? = some (RX4, TX4, 9) from rfl) (by decide) jnf20 (fun _ h => h) dX1_areChutes_44 (fun v44 h44 => ?_)
        refine J.br (fun _ _ _ _ ka kb => lv_icmp_le (tgt := 52) X.1.1 X.1.2.1 dX1_areChutes_47 (by decide) ka kb) (fun c47 => ?_) (fun c47 => ?_)
        · refine J.pu (fun _ _ _ _ k => lv_iload_n X.1.1 X.1.2.1 dX1_areChutes_52 rfl (lv_at hl 2 rfl) k) ?_
          refine J.pu (fun _ _ _ _ k => W.rload X.1.1 X.1.2.1 dX1_areChutes_53 (lv_at hl 0 rfl) k) ?_
          refine J.getIN (k := 7) (ci := 3) X in_X4 (show jCl[3]? = some (RX4, TX4, 9) from rfl) (by decide) jnf30 (fun _ h => h) dX1_areChutes_55 (fun v55 h55 => ?_)
          refine J.pu (fun _ _ _ _ k => lv_iadd X.1.1 X.1.2.1 dX1_areChutes_58 k) ?_
          refine J.istore_n (i := 1) (lv' := [(1, .int (x1_6 + v55)), (4, va_rf v27), (0, .ref this), (2, .int x2_6), (3, .int x3_6)]) X.1.1 X.1.2.1 dX1_areChutes_59 rfl hl (by decide) (by first | rfl | simp [va_rf_cat, jcI, jcA, jcJ, jcD, jcF]) (fun ls hl => ?_)
          refine J.pu (fun _ _ _ _ k => lv_iload_n X.1.1 X.1.2.1 dX1_areChutes_60 rfl (lv_at hl 3 rfl) k) ?_
          refine J.pu (fun _ _ _ _ k => W.rload X.1.1 X.1.2.1 dX1_areChutes_61 (lv_at hl 1 rfl) k) ?_
          refine J.getRN (k := 4) (ci := 3) X in_X4 (show jCl[3]? = some (RX4, TX4, 9) from rfl) (by decide) jnf24 (fun _ h => h) dX1_areChutes_63 (fun v63 h63 => ?_)
          refine J.bind (fun o66 g66 => ?_)
          refine J.bind (fun v66 h66 => ?_)
          refine J.cF (q := (RJ19, TJ19, 4)) (ci := 16) (As := []) (rest := [.int x2_6]) (s2 := [.int v66, .int x2_6]) X ⟨rfl, rfl⟩ (ct_J19_size l G σ o66) (jrd_of h66) (fun _ _ => va_cwF 0 X.1.2.2.2.2 (lw_F q1751 q837 q839 q163 q841) rfl rfl rfl (jfw3 X.2.1) (by decide +kernel) ⟨(Nat.le_of_ble_eq_true rfl), (Nat.le_of_ble_eq_true rfl)⟩) g66 rfl rfl hl.1 rfl rfl (Nat.le_of_ble_eq_true rfl) dX1_areChutes_66 ?_
          refine J.pu (fun _ _ _ _ k => lv_iadd X.1.1 X.1.2.1 dX1_areChutes_71 k) ?_
          refine J.istore_n (i := 2) (lv' := [(2, .int (x2_6 + v66)), (1, .int (x1_6 + v55)), (4, va_rf v27), (0, .ref this), (3, .int x3_6)]) X.1.1 X.1.2.1 dX1_areChutes_72 rfl hl (by decide) (by first | rfl | simp [va_rf_cat, jcI, jcA, jcJ, jcD, jcF]) (fun ls hl => ?_)
          refine J.iinc (k := 4) (lv' := [(3, .int (x3_6 + 1)), (2, .int (x2_6 + v66)), (1, .int (x1_6 + v55)), (4, va_rf v27), (0, .ref this)]) (w := (x3_6 + 1)) X.1.1 X.1.2.1 dX1_areChutes_73 hl rfl rfl (by decide) (by first | rfl | simp [va_rf_cat, jcI, jcA, jcJ, jcD, jcF]) (fun ls hl => ?_)
          refine J.pu (fun _ _ _ _ k => lv_goto (tgt := 6) X.1.1 X.1.2.1 dX1_areChutes_76 (by decide) k) ?_
          exact ih6 (x1_6 + v55) (x2_6 + v66) (x3_6 + 1) ls (lv_sub hl [4, 2, 1, 0] rfl)
        · refine J.pu (fun _ _ _ _ k => lv_iconst (v := 0) X.1.1 X.1.2.1 dX1_areChutes_50 (by decide) k) ?_
          exact J.zret (vr := jrI) (fin := fun _ : Int32 => σ) (t := t) X hr (by decide) (by rfl) (by rfl) dX1_areChutes_51
  unfold X1_areChutes
  refine J.pu (fun _ _ _ _ k => lv_iconst (v := 0) X.1.1 X.1.2.1 dX1_areChutes_0 (by decide) k) ?_
  refine J.istore_n (i := 1) (lv' := [(1, .int 0), (0, .ref this)]) X.1.1 X.1.2.1 dX1_areChutes_1 rfl hl (by decide) (by first | rfl | simp [va_rf_cat, jcI, jcA, jcJ, jcD, jcF]) (fun ls hl => ?_)
  refine J.pu (fun _ _ _ _ k => lv_iconst (v := 0) X.1.1 X.1.2.1 dX1_areChutes_2 (by decide) k) ?_
  refine J.istore_n (i := 2) (lv' := [(2, .int 0), (1, .int 0), (0, .ref this)]) X.1.1 X.1.2.1 dX1_areChutes_3 rfl hl (by decide) (by first | rfl | simp [va_rf_cat, jcI, jcA, jcJ, jcD, jcF]) (fun ls hl => ?_)
  refine J.pu (fun _ _ _ _ k => lv_iconst (v := 0) X.1.1 X.1.2.1 dX1_areChutes_4 (by decide) k) ?_
  refine J.istore_n (i := 3) (lv' := [(3, .int 0), (2, .int 0), (1, .int 0), (0, .ref this)]) X.1.1 X.1.2.1 dX1_areChutes_5 rfl hl (by decide) (by first | rfl | simp [va_rf_cat, jcI, jcA, jcJ, jcD, jcF]) (fun ls hl => ?_)
  exact L6 n 0 0 0 ls (lv_sub hl [3, 2, 1, 0] rfl)
noncomputable def X1_load (G : jG) (n : Nat) (σ : jH) (this : Nat) : Option (UInt32) :=
  (gR σ (some this) 0 4).bind fun v1 => (rc σ v1 1).bind fun o5 => (X2_those G n σ o5 0).bind fun v5 => (gR σ (some this) 0 4).bind fun v10 => (gI σ v10 1 0).bind fun v13 => jn32 (FP.fdiv (FP.i2f v5) (FP.i2f v13)) fun _ => some (FP.fdiv (FP.i2f v5) (FP.i2f v13))
set_option maxHeartbeats 4000000 in
set_option maxRecDepth 100000 in
theorem ct_X1_load (l : Launch) (G : jG) (n : Nat) (σ : jH) (this : Nat) : jCt l G yX1_load (ws_ yX1_load cX1_load 1 (some .float)) 23 1265 jrF [.ref this] σ (jrd σ (X1_load G n σ this)) := by
  refine jCt.rd (lv := [(0, .ref this)]) (plainFor_of_name (by decide)) (Nat.le_of_ble_eq_true rfl) rfl ?_
  intro t p e s m args below meth c ls X hr hnm hl
  have X : jCx p c cX1_load 1 s m args RX1 G meth := X
  unfold X1_load
  refine J.pu (fun _ _ _ _ k => lv_aload_n X.1.1 X.1.2.1 dX1_load_0 rfl (lv_at hl 0 rfl) k) ?_
  refine J.getR (k := 4) (ci := 0) X in_X1 (show jCl[0]? = some (RX1, TX1, 9) from rfl) (by decide) q1329 (fun _ h => h) dX1_load_1 (fun v1 h1 => ?_)
  refine J.pu (fun _ _ _ _ k => lv_iconst (v := 0) X.1.1 X.1.2.1 dX1_load_4 (by decide) k) ?_
  refine J.bind (fun o5 g5 => ?_)
  refine J.bind (fun v5 h5 => ?_)
  refine J.cV (q := (RX2, TX2, 9)) (ci := 1) (As := [.int 0]) (rest := []) (s2 := [.int v5]) X ⟨rfl, rfl⟩ (ct_X2_those l G n σ o5 0) (jrd_of h5) (fun _ _ => cwV 1 X.1.2.2.2.2 (lw_V q2167 q2061 q2062 q139 q2063) rfl rfl rfl (by decide +kernel) ⟨(Nat.le_of_ble_eq_true rfl), (Nat.le_of_ble_eq_true rfl)⟩) g5 rfl rfl hl.1 rfl rfl (Nat.le_of_ble_eq_true rfl) dX1_load_5 ?_
  refine J.pu (fun _ _ _ _ k => lv_i2f X.1.1 X.1.2.1 dX1_load_8 k) ?_
  refine J.pu (fun _ _ _ _ k => lv_aload_n X.1.1 X.1.2.1 dX1_load_9 rfl (lv_at hl 0 rfl) k) ?_
  refine J.getR (k := 4) (ci := 0) X in_X1 (show jCl[0]? = some (RX1, TX1, 9) from rfl) (by decide) q1329 (fun _ h => h) dX1_load_10 (fun v10 h10 => ?_)
  refine J.getIN (k := 0) (ci := 1) X in_X2 (show jCl[1]? = some (RX2, TX2, 9) from rfl) (by decide) jnf2 (fun _ h => h) dX1_load_13 (fun v13 h13 => ?_)
  refine J.pu (fun _ _ _ _ k => lv_i2f X.1.1 X.1.2.1 dX1_load_16 k) ?_
  refine J.n32 (fun z17 => ?_)
  refine J.pu (fun _ _ _ _ k => lv_fdiv X.1.1 X.1.2.1 dX1_load_17 z17 k) ?_
  exact J.fret (vr := jrF) (fin := fun _ : UInt32 => σ) (t := t) X hr (by rfl) (by rfl) dX1_load_18
noncomputable def X1_printChutes_j124 (G : jG) (n : Nat) (this : Nat) (rec10 : Int32 × jH → Option (Int32 × jH)) (rec88 : Int32 × jH → Option (Int32 × jH)) (x1_88 : Int32) (x4_88 : Option Nat) (x5_124 : Option Nat) (B124 : jH) : Option (Int32 × jH) :=
  (gR B124 (some this) 0 8).bind fun v125 => (gI B124 x5_124 4 0).bind fun v130 => (rc B124 v125 20).bind fun o133 => bd (jck B124 (sbAppI G B124 o133 v130)) fun v133 S133 => rec88 (0, S133)
noncomputable def X1_printChutes_h88 (G : jG) (n : Nat) (this : Nat) (rec10 : Int32 × jH → Option (Int32 × jH)) (x1_88 : Int32) (x4_88 : Option Nat) (rec88 : Int32 × jH → Option (Int32 × jH)) (q88 : Int32 × jH) : Option (Int32 × jH) :=
  let x3_88 := q88.1; let B88 := q88.2; (rc B88 x4_88 19).bind fun o90 => (itHas B88 o90).bind fun v90 => if v90 = 0 then (rec10 ((x1_88 + 1), B88)) else ((rc B88 x4_88 19).bind fun o100 => bd (jck B88 (itNext G B88 o100)) fun v100 S100 => (jck' S100 v100 [4]).bind fun _ => if x3_88 = 0 then ((gR S100 (some this) 0 8).bind fun v115 => (rc S100 v115 20).bind fun o120 => bd (jck S100 (sbAppC G S100 o120 44)) fun v120 S120 => X1_printChutes_j124 G n this rec10 rec88 x1_88 x4_88 v100 S120) else (X1_printChutes_j124 G n this rec10 rec88 x1_88 x4_88 v100 S100))
noncomputable def X1_printChutes_j71 (G : jG) (n : Nat) (this : Nat) (rec10 : Int32 × jH → Option (Int32 × jH)) (x1_71 : Int32) (x2_71 : Option Nat) (s0_71 : Option Nat) (s1_71 : Int32) (B71 : jH) : Option (Int32 × jH) :=
  (rc B71 s0_71 20).bind fun o71 => bd (jck B71 (sbAppC G B71 o71 s1_71)) fun v71 S71 => (gR S71 x2_71 3 4).bind fun v78 => (rc S71 v78 16).bind fun o81 => bd (jck S71 (llIter S71 o81)) fun v81 S81 => jloop (X1_printChutes_h88 G n this rec10 x1_71 v81) n (1, S81)
noncomputable def X1_printChutes_j49 (G : jG) (n : Nat) (this : Nat) (rec10 : Int32 × jH → Option (Int32 × jH)) (x1_49 : Int32) (x2_49 : Option Nat) (B49 : jH) : Option (Int32 × jH) :=
  (gR B49 (some this) 0 8).bind fun v50 => (rc B49 v50 20).bind fun o54 => bd (jck B49 (sbAppI G B49 o54 x1_49)) fun v54 S54 => (gI S54 x2_49 3 8).bind fun v58 => if v58 = 0 then (X1_printChutes_j71 G n this rec10 x1_49 x2_49 v54 120 S54) else (X1_printChutes_j71 G n this rec10 x1_49 x2_49 v54 58 S54)
noncomputable def X1_printChutes_h10 (G : jG) (n : Nat) (this : Nat) (rec10 : Int32 × jH → Option (Int32 × jH)) (q10 : Int32 × jH) : Option (Int32 × jH) :=
  let x1_10 := q10.1; let B10 := q10.2; (gR B10 (some this) 0 4).bind fun v12 => (gR B10 v12 1 3).bind fun v15 => (rc B10 v15 15).bind fun o18 => (lSize 0 B10 o18).bind fun v18 => if v18 ≤ x1_10 then ((gR B10 (some this) 0 8).bind fun v149 => (rc B10 v149 20).bind fun o152 => (sbLen B10 o152).bind fun v152 => some (v152, B10)) else ((gR B10 (some this) 0 4).bind fun v27 => (rc B10 v27 1).bind fun o31 => (X2_chute G n B10 o31 x1_10).bind fun v31 => if x1_10 ≤ 0 then (X1_printChutes_j49 G n this rec10 x1_10 v31 B10) else ((gR B10 (some this) 0 8).bind fun v40 => (rc B10 v40 20).bind fun o45 => bd (jck B10 (sbAppC G B10 o45 32)) fun v45 S45 => X1_printChutes_j49 G n this rec10 x1_10 v31 S45))
noncomputable def X1_printChutes_b (G : jG) (n : Nat) (σ : jH) (this : Nat) : Option (Int32 × jH) :=
  (gR σ (some this) 0 8).bind fun v1 => (rc σ v1 20).bind fun o5 => bd (jck σ (sbSet G σ o5 0)) fun v5 S5 => jloop (X1_printChutes_h10 G n this) n (0, S5)
noncomputable def X1_printChutes (G : jG) (n : Nat) (σ : jH) (this : Nat) : Option (Int32 × jH) := jck σ (X1_printChutes_b G n σ this)
set_option maxHeartbeats 4000000 in
set_option maxRecDepth 100000 in
theorem ct_X1_printChutes (l : Launch) (G : jG) (n : Nat) (σ : jH) (this : Nat) : jCt l G yX1_printChutes (ws_ yX1_printChutes cX1_printChutes 6 (some .int)) 22 1242 jrI [.ref this] σ (X1_printChutes G n σ this) := by
  refine jCt.wr (lv := [(0, .ref this)]) (plainFor_of_name (by decide)) (Nat.le_of_ble_eq_true rfl) rfl ?_
  intro t p e s m args below meth c ls X hr hnm hl
  have X : jCx p c cX1_printChutes 6 s m args RX1 G meth := X
  have L10 : ∀ (n10 : Nat) (x1_10 : Int32) (B10 : jH) (ls : Array Slot), lv_has ls 6 [(0, .ref this), (1, .int x1_10)] → jGo l G 22 1242 σ (Prod.snd : Int32 × jH → jH) (fun t => jrI t.1) t p e s m args below meth c (jloop (X1_printChutes_h10 G n this) n10 (x1_10, B10)) B10 (F0 m 10 ls []) := by
    intro n10
    induction n10 with
    | zero => intro x1_10 B10 ls hl; exact J.nil_
    | succ n10 ih10 =>
      have L88 : ∀ (x1_88 : Int32) (x4_88 : Option Nat) (n88 : Nat) (x3_88 : Int32) (B88 : jH) (ls : Array Slot), lv_has ls 6 [(0, .ref this), (1, .int x1_88), (4, va_rf x4_88), (3, .int x3_88)] → jGo l G 22 1242 σ (Prod.snd : Int32 × jH → jH) (fun t => jrI t.1) t p e s m args below meth c (jloop (X1_printChutes_h88 G n this (jloop (X1_printChutes_h10 G n this) n10) x1_88 x4_88) n88 (x3_88, B88)) B88 (F0 m 88 ls []) := by
        intro x1_88 x4_88
        intro n88
        induction n88 with
        | zero => intro x3_88 B88 ls hl; exact J.nil_
        | succ n88 ih88 =>
          have j124 : ∀ (x5_124 : Option Nat) (B124 : jH) (ls : Array Slot), lv_has ls 6 [(0, .ref this), (1, .int x1_88), (4, va_rf x4_88), (5, va_rf x5_124)] → jGo l G 22 1242 σ (Prod.snd : Int32 × jH → jH) (fun t => jrI t.1) t p e s m args below meth c (X1_printChutes_j124 G n this (jloop (X1_printChutes_h10 G n this) n10) (jloop (X1_printChutes_h88 G n this (jloop (X1_printChutes_h10 G n this) n10) x1_88 x4_88) n88) x1_88 x4_88 x5_124 B124) B124 (F0 m 124 ls []) := by
            intro x5_124 B124 ls hl
            unfold X1_printChutes_j124
            refine J.pu (fun _ _ _ _ k => lv_aload_n X.1.1 X.1.2.1 dX1_printChutes_124 rfl (lv_at hl 0 rfl) k) ?_
            refine J.getR (k := 8) (ci := 0) X in_X1 (show jCl[0]? = some (RX1, TX1, 9) from rfl) (by decide) q1333 (fun _ h => h) dX1_printChutes_125 (fun v125 h125 => ?_)
            refine J.pu (fun _ _ _ _ k => W.rload X.1.1 X.1.2.1 dX1_printChutes_128 (lv_at hl 3 rfl) k) ?_
            refine J.getIN (k := 0) (ci := 4) X in_X5 (show jCl[4]? = some (RX5, TX5, 10) from rfl) (by decide) jnf34 (fun _ h => h) dX1_printChutes_130 (fun v130 h130 => ?_)
            refine J.bind (fun o133 g133 => ?_)
            refine J.bd' (fun v133 S133 h133 => ?_)
            refine J.cV (q := (RJ8, TJ8, 4)) (ci := 20) (As := [.int v130]) (rest := []) (s2 := [va_rf v133]) X ⟨rfl, rfl⟩ (ct_J8_append_2 l G B124 o133 v130) h133 (fun _ _ => cwV 1 X.1.2.2.2.2 (lw_V q2357 q427 q428 q148 q429) rfl rfl rfl (by decide +kernel) ⟨(Nat.le_of_ble_eq_true rfl), (Nat.le_of_ble_eq_true rfl)⟩) g133 rfl rfl hl.1 rfl rfl (Nat.le_of_ble_eq_true rfl) dX1_printChutes_133 ?_
            refine J.pu (fun _ _ _ _ k => lv_pop X.1.1 X.1.2.1 dX1_printChutes_136 (va_rf_cat _) k) ?_
            refine J.pu (fun _ _ _ _ k => lv_iconst (v := 0) X.1.1 X.1.2.1 dX1_printChutes_137 (by decide) k) ?_
            refine J.istore_n (i := 3) (lv' := [(3, .int 0), (0, .ref this), (1, .int x1_88), (4, va_rf x4_88), (5, va_rf x5_124)]) X.1.1 X.1.2.1 dX1_printChutes_138 rfl hl (by decide) (by first | rfl | simp [va_rf_cat, jcI, jcA, jcJ, jcD, jcF]) (fun ls hl => ?_)
            refine J.pu (fun _ _ _ _ k => lv_goto (tgt := 88) X.1.1 X.1.2.1 dX1_printChutes_139 (by decide) k) ?_
            exact ih88 0 S133 ls (lv_sub hl [1, 2, 3, 0] rfl)
          intro x3_88 B88 ls hl
          refine J.eq (jloop_s _ _ _) ?_
          dsimp only [X1_printChutes_h88]
          refine J.pu (fun _ _ _ _ k => W.rload X.1.1 X.1.2.1 dX1_printChutes_88 (lv_at hl 2 rfl) k) ?_
          refine J.bind (fun o90 g90 => ?_)
          refine J.bind (fun v90 h90 => ?_)
          refine J.cF (q := (RJ26, TJ26, 5)) (ci := 19) (As := []) (rest := []) (s2 := [.int v90]) X ⟨rfl, rfl⟩ (ct_J26_hasNext l G B88 o90) (jrd_of h90) (fun _ _ => va_cwF 0 X.1.2.2.2.2 (lw_F q2361 q1196 q1198 q172 q1200) rfl rfl rfl (jfw17 X.2.1) (by decide +kernel) ⟨(Nat.le_of_ble_eq_true rfl), (Nat.le_of_ble_eq_true rfl)⟩) g90 rfl rfl hl.1 rfl rfl (Nat.le_of_ble_eq_true rfl) dX1_printChutes_90 ?_
          refine J.br (fun _ _ _ _ ka kb => lv_if_eq (tgt := 142) X.1.1 X.1.2.1 dX1_printChutes_95 (by decide) ka kb) (fun c95 => ?_) (fun c95 => ?_)
          · refine J.iinc (k := 1) (lv' := [(1, .int (x1_88 + 1)), (0, .ref this), (4, va_rf x4_88), (3, .int x3_88)]) (w := (x1_88 + 1)) X.1.1 X.1.2.1 dX1_printChutes_142 hl rfl rfl (by decide) (by first | rfl | simp [va_rf_cat, jcI, jcA, jcJ, jcD, jcF]) (fun ls hl => ?_)
            refine J.pu (fun _ _ _ _ k => lv_goto (tgt := 10) X.1.1 X.1.2.1 dX1_printChutes_145 (by decide) k) ?_
            exact ih10 (x1_88 + 1) B88 ls (lv_sub hl [1, 0] rfl)
          · refine J.pu (fun _ _ _ _ k => W.rload X.1.1 X.1.2.1 dX1_printChutes_98 (lv_at hl 2 rfl) k) ?_
            refine J.bind (fun o100 g100 => ?_)
            refine J.bd' (fun v100 S100 h100 => ?_)
            refine J.cF (q := (RJ26, TJ26, 5)) (ci := 19) (As := []) (rest := []) (s2 := [va_rf v100]) X ⟨rfl, rfl⟩ (ct_J26_next l G B88 o100) h100 (fun _ _ => va_cwF 0 X.1.2.2.2.2 (lw_F q2363 q1309 q1311 q172 q1313) rfl rfl rfl (jfw21 X.2.1) (by decide +kernel) ⟨(Nat.le_of_ble_eq_true rfl), (Nat.le_of_ble_eq_true rfl)⟩) g100 rfl rfl hl.1 rfl rfl (Nat.le_of_ble_eq_true rfl) dX1_printChutes_100 ?_
            refine J.cast (nm := "SortingLoop$Parcel") X q2346 (List.forall_mem_cons.mpr ⟨⟨_, rfl, Or.inl rfl⟩, jnil_all⟩) dX1_printChutes_105 ?_
            refine J.astore (r := v100) (lv' := [(5, va_rf v100), (0, .ref this), (1, .int x1_88), (4, va_rf x4_88), (3, .int x3_88)]) X.1.1 X.1.2.1 dX1_printChutes_108 hl (by decide) (by first | rfl | simp [va_rf_cat, jcI, jcA, jcJ, jcD, jcF]) (fun ls hl => ?_)
            refine J.pu (fun _ _ _ _ k => lv_iload_n X.1.1 X.1.2.1 dX1_printChutes_110 rfl (lv_at hl 4 rfl) k) ?_
            refine J.br (fun _ _ _ _ ka kb => lv_if_ne (tgt := 124) X.1.1 X.1.2.1 dX1_printChutes_111 (by decide) kb ka) (fun c111 => ?_) (fun c111 => ?_)
            · refine J.pu (fun _ _ _ _ k => lv_aload_n X.1.1 X.1.2.1 dX1_printChutes_114 rfl (lv_at hl 1 rfl) k) ?_
              refine J.getR (k := 8) (ci := 0) X in_X1 (show jCl[0]? = some (RX1, TX1, 9) from rfl) (by decide) q1333 (fun _ h => h) dX1_printChutes_115 (fun v115 h115 => ?_)
              refine J.pu (fun _ _ _ _ k => lv_bipush (v := 44) X.1.1 X.1.2.1 dX1_printChutes_118 (by decide) k) ?_
              refine J.bind (fun o120 g120 => ?_)
              refine J.bd' (fun v120 S120 h120 => ?_)
              refine J.cV (q := (RJ8, TJ8, 4)) (ci := 20) (As := [.int 44]) (rest := []) (s2 := [va_rf v120]) X ⟨rfl, rfl⟩ (ct_J8_append_3 l G S100 o120 44) h120 (fun _ _ => cwV 1 X.1.2.2.2.2 (lw_V q2351 q1412 q1413 q148 q1414) rfl rfl rfl (by decide +kernel) ⟨(Nat.le_of_ble_eq_true rfl), (Nat.le_of_ble_eq_true rfl)⟩) g120 rfl rfl hl.1 rfl rfl (Nat.le_of_ble_eq_true rfl) dX1_printChutes_120 ?_
              refine J.pu (fun _ _ _ _ k => lv_pop X.1.1 X.1.2.1 dX1_printChutes_123 (va_rf_cat _) k) ?_
              exact j124 v100 S120 ls (lv_sub hl [1, 2, 3, 0] rfl)
            · exact j124 v100 S100 ls (lv_sub hl [1, 2, 3, 0] rfl)
      have j71 : ∀ (x1_71 : Int32) (x2_71 : Option Nat) (s0_71 : Option Nat) (s1_71 : Int32) (B71 : jH) (ls : Array Slot), lv_has ls 6 [(0, .ref this), (1, .int x1_71), (2, va_rf x2_71)] → jGo l G 22 1242 σ (Prod.snd : Int32 × jH → jH) (fun t => jrI t.1) t p e s m args below meth c (X1_printChutes_j71 G n this (jloop (X1_printChutes_h10 G n this) n10) x1_71 x2_71 s0_71 s1_71 B71) B71 (F0 m 71 ls [.int s1_71, va_rf s0_71]) := by
        intro x1_71 x2_71 s0_71 s1_71 B71 ls hl
        unfold X1_printChutes_j71
        refine J.bind (fun o71 g71 => ?_)
        refine J.bd' (fun v71 S71 h71 => ?_)
        refine J.cV (q := (RJ8, TJ8, 4)) (ci := 20) (As := [.int s1_71]) (rest := []) (s2 := [va_rf v71]) X ⟨rfl, rfl⟩ (ct_J8_append_3 l G B71 o71 s1_71) h71 (fun _ _ => cwV 1 X.1.2.2.2.2 (lw_V q2351 q1412 q1413 q148 q1414) rfl rfl rfl (by decide +kernel) ⟨(Nat.le_of_ble_eq_true rfl), (Nat.le_of_ble_eq_true rfl)⟩) g71 rfl rfl hl.1 rfl rfl (Nat.le_of_ble_eq_true rfl) dX1_printChutes_71 ?_
        refine J.pu (fun _ _ _ _ k => lv_pop X.1.1 X.1.2.1 dX1_printChutes_74 (va_rf_cat _) k) ?_
        refine J.pu (fun _ _ _ _ k => lv_iconst (v := 1) X.1.1 X.1.2.1 dX1_printChutes_75 (by decide) k) ?_
        refine J.istore_n (i := 3) (lv' := [(3, .int 1), (0, .ref this), (1, .int x1_71), (2, va_rf x2_71)]) X.1.1 X.1.2.1 dX1_printChutes_76 rfl hl (by decide) (by first | rfl | simp [va_rf_cat, jcI, jcA, jcJ, jcD, jcF]) (fun ls hl => ?_)
        refine J.pu (fun _ _ _ _ k => W.rload_n X.1.1 X.1.2.1 dX1_printChutes_77 rfl (lv_at hl 3 rfl) k) ?_
        refine J.getRN (k := 4) (ci := 3) X in_X4 (show jCl[3]? = some (RX4, TX4, 9) from rfl) (by decide) jnf24 (fun _ h => h) dX1_printChutes_78 (fun v78 h78 => ?_)
        refine J.bind (fun o81 g81 => ?_)
        refine J.bd' (fun v81 S81 h81 => ?_)
        refine J.cF (q := (RJ19, TJ19, 4)) (ci := 16) (As := []) (rest := []) (s2 := [va_rf v81]) X ⟨rfl, rfl⟩ (ct_J18_iterator l G S71 o81) h81 (fun _ _ => va_cwF 0 X.1.2.2.2.2 (lw_F q2359 q1093 q1095 q162 q1097) rfl rfl rfl (jfw13 X.2.1) (by decide +kernel) ⟨(Nat.le_of_ble_eq_true rfl), (Nat.le_of_ble_eq_true rfl)⟩) g81 rfl rfl hl.1 rfl rfl (Nat.le_of_ble_eq_true rfl) dX1_printChutes_81 ?_
        refine J.astore (r := v81) (lv' := [(4, va_rf v81), (3, .int 1), (0, .ref this), (1, .int x1_71), (2, va_rf x2_71)]) X.1.1 X.1.2.1 dX1_printChutes_86 hl (by decide) (by first | rfl | simp [va_rf_cat, jcI, jcA, jcJ, jcD, jcF]) (fun ls hl => ?_)
        exact L88 x1_71 v81 n 1 S81 ls (lv_sub hl [2, 3, 0, 1] rfl)
      have j49 : ∀ (x1_49 : Int32) (x2_49 : Option Nat) (B49 : jH) (ls : Array Slot), lv_has ls 6 [(0, .ref this), (1, .int x1_49), (2, va_rf x2_49)] → jGo l G 22 1242 σ (Prod.snd : Int32 × jH → jH) (fun t => jrI t.1) t p e s m args below meth c (X1_printChutes_j49 G n this (jloop (X1_printChutes_h10 G n this) n10) x1_49 x2_49 B49) B49 (F0 m 49 ls []) := by
        intro x1_49 x2_49 B49 ls hl
        unfold X1_printChutes_j49
        refine J.pu (fun _ _ _ _ k => lv_aload_n X.1.1 X.1.2.1 dX1_printChutes_49 rfl (lv_at hl 0 rfl) k) ?_
        refine J.getR (k := 8) (ci := 0) X in_X1 (show jCl[0]? = some (RX1, TX1, 9) from rfl) (by decide) q1333 (fun _ h => h) dX1_printChutes_50 (fun v50 h50 => ?_)
        refine J.pu (fun _ _ _ _ k => lv_iload_n X.1.1 X.1.2.1 dX1_printChutes_53 rfl (lv_at hl 1 rfl) k) ?_
        refine J.bind (fun o54 g54 => ?_)
        refine J.bd' (fun v54 S54 h54 => ?_)
        refine J.cV (q := (RJ8, TJ8, 4)) (ci := 20) (As := [.int x1_49]) (rest := []) (s2 := [va_rf v54]) X ⟨rfl, rfl⟩ (ct_J8_append_2 l G B49 o54 x1_49) h54 (fun _ _ => cwV 1 X.1.2.2.2.2 (lw_V q2357 q427 q428 q148 q429) rfl rfl rfl (by decide +kernel) ⟨(Nat.le_of_ble_eq_true rfl), (Nat.le_of_ble_eq_true rfl)⟩) g54 rfl rfl hl.1 rfl rfl (Nat.le_of_ble_eq_true rfl) dX1_printChutes_54 ?_
        refine J.pu (fun _ _ _ _ k => W.rload_n X.1.1 X.1.2.1 dX1_printChutes_57 rfl (lv_at hl 2 rfl) k) ?_
        refine J.getIN (k := 8) (ci := 3) X in_X4 (show jCl[3]? = some (RX4, TX4, 9) from rfl) (by decide) jnf32 (fun _ h => h) dX1_printChutes_58 (fun v58 h58 => ?_)
        refine J.br (fun _ _ _ _ ka kb => lv_if_eq (tgt := 69) X.1.1 X.1.2.1 dX1_printChutes_61 (by decide) ka kb) (fun c61 => ?_) (fun c61 => ?_)
        · refine J.pu (fun _ _ _ _ k => lv_bipush (v := 120) X.1.1 X.1.2.1 dX1_printChutes_69 (by decide) k) ?_
          exact j71 x1_49 x2_49 v54 120 S54 ls (lv_sub hl [0, 1, 2] rfl)
        · refine J.pu (fun _ _ _ _ k => lv_bipush (v := 58) X.1.1 X.1.2.1 dX1_printChutes_64 (by decide) k) ?_
          refine J.pu (fun _ _ _ _ k => lv_goto (tgt := 71) X.1.1 X.1.2.1 dX1_printChutes_66 (by decide) k) ?_
          exact j71 x1_49 x2_49 v54 58 S54 ls (lv_sub hl [0, 1, 2] rfl)
      intro x1_10 B10 ls hl
      refine J.eq (jloop_s _ _ _) ?_
      dsimp only [X1_printChutes_h10]
      refine J.pu (fun _ _ _ _ k => lv_iload_n X.1.1 X.1.2.1 dX1_printChutes_10 rfl (lv_at hl 1 rfl) k) ?_
      refine J.pu (fun _ _ _ _ k => lv_aload_n X.1.1 X.1.2.1 dX1_printChutes_11 rfl (lv_at hl 0 rfl) k) ?_
      refine J.getR (k := 4) (ci := 0) X in_X1 (show jCl[0]? = some (RX1, TX1, 9) from rfl) (by decide) q1329 (fun _ h => h) dX1_printChutes_12 (fun v12 h12 => ?_)
      refine J.getRN (k := 3) (ci := 1) X in_X2 (show jCl[1]? = some (RX2, TX2, 9) from rfl) (by decide) jnf8 (fun _ h => h) dX1_printChutes_15 (fun v15 h15 => ?_)
      refine J.bind (fun o18 g18 => ?_)
      refine J.bind (fun v18 h18 => ?_)
      refine J.cF (q := (RJ2, TJ2, 3)) (ci := 15) (As := []) (rest := [.int x1_10]) (s2 := [.int v18, .int x1_10]) X ⟨rfl, rfl⟩ (ct_J2_size l G B10 o18) (jrd_of h18) (fun _ _ => va_cwF 0 X.1.2.2.2.2 (lw_F q1751 q832 q834 q142 q836) rfl rfl rfl (jfw2 X.2.1) (by decide +kernel) ⟨(Nat.le_of_ble_eq_true rfl), (Nat.le_of_ble_eq_true rfl)⟩) g18 rfl rfl hl.1 rfl rfl (Nat.le_of_ble_eq_true rfl) dX1_printChutes_18 ?_
      refine J.br (fun _ _ _ _ ka kb => lv_icmp_ge (tgt := 148) X.1.1 X.1.2.1 dX1_printChutes_23 (by decide) ka kb) (fun c23 => ?_) (fun c23 => ?_)
      · refine J.pu (fun _ _ _ _ k => lv_aload_n X.1.1 X.1.2.1 dX1_printChutes_148 rfl (lv_at hl 0 rfl) k) ?_
        refine J.getR (k := 8) (ci := 0) X in_X1 (show jCl[0]? = some (RX1, TX1, 9) from rfl) (by decide) q1333 (fun _ h => h) dX1_printChutes_149 (fun v149 h149 => ?_)
        refine J.bind (fun o152 g152 => ?_)
        refine J.bind (fun v152 h152 => ?_)
        refine J.cV (q := (RJ8, TJ8, 4)) (ci := 20) (As := []) (rest := []) (s2 := [.int v152]) X ⟨rfl, rfl⟩ (ct_J8_length l G B10 o152) (jrd_of h152) (fun _ _ => cwV 0 X.1.2.2.2.2 (lw_V q2352 q473 q3344 q148 q474) rfl rfl rfl (by decide +kernel) ⟨(Nat.le_of_ble_eq_true rfl), (Nat.le_of_ble_eq_true rfl)⟩) g152 rfl rfl hl.1 rfl rfl (Nat.le_of_ble_eq_true rfl) dX1_printChutes_152 ?_
        exact J.iret (vr := fun t : Int32 × jH => jrI t.1) (fin := Prod.snd) (t := t) X hr (by rfl) (by rfl) dX1_printChutes_155
      · refine J.pu (fun _ _ _ _ k => lv_aload_n X.1.1 X.1.2.1 dX1_printChutes_26 rfl (lv_at hl 0 rfl) k) ?_
        refine J.getR (k := 4) (ci := 0) X in_X1 (show jCl[0]? = some (RX1, TX1, 9) from rfl) (by decide) q1329 (fun _ h => h) dX1_printChutes_27 (fun v27 h27 => ?_)
        refine J.pu (fun _ _ _ _ k => lv_iload_n X.1.1 X.1.2.1 dX1_printChutes_30 rfl (lv_at hl 1 rfl) k) ?_
        refine J.bind (fun o31 g31 => ?_)
        refine J.bind (fun v31 h31 => ?_)
        refine J.cV (q := (RX2, TX2, 9)) (ci := 1) (As := [.int x1_10]) (rest := []) (s2 := [va_rf v31]) X ⟨rfl, rfl⟩ (ct_X2_chute l G n B10 o31 x1_10) (jrd_of h31) (fun _ _ => cwV 1 X.1.2.2.2.2 (lw_V q2185 q844 q845 q139 q846) rfl rfl rfl (by decide +kernel) ⟨(Nat.le_of_ble_eq_true rfl), (Nat.le_of_ble_eq_true rfl)⟩) g31 rfl rfl hl.1 rfl rfl (Nat.le_of_ble_eq_true rfl) dX1_printChutes_31 ?_
        refine J.astore_n (r := v31) (i := 2) (lv' := [(2, va_rf v31), (0, .ref this), (1, .int x1_10)]) X.1.1 X.1.2.1 dX1_printChutes_34 rfl hl (by decide) (by first | rfl | simp [va_rf_cat, jcI, jcA, jcJ, jcD, jcF]) (fun ls hl => ?_)
        refine J.pu (fun _ _ _ _ k => lv_iload_n X.1.1 X.1.2.1 dX1_printChutes_35 rfl (lv_at hl 2 rfl) k) ?_
        refine J.br (fun _ _ _ _ ka kb => lv_if_le (tgt := 49) X.1.1 X.1.2.1 dX1_printChutes_36 (by decide) ka kb) (fun c36 => ?_) (fun c36 => ?_)
        · exact j49 x1_10 v31 B10 ls (lv_sub hl [1, 2, 0] rfl)
        · refine J.pu (fun _ _ _ _ k => lv_aload_n X.1.1 X.1.2.1 dX1_printChutes_39 rfl (lv_at hl 1 rfl) k) ?_
          refine J.getR (k := 8) (ci := 0) X in_X1 (show jCl[0]? = some (RX1, TX1, 9) from rfl) (by decide) q1333 (fun _ h => h) dX1_printChutes_40 (fun v40 h40 => ?_)
          refine J.pu (fun _ _ _ _ k => lv_bipush (v := 32) X.1.1 X.1.2.1 dX1_printChutes_43 (by decide) k) ?_
          refine J.bind (fun o45 g45 => ?_)
          refine J.bd' (fun v45 S45 h45 => ?_)
          refine J.cV (q := (RJ8, TJ8, 4)) (ci := 20) (As := [.int 32]) (rest := []) (s2 := [va_rf v45]) X ⟨rfl, rfl⟩ (ct_J8_append_3 l G B10 o45 32) h45 (fun _ _ => cwV 1 X.1.2.2.2.2 (lw_V q2351 q1412 q1413 q148 q1414) rfl rfl rfl (by decide +kernel) ⟨(Nat.le_of_ble_eq_true rfl), (Nat.le_of_ble_eq_true rfl)⟩) g45 rfl rfl hl.1 rfl rfl (Nat.le_of_ble_eq_true rfl) dX1_printChutes_45 ?_
          refine J.pu (fun _ _ _ _ k => lv_pop X.1.1 X.1.2.1 dX1_printChutes_48 (va_rf_cat _) k) ?_
          exact j49 x1_10 v31 S45 ls (lv_sub hl [1, 2, 0] rfl)
  unfold X1_printChutes_b
  refine J.pu (fun _ _ _ _ k => lv_aload_n X.1.1 X.1.2.1 dX1_printChutes_0 rfl (lv_at hl 0 rfl) k) ?_
  refine J.getR (k := 8) (ci := 0) X in_X1 (show jCl[0]? = some (RX1, TX1, 9) from rfl) (by decide) q1333 (fun _ h => h) dX1_printChutes_1 (fun v1 h1 => ?_)
  refine J.pu (fun _ _ _ _ k => lv_iconst (v := 0) X.1.1 X.1.2.1 dX1_printChutes_4 (by decide) k) ?_
  refine J.bind (fun o5 g5 => ?_)
  refine J.bd' (fun v5 S5 h5 => ?_)
  refine J.cV (q := (RJ8, TJ8, 4)) (ci := 20) (As := [.int 0]) (rest := []) (s2 := []) X ⟨rfl, rfl⟩ (ct_J8_setLength l G σ o5 0) h5 (fun _ _ => cwV 1 X.1.2.2.2.2 (lw_V q2281 q2282 q2283 q148 q2284) rfl rfl rfl (by decide +kernel) ⟨(Nat.le_of_ble_eq_true rfl), (Nat.le_of_ble_eq_true rfl)⟩) g5 rfl rfl hl.1 rfl rfl (Nat.le_of_ble_eq_true rfl) dX1_printChutes_5 ?_
  refine J.pu (fun _ _ _ _ k => lv_iconst (v := 0) X.1.1 X.1.2.1 dX1_printChutes_8 (by decide) k) ?_
  refine J.istore_n (i := 1) (lv' := [(1, .int 0), (0, .ref this)]) X.1.1 X.1.2.1 dX1_printChutes_9 rfl hl (by decide) (by first | rfl | simp [va_rf_cat, jcI, jcA, jcJ, jcD, jcF]) (fun ls hl => ?_)
  exact L10 n 0 S5 ls (lv_sub hl [1, 0] rfl)
noncomputable def X1_untracked_j54 (G : jG) (n : Nat) (σ : jH) (this : Nat) (rec4 : Int32 × Int32 → Option (Int32)) (x2_54 : Int32) (s0_54 : Int32) (s1_54 : Int32) : Option (Int32) :=
  (X1_bit G n σ s1_54).bind fun v54 => rec4 ((s0_54 + v54), (x2_54 + 1))
noncomputable def X1_untracked_j53 (G : jG) (n : Nat) (σ : jH) (this : Nat) (rec4 : Int32 × Int32 → Option (Int32)) (x2_53 : Int32) (s0_53 : Int32) : Option (Int32) :=
  X1_untracked_j54 G n σ this rec4 x2_53 s0_53 0
noncomputable def X1_untracked_h4 (G : jG) (n : Nat) (σ : jH) (this : Nat) (rec4 : Int32 × Int32 → Option (Int32)) (q4 : Int32 × Int32) : Option (Int32) :=
  let x1_4 := q4.1; let x2_4 := q4.2; (gR σ (some this) 0 4).bind fun v6 => (gR σ v6 1 4).bind fun v9 => (rc σ v9 15).bind fun o12 => (lSize 0 σ o12).bind fun v12 => if v12 ≤ x2_4 then (some x1_4) else ((gR σ (some this) 0 4).bind fun v22 => (rc σ v22 1).bind fun o26 => (X2_parcel G n σ o26 x2_4).bind fun v26 => (rc σ v26 4).bind fun o29 => (X5_isOn G n σ o29).bind fun v29 => if v29 = 0 then (X1_untracked_j53 G n σ this rec4 x2_4 x1_4) else ((gR σ (some this) 0 4).bind fun v36 => (rc σ v36 1).bind fun o40 => (X2_parcel G n σ o40 x2_4).bind fun v40 => (rc σ v40 4).bind fun o43 => (X5_isTracked G n σ o43).bind fun v43 => if v43 = 0 then (X1_untracked_j54 G n σ this rec4 x2_4 x1_4 1) else (X1_untracked_j53 G n σ this rec4 x2_4 x1_4)))
noncomputable def X1_untracked (G : jG) (n : Nat) (σ : jH) (this : Nat) : Option (Int32) :=
  jloop (X1_untracked_h4 G n σ this) n (0, 0)
set_option maxHeartbeats 4000000 in
set_option maxRecDepth 100000 in
theorem ct_X1_untracked (l : Launch) (G : jG) (n : Nat) (σ : jH) (this : Nat) : jCt l G yX1_untracked (ws_ yX1_untracked cX1_untracked 3 (some .int)) 22 1242 jrI [.ref this] σ (jrd σ (X1_untracked G n σ this)) := by
  refine jCt.rd (lv := [(0, .ref this)]) (plainFor_of_name (by decide)) (Nat.le_of_ble_eq_true rfl) rfl ?_
  intro t p e s m args below meth c ls X hr hnm hl
  have X : jCx p c cX1_untracked 3 s m args RX1 G meth := X
  have L4 : ∀ (n4 : Nat) (x1_4 : Int32) (x2_4 : Int32) (ls : Array Slot), lv_has ls 3 [(0, .ref this), (1, .int x1_4), (2, .int x2_4)] → jGo l G 22 1242 σ (fun _ : Int32 => σ) jrI t p e s m args below meth c (jloop (X1_untracked_h4 G n σ this) n4 (x1_4, x2_4)) σ (F0 m 4 ls []) := by
    intro n4
    induction n4 with
    | zero => intro x1_4 x2_4 ls hl; exact J.nil_
    | succ n4 ih4 =>
      have j54 : ∀ (x2_54 : Int32) (s0_54 : Int32) (s1_54 : Int32) (ls : Array Slot), lv_has ls 3 [(0, .ref this), (2, .int x2_54)] → jGo l G 22 1242 σ (fun _ : Int32 => σ) jrI t p e s m args below meth c (X1_untracked_j54 G n σ this (jloop (X1_untracked_h4 G n σ this) n4) x2_54 s0_54 s1_54) σ (F0 m 54 ls [.int s1_54, .int s0_54]) := by
        intro x2_54 s0_54 s1_54 ls hl
        unfold X1_untracked_j54
        refine J.bind (fun v54 h54 => ?_)
        refine J.cS (As := [.int s1_54]) (rest := [.int s0_54]) (s2 := [.int v54, .int s0_54]) X ⟨rfl, rfl⟩ (ct_X1_bit l G n σ s1_54) (jrd_of h54) (fun _ _ => va_cwS 1 X.1.2.2.2.2 (lw_S q2178 q1703 q138 q1704) rfl rfl rfl (by decide +kernel) ⟨(Nat.le_of_ble_eq_true rfl), (Nat.le_of_ble_eq_true rfl)⟩) rfl hl.1 rfl rfl (Nat.le_of_ble_eq_true rfl) dX1_untracked_54 ?_
        refine J.pu (fun _ _ _ _ k => lv_iadd X.1.1 X.1.2.1 dX1_untracked_57 k) ?_
        refine J.istore_n (i := 1) (lv' := [(1, .int (s0_54 + v54)), (0, .ref this), (2, .int x2_54)]) X.1.1 X.1.2.1 dX1_untracked_58 rfl hl (by decide) (by first | rfl | simp [va_rf_cat, jcI, jcA, jcJ, jcD, jcF]) (fun ls hl => ?_)
        refine J.iinc (k := 2) (lv' := [(2, .int (x2_54 + 1)), (1, .int (s0_54 + v54)), (0, .ref this)]) (w := (x2_54 + 1)) X.1.1 X.1.2.1 dX1_untracked_59 hl rfl rfl (by decide) (by first | rfl | simp [va_rf_cat, jcI, jcA, jcJ, jcD, jcF]) (fun ls hl => ?_)
        refine J.pu (fun _ _ _ _ k => lv_goto (tgt := 4) X.1.1 X.1.2.1 dX1_untracked_62 (by decide) k) ?_
        exact ih4 (s0_54 + v54) (x2_54 + 1) ls (lv_sub hl [2, 1, 0] rfl)
      have j53 : ∀ (x2_53 : Int32) (s0_53 : Int32) (ls : Array Slot), lv_has ls 3 [(0, .ref this), (2, .int x2_53)] → jGo l G 22 1242 σ (fun _ : Int32 => σ) jrI t p e s m args below meth c (X1_untracked_j53 G n σ this (jloop (X1_untracked_h4 G n σ this) n4) x2_53 s0_53) σ (F0 m 53 ls [.int s0_53]) := by
        intro x2_53 s0_53 ls hl
        unfold X1_untracked_j53
        refine J.pu (fun _ _ _ _ k => lv_iconst (v := 0) X.1.1 X.1.2.1 dX1_untracked_53 (by decide) k) ?_
        exact j54 x2_53 s0_53 0 ls (lv_sub hl [0, 1] rfl)
      intro x1_4 x2_4 ls hl
      refine J.eq (jloop_s _ _ _) ?_
      dsimp only [X1_untracked_h4]
      refine J.pu (fun _ _ _ _ k => lv_iload_n X.1.1 X.1.2.1 dX1_untracked_4 rfl (lv_at hl 2 rfl) k) ?_
      refine J.pu (fun _ _ _ _ k => lv_aload_n X.1.1 X.1.2.1 dX1_untracked_5 rfl (lv_at hl 0 rfl) k) ?_
      refine J.getR (k := 4) (ci := 0) X in_X1 (show jCl[0]? = some (RX1, TX1, 9) from rfl) (by decide) q1329 (fun _ h => h) dX1_untracked_6 (fun v6 h6 => ?_)
      refine J.getRN (k := 4) (ci := 1) X in_X2 (show jCl[1]? = some (RX2, TX2, 9) from rfl) (by decide) jnf10 (fun _ h => h) dX1_untracked_9 (fun v9 h9 => ?_)
      refine J.bind (fun o12 g12 => ?_)
      refine J.bind (fun v12 h12 => ?_)
      refine J.cF (q := (RJ2, TJ2, 3)) (ci := 15) (As := []) (rest := [.int x2_4]) (s2 := [.int v12, .int x2_4]) X ⟨rfl, rfl⟩ (ct_J2_size l G σ o12) (jrd_of h12) (fun _ _ => va_cwF 0 X.1.2.2.2.2 (lw_F q1751 q832 q834 q142 q836) rfl rfl rfl (jfw2 X.2.1) (by decide +kernel) ⟨(Nat.le_of_ble_eq_true rfl), (Nat.le_of_ble_eq_true rfl)⟩) g12 rfl rfl hl.1 rfl rfl (Nat.le_of_ble_eq_true rfl) dX1_untracked_12 ?_
      refine J.br (fun _ _ _ _ ka kb => lv_icmp_ge (tgt := 65) X.1.1 X.1.2.1 dX1_untracked_17 (by decide) ka kb) (fun c17 => ?_) (fun c17 => ?_)
      · refine J.pu (fun _ _ _ _ k => lv_iload_n X.1.1 X.1.2.1 dX1_untracked_65 rfl (lv_at hl 1 rfl) k) ?_
        exact J.iret (vr := jrI) (fin := fun _ : Int32 => σ) (t := t) X hr (by rfl) (by rfl) dX1_untracked_66
      · refine J.pu (fun _ _ _ _ k => lv_iload_n X.1.1 X.1.2.1 dX1_untracked_20 rfl (lv_at hl 1 rfl) k) ?_
        refine J.pu (fun _ _ _ _ k => lv_aload_n X.1.1 X.1.2.1 dX1_untracked_21 rfl (lv_at hl 0 rfl) k) ?_
        refine J.getR (k := 4) (ci := 0) X in_X1 (show jCl[0]? = some (RX1, TX1, 9) from rfl) (by decide) q1329 (fun _ h => h) dX1_untracked_22 (fun v22 h22 => ?_)
        refine J.pu (fun _ _ _ _ k => lv_iload_n X.1.1 X.1.2.1 dX1_untracked_25 rfl (lv_at hl 2 rfl) k) ?_
        refine J.bind (fun o26 g26 => ?_)
        refine J.bind (fun v26 h26 => ?_)
        refine J.cV (q := (RX2, TX2, 9)) (ci := 1) (As := [.int x2_4]) (rest := [.int x1_4]) (s2 := [va_rf v26, .int x1_4]) X ⟨rfl, rfl⟩ (ct_X2_parcel l G n σ o26 x2_4) (jrd_of h26) (fun _ _ => cwV 1 X.1.2.2.2.2 (lw_V q2179 q943 q944 q139 q945) rfl rfl rfl (by decide +kernel) ⟨(Nat.le_of_ble_eq_true rfl), (Nat.le_of_ble_eq_true rfl)⟩) g26 rfl rfl hl.1 rfl rfl (Nat.le_of_ble_eq_true rfl) dX1_untracked_26 ?_
        refine J.bind (fun o29 g29 => ?_)
        refine J.bind (fun v29 h29 => ?_)
        refine J.cV (q := (RX5, TX5, 10)) (ci := 4) (As := []) (rest := [.int x1_4]) (s2 := [.int v29, .int x1_4]) X ⟨rfl, rfl⟩ (ct_X5_isOn l G n σ o29) (jrd_of h29) (fun _ _ => cwV 0 X.1.2.2.2.2 (lw_V q2395 q1041 q1042 q167 q1043) rfl rfl rfl (by decide +kernel) ⟨(Nat.le_of_ble_eq_true rfl), (Nat.le_of_ble_eq_true rfl)⟩) g29 rfl rfl hl.1 rfl rfl (Nat.le_of_ble_eq_true rfl) dX1_untracked_29 ?_
        refine J.br (fun _ _ _ _ ka kb => lv_if_eq (tgt := 53) X.1.1 X.1.2.1 dX1_untracked_32 (by decide) ka kb) (fun c32 => ?_) (fun c32 => ?_)
        · exact j53 x2_4 x1_4 ls (lv_sub hl [0, 2] rfl)
        · refine J.pu (fun _ _ _ _ k => lv_aload_n X.1.1 X.1.2.1 dX1_untracked_35 rfl (lv_at hl 0 rfl) k) ?_
          refine J.getR (k := 4) (ci := 0) X in_X1 (show jCl[0]? = some (RX1, TX1, 9) from rfl) (by decide) q1329 (fun _ h => h) dX1_untracked_36 (fun v36 h36 => ?_)
          refine J.pu (fun _ _ _ _ k => lv_iload_n X.1.1 X.1.2.1 dX1_untracked_39 rfl (lv_at hl 2 rfl) k) ?_
          refine J.bind (fun o40 g40 => ?_)
          refine J.bind (fun v40 h40 => ?_)
          refine J.cV (q := (RX2, TX2, 9)) (ci := 1) (As := [.int x2_4]) (rest := [.int x1_4]) (s2 := [va_rf v40, .int x1_4]) X ⟨rfl, rfl⟩ (ct_X2_parcel l G n σ o40 x2_4) (jrd_of h40) (fun _ _ => cwV 1 X.1.2.2.2.2 (lw_V q2179 q943 q944 q139 q945) rfl rfl rfl (by decide +kernel) ⟨(Nat.le_of_ble_eq_true rfl), (Nat.le_of_ble_eq_true rfl)⟩) g40 rfl rfl hl.1 rfl rfl (Nat.le_of_ble_eq_true rfl) dX1_untracked_40 ?_
          refine J.bind (fun o43 g43 => ?_)
          refine J.bind (fun v43 h43 => ?_)
          refine J.cV (q := (RX5, TX5, 10)) (ci := 4) (As := []) (rest := [.int x1_4]) (s2 := [.int v43, .int x1_4]) X ⟨rfl, rfl⟩ (ct_X5_isTracked l G n σ o43) (jrd_of h43) (fun _ _ => cwV 0 X.1.2.2.2.2 (lw_V q2396 q2100 q2101 q167 q2102) rfl rfl rfl (by decide +kernel) ⟨(Nat.le_of_ble_eq_true rfl), (Nat.le_of_ble_eq_true rfl)⟩) g43 rfl rfl hl.1 rfl rfl (Nat.le_of_ble_eq_true rfl) dX1_untracked_43 ?_
          refine J.br (fun _ _ _ _ ka kb => lv_if_ne (tgt := 53) X.1.1 X.1.2.1 dX1_untracked_46 (by decide) kb ka) (fun c46 => ?_) (fun c46 => ?_)
          · refine J.pu (fun _ _ _ _ k => lv_iconst (v := 1) X.1.1 X.1.2.1 dX1_untracked_49 (by decide) k) ?_
            refine J.pu (fun _ _ _ _ k => lv_goto (tgt := 54) X.1.1 X.1.2.1 dX1_untracked_50 (by decide) k) ?_
            exact j54 x2_4 x1_4 1 ls (lv_sub hl [0, 2] rfl)
          · exact j53 x2_4 x1_4 ls (lv_sub hl [0, 2] rfl)
  unfold X1_untracked
  refine J.pu (fun _ _ _ _ k => lv_iconst (v := 0) X.1.1 X.1.2.1 dX1_untracked_0 (by decide) k) ?_
  refine J.istore_n (i := 1) (lv' := [(1, .int 0), (0, .ref this)]) X.1.1 X.1.2.1 dX1_untracked_1 rfl hl (by decide) (by first | rfl | simp [va_rf_cat, jcI, jcA, jcJ, jcD, jcF]) (fun ls hl => ?_)
  refine J.pu (fun _ _ _ _ k => lv_iconst (v := 0) X.1.1 X.1.2.1 dX1_untracked_2 (by decide) k) ?_
  refine J.istore_n (i := 2) (lv' := [(2, .int 0), (1, .int 0), (0, .ref this)]) X.1.1 X.1.2.1 dX1_untracked_3 rfl hl (by decide) (by first | rfl | simp [va_rf_cat, jcI, jcA, jcJ, jcD, jcF]) (fun ls hl => ?_)
  exact L4 n 0 0 ls (lv_sub hl [2, 1, 0] rfl)
noncomputable def X1_account_b (G : jG) (n : Nat) (σ : jH) (this : Nat) (a1 : Int32) : Option (jTh Int32 × jH) :=
  (X1_isIn G n σ a1.toInt64 0 11).bind fun v6 => tb (X1_checkArgument G n σ v6) fun v9 S9 => (gR S9 (some this) 0 4).bind fun v13 => (gR S9 v13 1 6).bind fun v16 => (aI S9 v16 0 a1).bind fun v20 => some (.inl v20, S9)
noncomputable def X1_account (G : jG) (n : Nat) (σ : jH) (this : Nat) (a1 : Int32) : Option (jTh Int32 × jH) := jck σ (X1_account_b G n σ this a1)
set_option maxHeartbeats 4000000 in
set_option maxRecDepth 100000 in
theorem ct_X1_account (l : Launch) (hfl : l.stackTraces = false) (G : jG) (n : Nat) (σ : jH) (this : Nat) (a1 : Int32) : jTt l G yX1_account (ws_ yX1_account cX1_account 2 (some .int)) 7 120 jrI [.ref this, .int a1] σ (X1_account G n σ this a1) := by
  refine jTt.wr (lv := [(0, .ref this), (1, .int a1)]) rfl (Nat.le_of_ble_eq_true rfl) rfl ?_
  intro t p e s m args below meth c ls X hr hnm hout hl
  have X : jCx p c cX1_account 2 s m args RX1 G meth := X
  unfold X1_account_b
  refine J.pu (fun _ _ _ _ k => lv_iload_n X.1.1 X.1.2.1 dX1_account_0 rfl (lv_at hl 1 rfl) k) ?_
  refine J.pu (fun _ _ _ _ k => lv_i2l (v := a1.toInt64) X.1.1 X.1.2.1 dX1_account_1 rfl k) ?_
  refine J.pu (fun _ _ _ _ k => lv_lconst (v := 0) X.1.1 X.1.2.1 dX1_account_2 (by decide) k) ?_
  refine J.pu (fun _ _ _ _ k => lv_ldc2 (v := 11) X.1.1 X.1.2.1 X.1.2.2.2.1 (X.1.2.2.2.2 _ q2413) dX1_account_3 k) ?_
  refine J.bind (fun v6 h6 => ?_)
  refine J.cS (As := [.long a1.toInt64, .long 0, .long 11]) (rest := []) (s2 := [.int v6]) X ⟨rfl, rfl⟩ (ct_X1_isIn l G n σ a1.toInt64 0 11) (jrd_of h6) (fun _ _ => va_cwS 3 X.1.2.2.2.2 (lw_S q1365 q1366 q138 q1367) rfl rfl rfl (by decide +kernel) ⟨(Nat.le_of_ble_eq_true rfl), (Nat.le_of_ble_eq_true rfl)⟩) rfl hl.1 rfl rfl (Nat.le_of_ble_eq_true rfl) dX1_account_6 ?_
  refine J.tS (As := [.int v6]) (rest := []) X hout ⟨rfl, rfl⟩ (ct_X1_checkArgument l hfl G n σ v6) (fun _ _ => va_cwS 1 X.1.2.2.2.2 (lw_S q2414 q2415 q138 q2416) rfl rfl rfl (by decide +kernel) ⟨(Nat.le_of_ble_eq_true rfl), (Nat.le_of_ble_eq_true rfl)⟩) rfl hl.1 rfl (Nat.le_of_ble_eq_true rfl) dX1_account_9 (fun v9 S9 h9 => ?_)
  refine J.geq (g2 := F0 m 12 ls []) rfl ?_
  refine J.pu (fun _ _ _ _ k => lv_aload_n X.1.1 X.1.2.1 dX1_account_12 rfl (lv_at hl 0 rfl) k) ?_
  refine J.getR (k := 4) (ci := 0) X in_X1 (show jCl[0]? = some (RX1, TX1, 9) from rfl) (by decide) q1329 (fun _ h => h) dX1_account_13 (fun v13 h13 => ?_)
  refine J.getRN (k := 6) (ci := 1) X in_X2 (show jCl[1]? = some (RX2, TX2, 9) from rfl) (by decide) jnf12 (fun _ h => h) dX1_account_16 (fun v16 h16 => ?_)
  refine J.pu (fun _ _ _ _ k => lv_iload_n X.1.1 X.1.2.1 dX1_account_19 rfl (lv_at hl 1 rfl) k) ?_
  refine J.aI0 X dX1_account_20 (fun v20 h20 => ?_)
  exact J.tret (J.iret (vr := fun t : Int32 × jH => jrI t.1) (fin := (Prod.snd : Int32 × jH → jH)) (t := (v20, S9)) X hr (by rfl) (by rfl) dX1_account_21)
noncomputable def X1_checkCell_b (G : jG) (n : Nat) (σ : jH) (this : Nat) (a1 : Int32) : Option (jTh Unit × jH) :=
  (gR σ (some this) 0 4).bind fun v4 => (gI σ v4 1 0).bind fun v7 => (X1_isIn G n σ a1.toInt64 0 ((v7 - 1).toInt64)).bind fun v13 => tb (X1_checkIndex G n σ v13) fun v16 S16 => some (.inl (), S16)
noncomputable def X1_checkCell (G : jG) (n : Nat) (σ : jH) (this : Nat) (a1 : Int32) : Option (jTh Unit × jH) := jck σ (X1_checkCell_b G n σ this a1)
set_option maxHeartbeats 4000000 in
set_option maxRecDepth 100000 in
theorem ct_X1_checkCell (l : Launch) (hfl : l.stackTraces = false) (G : jG) (n : Nat) (σ : jH) (this : Nat) (a1 : Int32) : jTt l G yX1_checkCell (ws_ yX1_checkCell cX1_checkCell 2 none) 7 120 jrV [.ref this, .int a1] σ (X1_checkCell G n σ this a1) := by
  refine jTt.wr (lv := [(0, .ref this), (1, .int a1)]) rfl (Nat.le_of_ble_eq_true rfl) rfl ?_
  intro t p e s m args below meth c ls X hr hnm hout hl
  have X : jCx p c cX1_checkCell 2 s m args RX1 G meth := X
  unfold X1_checkCell_b
  refine J.pu (fun _ _ _ _ k => lv_iload_n X.1.1 X.1.2.1 dX1_checkCell_0 rfl (lv_at hl 1 rfl) k) ?_
  refine J.pu (fun _ _ _ _ k => lv_i2l (v := a1.toInt64) X.1.1 X.1.2.1 dX1_checkCell_1 rfl k) ?_
  refine J.pu (fun _ _ _ _ k => lv_lconst (v := 0) X.1.1 X.1.2.1 dX1_checkCell_2 (by decide) k) ?_
  refine J.pu (fun _ _ _ _ k => lv_aload_n X.1.1 X.1.2.1 dX1_checkCell_3 rfl (lv_at hl 0 rfl) k) ?_
  refine J.getR (k := 4) (ci := 0) X in_X1 (show jCl[0]? = some (RX1, TX1, 9) from rfl) (by decide) q1329 (fun _ h => h) dX1_checkCell_4 (fun v4 h4 => ?_)
  refine J.getIN (k := 0) (ci := 1) X in_X2 (show jCl[1]? = some (RX2, TX2, 9) from rfl) (by decide) jnf2 (fun _ h => h) dX1_checkCell_7 (fun v7 h7 => ?_)
  refine J.pu (fun _ _ _ _ k => lv_iconst (v := 1) X.1.1 X.1.2.1 dX1_checkCell_10 (by decide) k) ?_
  refine J.pu (fun _ _ _ _ k => lv_isub X.1.1 X.1.2.1 dX1_checkCell_11 k) ?_
  refine J.pu (fun _ _ _ _ k => lv_i2l (v := (v7 - 1).toInt64) X.1.1 X.1.2.1 dX1_checkCell_12 rfl k) ?_
  refine J.bind (fun v13 h13 => ?_)
  refine J.cS (As := [.long a1.toInt64, .long 0, .long (v7 - 1).toInt64]) (rest := []) (s2 := [.int v13]) X ⟨rfl, rfl⟩ (ct_X1_isIn l G n σ a1.toInt64 0 ((v7 - 1).toInt64)) (jrd_of h13) (fun _ _ => va_cwS 3 X.1.2.2.2.2 (lw_S q1365 q1366 q138 q1367) rfl rfl rfl (by decide +kernel) ⟨(Nat.le_of_ble_eq_true rfl), (Nat.le_of_ble_eq_true rfl)⟩) rfl hl.1 rfl rfl (Nat.le_of_ble_eq_true rfl) dX1_checkCell_13 ?_
  refine J.tS (As := [.int v13]) (rest := []) X hout ⟨rfl, rfl⟩ (ct_X1_checkIndex l hfl G n σ v13) (fun _ _ => va_cwS 1 X.1.2.2.2.2 (lw_S q2431 q2432 q138 q2433) rfl rfl rfl (by decide +kernel) ⟨(Nat.le_of_ble_eq_true rfl), (Nat.le_of_ble_eq_true rfl)⟩) rfl hl.1 rfl (Nat.le_of_ble_eq_true rfl) dX1_checkCell_16 (fun v16 S16 h16 => ?_)
  refine J.geq (g2 := F0 m 19 ls []) rfl ?_
  exact J.tret (J.vret (vr := fun t : Unit × jH => jrV t.1) (fin := (Prod.snd : Unit × jH → jH)) (t := ((), S16)) X hr (by rfl) (by rfl) dX1_checkCell_19)
noncomputable def X1_tracksAt_j55 (G : jG) (n : Nat) (σ : jH) (this : Nat) (a1 : Int32) (rec4 : Int32 × Int32 → Option (Int32)) (x3_55 : Int32) (s0_55 : Int32) (s1_55 : Int32) : Option (Int32) :=
  (X1_bit G n σ s1_55).bind fun v55 => rec4 ((s0_55 + v55), (x3_55 + 1))
noncomputable def X1_tracksAt_j54 (G : jG) (n : Nat) (σ : jH) (this : Nat) (a1 : Int32) (rec4 : Int32 × Int32 → Option (Int32)) (x3_54 : Int32) (s0_54 : Int32) : Option (Int32) :=
  X1_tracksAt_j55 G n σ this a1 rec4 x3_54 s0_54 0
noncomputable def X1_tracksAt_h4 (G : jG) (n : Nat) (σ : jH) (this : Nat) (a1 : Int32) (rec4 : Int32 × Int32 → Option (Int32)) (q4 : Int32 × Int32) : Option (Int32) :=
  let x2_4 := q4.1; let x3_4 := q4.2; (gR σ (some this) 0 4).bind fun v6 => (gR σ v6 1 4).bind fun v9 => (rc σ v9 15).bind fun o12 => (lSize 0 σ o12).bind fun v12 => if v12 ≤ x3_4 then (some x2_4) else ((gR σ (some this) 0 4).bind fun v22 => (rc σ v22 1).bind fun o26 => (X2_parcel G n σ o26 x3_4).bind fun v26 => (rc σ v26 4).bind fun o29 => (X5_isTracked G n σ o29).bind fun v29 => if v29 = 0 then (X1_tracksAt_j54 G n σ this a1 rec4 x3_4 x2_4) else ((gR σ (some this) 0 4).bind fun v36 => (rc σ v36 1).bind fun o40 => (X2_parcel G n σ o40 x3_4).bind fun v40 => (gI σ v40 4 6).bind fun v43 => if v43 = a1 then (X1_tracksAt_j55 G n σ this a1 rec4 x3_4 x2_4 1) else (X1_tracksAt_j54 G n σ this a1 rec4 x3_4 x2_4)))
noncomputable def X1_tracksAt (G : jG) (n : Nat) (σ : jH) (this : Nat) (a1 : Int32) : Option (Int32) :=
  jloop (X1_tracksAt_h4 G n σ this a1) n (0, 0)
set_option maxHeartbeats 4000000 in
set_option maxRecDepth 100000 in
theorem ct_X1_tracksAt (l : Launch) (G : jG) (n : Nat) (σ : jH) (this : Nat) (a1 : Int32) : jCt l G yX1_tracksAt (ws_ yX1_tracksAt cX1_tracksAt 4 (some .int)) 22 1242 jrI [.ref this, .int a1] σ (jrd σ (X1_tracksAt G n σ this a1)) := by
  refine jCt.rd (lv := [(0, .ref this), (1, .int a1)]) (plainFor_of_name (by decide)) (Nat.le_of_ble_eq_true rfl) rfl ?_
  intro t p e s m args below meth c ls X hr hnm hl
  have X : jCx p c cX1_tracksAt 4 s m args RX1 G meth := X
  have L4 : ∀ (n4 : Nat) (x2_4 : Int32) (x3_4 : Int32) (ls : Array Slot), lv_has ls 4 [(0, .ref this), (1, .int a1), (2, .int x2_4), (3, .int x3_4)] → jGo l G 22 1242 σ (fun _ : Int32 => σ) jrI t p e s m args below meth c (jloop (X1_tracksAt_h4 G n σ this a1) n4 (x2_4, x3_4)) σ (F0 m 4 ls []) := by
    intro n4
    induction n4 with
    | zero => intro x2_4 x3_4 ls hl; exact J.nil_
    | succ n4 ih4 =>
      have j55 : ∀ (x3_55 : Int32) (s0_55 : Int32) (s1_55 : Int32) (ls : Array Slot), lv_has ls 4 [(0, .ref this), (1, .int a1), (3, .int x3_55)] → jGo l G 22 1242 σ (fun _ : Int32 => σ) jrI t p e s m args below meth c (X1_tracksAt_j55 G n σ this a1 (jloop (X1_tracksAt_h4 G n σ this a1) n4) x3_55 s0_55 s1_55) σ (F0 m 55 ls [.int s1_55, .int s0_55]) := by
        intro x3_55 s0_55 s1_55 ls hl
        unfold X1_tracksAt_j55
        refine J.bind (fun v55 h55 => ?_)
        refine J.cS (As := [.int s1_55]) (rest := [.int s0_55]) (s2 := [.int v55, .int s0_55]) X ⟨rfl, rfl⟩ (ct_X1_bit l G n σ s1_55) (jrd_of h55) (fun _ _ => va_cwS 1 X.1.2.2.2.2 (lw_S q2178 q1703 q138 q1704) rfl rfl rfl (by decide +kernel) ⟨(Nat.le_of_ble_eq_true rfl), (Nat.le_of_ble_eq_true rfl)⟩) rfl hl.1 rfl rfl (Nat.le_of_ble_eq_true rfl) dX1_tracksAt_55 ?_
        refine J.pu (fun _ _ _ _ k => lv_iadd X.1.1 X.1.2.1 dX1_tracksAt_58 k) ?_
        refine J.istore_n (i := 2) (lv' := [(2, .int (s0_55 + v55)), (0, .ref this), (1, .int a1), (3, .int x3_55)]) X.1.1 X.1.2.1 dX1_tracksAt_59 rfl hl (by decide) (by first | rfl | simp [va_rf_cat, jcI, jcA, jcJ, jcD, jcF]) (fun ls hl => ?_)
        refine J.iinc (k := 3) (lv' := [(3, .int (x3_55 + 1)), (2, .int (s0_55 + v55)), (0, .ref this), (1, .int a1)]) (w := (x3_55 + 1)) X.1.1 X.1.2.1 dX1_tracksAt_60 hl rfl rfl (by decide) (by first | rfl | simp [va_rf_cat, jcI, jcA, jcJ, jcD, jcF]) (fun ls hl => ?_)
        refine J.pu (fun _ _ _ _ k => lv_goto (tgt := 4) X.1.1 X.1.2.1 dX1_tracksAt_63 (by decide) k) ?_
        exact ih4 (s0_55 + v55) (x3_55 + 1) ls (lv_sub hl [2, 3, 1, 0] rfl)
      have j54 : ∀ (x3_54 : Int32) (s0_54 : Int32) (ls : Array Slot), lv_has ls 4 [(0, .ref this), (1, .int a1), (3, .int x3_54)] → jGo l G 22 1242 σ (fun _ : Int32 => σ) jrI t p e s m args below meth c (X1_tracksAt_j54 G n σ this a1 (jloop (X1_tracksAt_h4 G n σ this a1) n4) x3_54 s0_54) σ (F0 m 54 ls [.int s0_54]) := by
        intro x3_54 s0_54 ls hl
        unfold X1_tracksAt_j54
        refine J.pu (fun _ _ _ _ k => lv_iconst (v := 0) X.1.1 X.1.2.1 dX1_tracksAt_54 (by decide) k) ?_
        exact j55 x3_54 s0_54 0 ls (lv_sub hl [0, 1, 2] rfl)
      intro x2_4 x3_4 ls hl
      refine J.eq (jloop_s _ _ _) ?_
      dsimp only [X1_tracksAt_h4]
      refine J.pu (fun _ _ _ _ k => lv_iload_n X.1.1 X.1.2.1 dX1_tracksAt_4 rfl (lv_at hl 3 rfl) k) ?_
      refine J.pu (fun _ _ _ _ k => lv_aload_n X.1.1 X.1.2.1 dX1_tracksAt_5 rfl (lv_at hl 0 rfl) k) ?_
      refine J.getR (k := 4) (ci := 0) X in_X1 (show jCl[0]? = some (RX1, TX1, 9) from rfl) (by decide) q1329 (fun _ h => h) dX1_tracksAt_6 (fun v6 h6 => ?_)
      refine J.getRN (k := 4) (ci := 1) X in_X2 (show jCl[1]? = some (RX2, TX2, 9) from rfl) (by decide) jnf10 (fun _ h => h) dX1_tracksAt_9 (fun v9 h9 => ?_)
      refine J.bind (fun o12 g12 => ?_)
      refine J.bind (fun v12 h12 => ?_)
      refine J.cF (q := (RJ2, TJ2, 3)) (ci := 15) (As := []) (rest := [.int x3_4]) (s2 := [.int v12, .int x3_4]) X ⟨rfl, rfl⟩ (ct_J2_size l G σ o12) (jrd_of h12) (fun _ _ => va_cwF 0 X.1.2.2.2.2 (lw_F q1751 q832 q834 q142 q836) rfl rfl rfl (jfw2 X.2.1) (by decide +kernel) ⟨(Nat.le_of_ble_eq_true rfl), (Nat.le_of_ble_eq_true rfl)⟩) g12 rfl rfl hl.1 rfl rfl (Nat.le_of_ble_eq_true rfl) dX1_tracksAt_12 ?_
      refine J.br (fun _ _ _ _ ka kb => lv_icmp_ge (tgt := 66) X.1.1 X.1.2.1 dX1_tracksAt_17 (by decide) ka kb) (fun c17 => ?_) (fun c17 => ?_)
      · refine J.pu (fun _ _ _ _ k => lv_iload_n X.1.1 X.1.2.1 dX1_tracksAt_66 rfl (lv_at hl 2 rfl) k) ?_
        exact J.iret (vr := jrI) (fin := fun _ : Int32 => σ) (t := t) X hr (by rfl) (by rfl) dX1_tracksAt_67
      · refine J.pu (fun _ _ _ _ k => lv_iload_n X.1.1 X.1.2.1 dX1_tracksAt_20 rfl (lv_at hl 2 rfl) k) ?_
        refine J.pu (fun _ _ _ _ k => lv_aload_n X.1.1 X.1.2.1 dX1_tracksAt_21 rfl (lv_at hl 0 rfl) k) ?_
        refine J.getR (k := 4) (ci := 0) X in_X1 (show jCl[0]? = some (RX1, TX1, 9) from rfl) (by decide) q1329 (fun _ h => h) dX1_tracksAt_22 (fun v22 h22 => ?_)
        refine J.pu (fun _ _ _ _ k => lv_iload_n X.1.1 X.1.2.1 dX1_tracksAt_25 rfl (lv_at hl 3 rfl) k) ?_
        refine J.bind (fun o26 g26 => ?_)
        refine J.bind (fun v26 h26 => ?_)
        refine J.cV (q := (RX2, TX2, 9)) (ci := 1) (As := [.int x3_4]) (rest := [.int x2_4]) (s2 := [va_rf v26, .int x2_4]) X ⟨rfl, rfl⟩ (ct_X2_parcel l G n σ o26 x3_4) (jrd_of h26) (fun _ _ => cwV 1 X.1.2.2.2.2 (lw_V q2179 q943 q944 q139 q945) rfl rfl rfl (by decide +kernel) ⟨(Nat.le_of_ble_eq_true rfl), (Nat.le_of_ble_eq_true rfl)⟩) g26 rfl rfl hl.1 rfl rfl (Nat.le_of_ble_eq_true rfl) dX1_tracksAt_26 ?_
        refine J.bind (fun o29 g29 => ?_)
        refine J.bind (fun v29 h29 => ?_)
        refine J.cV (q := (RX5, TX5, 10)) (ci := 4) (As := []) (rest := [.int x2_4]) (s2 := [.int v29, .int x2_4]) X ⟨rfl, rfl⟩ (ct_X5_isTracked l G n σ o29) (jrd_of h29) (fun _ _ => cwV 0 X.1.2.2.2.2 (lw_V q2396 q2100 q2101 q167 q2102) rfl rfl rfl (by decide +kernel) ⟨(Nat.le_of_ble_eq_true rfl), (Nat.le_of_ble_eq_true rfl)⟩) g29 rfl rfl hl.1 rfl rfl (Nat.le_of_ble_eq_true rfl) dX1_tracksAt_29 ?_
        refine J.br (fun _ _ _ _ ka kb => lv_if_eq (tgt := 54) X.1.1 X.1.2.1 dX1_tracksAt_32 (by decide) ka kb) (fun c32 => ?_) (fun c32 => ?_)
        · exact j54 x3_4 x2_4 ls (lv_sub hl [0, 1, 3] rfl)
        · refine J.pu (fun _ _ _ _ k => lv_aload_n X.1.1 X.1.2.1 dX1_tracksAt_35 rfl (lv_at hl 0 rfl) k) ?_
          refine J.getR (k := 4) (ci := 0) X in_X1 (show jCl[0]? = some (RX1, TX1, 9) from rfl) (by decide) q1329 (fun _ h => h) dX1_tracksAt_36 (fun v36 h36 => ?_)
          refine J.pu (fun _ _ _ _ k => lv_iload_n X.1.1 X.1.2.1 dX1_tracksAt_39 rfl (lv_at hl 3 rfl) k) ?_
          refine J.bind (fun o40 g40 => ?_)
          refine J.bind (fun v40 h40 => ?_)
          refine J.cV (q := (RX2, TX2, 9)) (ci := 1) (As := [.int x3_4]) (rest := [.int x2_4]) (s2 := [va_rf v40, .int x2_4]) X ⟨rfl, rfl⟩ (ct_X2_parcel l G n σ o40 x3_4) (jrd_of h40) (fun _ _ => cwV 1 X.1.2.2.2.2 (lw_V q2179 q943 q944 q139 q945) rfl rfl rfl (by decide +kernel) ⟨(Nat.le_of_ble_eq_true rfl), (Nat.le_of_ble_eq_true rfl)⟩) g40 rfl rfl hl.1 rfl rfl (Nat.le_of_ble_eq_true rfl) dX1_tracksAt_40 ?_
          refine J.getIN (k := 6) (ci := 4) X in_X5 (show jCl[4]? = some (RX5, TX5, 10) from rfl) (by decide) jnf47 (fun _ h => h) dX1_tracksAt_43 (fun v43 h43 => ?_)
          refine J.pu (fun _ _ _ _ k => lv_iload_n X.1.1 X.1.2.1 dX1_tracksAt_46 rfl (lv_at hl 1 rfl) k) ?_
          refine J.br (fun _ _ _ _ ka kb => lv_icmp_ne (tgt := 54) X.1.1 X.1.2.1 dX1_tracksAt_47 (by decide) kb ka) (fun c47 => ?_) (fun c47 => ?_)
          · refine J.pu (fun _ _ _ _ k => lv_iconst (v := 1) X.1.1 X.1.2.1 dX1_tracksAt_50 (by decide) k) ?_
            refine J.pu (fun _ _ _ _ k => lv_goto (tgt := 55) X.1.1 X.1.2.1 dX1_tracksAt_51 (by decide) k) ?_
            exact j55 x3_4 x2_4 1 ls (lv_sub hl [0, 1, 3] rfl)
          · exact j54 x3_4 x2_4 ls (lv_sub hl [0, 1, 3] rfl)
  unfold X1_tracksAt
  refine J.pu (fun _ _ _ _ k => lv_iconst (v := 0) X.1.1 X.1.2.1 dX1_tracksAt_0 (by decide) k) ?_
  refine J.istore_n (i := 2) (lv' := [(2, .int 0), (0, .ref this), (1, .int a1)]) X.1.1 X.1.2.1 dX1_tracksAt_1 rfl hl (by decide) (by first | rfl | simp [va_rf_cat, jcI, jcA, jcJ, jcD, jcF]) (fun ls hl => ?_)
  refine J.pu (fun _ _ _ _ k => lv_iconst (v := 0) X.1.1 X.1.2.1 dX1_tracksAt_2 (by decide) k) ?_
  refine J.istore_n (i := 3) (lv' := [(3, .int 0), (2, .int 0), (0, .ref this), (1, .int a1)]) X.1.1 X.1.2.1 dX1_tracksAt_3 rfl hl (by decide) (by first | rfl | simp [va_rf_cat, jcI, jcA, jcJ, jcD, jcF]) (fun ls hl => ?_)
  exact L4 n 0 0 ls (lv_sub hl [2, 3, 1, 0] rfl)
noncomputable def X1_parcelAt_b (G : jG) (n : Nat) (σ : jH) (this : Nat) (a1 : Int32) : Option (jTh (Option Nat) × jH) :=
  (gR σ (some this) 0 4).bind fun v4 => (gR σ v4 1 4).bind fun v7 => (rc σ v7 15).bind fun o10 => (lSize 0 σ o10).bind fun v10 => (X1_isIn G n σ a1.toInt64 0 ((v10 - 1).toInt64)).bind fun v18 => tb (X1_checkIndex G n σ v18) fun v21 S21 => (gR S21 (some this) 0 4).bind fun v25 => (rc S21 v25 1).bind fun o29 => (X2_parcel G n S21 o29 a1).bind fun v29 => some (.inl v29, S21)
noncomputable def X1_parcelAt (G : jG) (n : Nat) (σ : jH) (this : Nat) (a1 : Int32) : Option (jTh (Option Nat) × jH) := jck σ (X1_parcelAt_b G n σ this a1)
set_option maxHeartbeats 4000000 in
set_option maxRecDepth 100000 in
theorem ct_X1_parcelAt (l : Launch) (hfl : l.stackTraces = false) (G : jG) (n : Nat) (σ : jH) (this : Nat) (a1 : Int32) : jTt l G yX1_parcelAt (ws_ yX1_parcelAt cX1_parcelAt 2 (some (.object "SortingLoop$Parcel"))) 22 1242 jrR [.ref this, .int a1] σ (X1_parcelAt G n σ this a1) := by
  refine jTt.wr (lv := [(0, .ref this), (1, .int a1)]) rfl (Nat.le_of_ble_eq_true rfl) rfl ?_
  intro t p e s m args below meth c ls X hr hnm hout hl
  have X : jCx p c cX1_parcelAt 2 s m args RX1 G meth := X
  unfold X1_parcelAt_b
  refine J.pu (fun _ _ _ _ k => lv_iload_n X.1.1 X.1.2.1 dX1_parcelAt_0 rfl (lv_at hl 1 rfl) k) ?_
  refine J.pu (fun _ _ _ _ k => lv_i2l (v := a1.toInt64) X.1.1 X.1.2.1 dX1_parcelAt_1 rfl k) ?_
  refine J.pu (fun _ _ _ _ k => lv_lconst (v := 0) X.1.1 X.1.2.1 dX1_parcelAt_2 (by decide) k) ?_
  refine J.pu (fun _ _ _ _ k => lv_aload_n X.1.1 X.1.2.1 dX1_parcelAt_3 rfl (lv_at hl 0 rfl) k) ?_
  refine J.getR (k := 4) (ci := 0) X in_X1 (show jCl[0]? = some (RX1, TX1, 9) from rfl) (by decide) q1329 (fun _ h => h) dX1_parcelAt_4 (fun v4 h4 => ?_)
  refine J.getRN (k := 4) (ci := 1) X in_X2 (show jCl[1]? = some (RX2, TX2, 9) from rfl) (by decide) jnf10 (fun _ h => h) dX1_parcelAt_7 (fun v7 h7 => ?_)
  refine J.bind (fun o10 g10 => ?_)
  refine J.bind (fun v10 h10 => ?_)
  refine J.cF (q := (RJ2, TJ2, 3)) (ci := 15) (As := []) (rest := [.long 0, .long a1.toInt64]) (s2 := [.int v10, .long 0, .long a1.toInt64]) X ⟨rfl, rfl⟩ (ct_J2_size l G σ o10) (jrd_of h10) (fun _ _ => va_cwF 0 X.1.2.2.2.2 (lw_F q1751 q832 q834 q142 q836) rfl rfl rfl (jfw2 X.2.1) (by decide +kernel) ⟨(Nat.le_of_ble_eq_true rfl), (Nat.le_of_ble_eq_true rfl)⟩) g10 rfl rfl hl.1 rfl rfl (Nat.le_of_ble_eq_true rfl) dX1_parcelAt_10 ?_
  refine J.pu (fun _ _ _ _ k => lv_iconst (v := 1) X.1.1 X.1.2.1 dX1_parcelAt_15 (by decide) k) ?_
  refine J.pu (fun _ _ _ _ k => lv_isub X.1.1 X.1.2.1 dX1_parcelAt_16 k) ?_
  refine J.pu (fun _ _ _ _ k => lv_i2l (v := (v10 - 1).toInt64) X.1.1 X.1.2.1 dX1_parcelAt_17 rfl k) ?_
  refine J.bind (fun v18 h18 => ?_)
  refine J.cS (As := [.long a1.toInt64, .long 0, .long (v10 - 1).toInt64]) (rest := []) (s2 := [.int v18]) X ⟨rfl, rfl⟩ (ct_X1_isIn l G n σ a1.toInt64 0 ((v10 - 1).toInt64)) (jrd_of h18) (fun _ _ => va_cwS 3 X.1.2.2.2.2 (lw_S q1365 q1366 q138 q1367) rfl rfl rfl (by decide +kernel) ⟨(Nat.le_of_ble_eq_true rfl), (Nat.le_of_ble_eq_true rfl)⟩) rfl hl.1 rfl rfl (Nat.le_of_ble_eq_true rfl) dX1_parcelAt_18 ?_
  refine J.tS (As := [.int v18]) (rest := []) X hout ⟨rfl, rfl⟩ (ct_X1_checkIndex l hfl G n σ v18) (fun _ _ => va_cwS 1 X.1.2.2.2.2 (lw_S q2431 q2432 q138 q2433) rfl rfl rfl (by decide +kernel) ⟨(Nat.le_of_ble_eq_true rfl), (Nat.le_of_ble_eq_true rfl)⟩) rfl hl.1 rfl (Nat.le_of_ble_eq_true rfl) dX1_parcelAt_21 (fun v21 S21 h21 => ?_)
  refine J.geq (g2 := F0 m 24 ls []) rfl ?_
  refine J.pu (fun _ _ _ _ k => lv_aload_n X.1.1 X.1.2.1 dX1_parcelAt_24 rfl (lv_at hl 0 rfl) k) ?_
  refine J.getR (k := 4) (ci := 0) X in_X1 (show jCl[0]? = some (RX1, TX1, 9) from rfl) (by decide) q1329 (fun _ h => h) dX1_parcelAt_25 (fun v25 h25 => ?_)
  refine J.pu (fun _ _ _ _ k => lv_iload_n X.1.1 X.1.2.1 dX1_parcelAt_28 rfl (lv_at hl 1 rfl) k) ?_
  refine J.bind (fun o29 g29 => ?_)
  refine J.bind (fun v29 h29 => ?_)
  refine J.cV (q := (RX2, TX2, 9)) (ci := 1) (As := [.int a1]) (rest := []) (s2 := [va_rf v29]) X ⟨rfl, rfl⟩ (ct_X2_parcel l G n S21 o29 a1) (jrd_of h29) (fun _ _ => cwV 1 X.1.2.2.2.2 (lw_V q2179 q943 q944 q139 q945) rfl rfl rfl (by decide +kernel) ⟨(Nat.le_of_ble_eq_true rfl), (Nat.le_of_ble_eq_true rfl)⟩) g29 rfl rfl hl.1 rfl rfl (Nat.le_of_ble_eq_true rfl) dX1_parcelAt_29 ?_
  exact J.tret (J.aret (vr := fun t : (Option Nat) × jH => jrR t.1) (fin := (Prod.snd : (Option Nat) × jH → jH)) (t := (v29, S21)) X hr (Or.inl ⟨_, rfl⟩) (by rfl) (by rfl) dX1_parcelAt_32)
noncomputable def X1_chuteAt_b (G : jG) (n : Nat) (σ : jH) (this : Nat) (a1 : Int32) : Option (jTh (Option Nat) × jH) :=
  (gR σ (some this) 0 4).bind fun v4 => (gR σ v4 1 3).bind fun v7 => (rc σ v7 15).bind fun o10 => (lSize 0 σ o10).bind fun v10 => (X1_isIn G n σ a1.toInt64 0 ((v10 - 1).toInt64)).bind fun v18 => tb (X1_checkIndex G n σ v18) fun v21 S21 => (gR S21 (some this) 0 4).bind fun v25 => (rc S21 v25 1).bind fun o29 => (X2_chute G n S21 o29 a1).bind fun v29 => some (.inl v29, S21)
noncomputable def X1_chuteAt (G : jG) (n : Nat) (σ : jH) (this : Nat) (a1 : Int32) : Option (jTh (Option Nat) × jH) := jck σ (X1_chuteAt_b G n σ this a1)
set_option maxHeartbeats 4000000 in
set_option maxRecDepth 100000 in
theorem ct_X1_chuteAt (l : Launch) (hfl : l.stackTraces = false) (G : jG) (n : Nat) (σ : jH) (this : Nat) (a1 : Int32) : jTt l G yX1_chuteAt (ws_ yX1_chuteAt cX1_chuteAt 2 (some (.object "SortingLoop$Chute"))) 22 1242 jrR [.ref this, .int a1] σ (X1_chuteAt G n σ this a1) := by
  refine jTt.wr (lv := [(0, .ref this), (1, .int a1)]) rfl (Nat.le_of_ble_eq_true rfl) rfl ?_
  intro t p e s m args below meth c ls X hr hnm hout hl
  have X : jCx p c cX1_chuteAt 2 s m args RX1 G meth := X
  unfold X1_chuteAt_b
  refine J.pu (fun _ _ _ _ k => lv_iload_n X.1.1 X.1.2.1 dX1_chuteAt_0 rfl (lv_at hl 1 rfl) k) ?_
  refine J.pu (fun _ _ _ _ k => lv_i2l (v := a1.toInt64) X.1.1 X.1.2.1 dX1_chuteAt_1 rfl k) ?_
  refine J.pu (fun _ _ _ _ k => lv_lconst (v := 0) X.1.1 X.1.2.1 dX1_chuteAt_2 (by decide) k) ?_
  refine J.pu (fun _ _ _ _ k => lv_aload_n X.1.1 X.1.2.1 dX1_chuteAt_3 rfl (lv_at hl 0 rfl) k) ?_
  refine J.getR (k := 4) (ci := 0) X in_X1 (show jCl[0]? = some (RX1, TX1, 9) from rfl) (by decide) q1329 (fun _ h => h) dX1_chuteAt_4 (fun v4 h4 => ?_)
  refine J.getRN (k := 3) (ci := 1) X in_X2 (show jCl[1]? = some (RX2, TX2, 9) from rfl) (by decide) jnf8 (fun _ h => h) dX1_chuteAt_7 (fun v7 h7 => ?_)
  refine J.bind (fun o10 g10 => ?_)
  refine J.bind (fun v10 h10 => ?_)
  refine J.cF (q := (RJ2, TJ2, 3)) (ci := 15) (As := []) (rest := [.long 0, .long a1.toInt64]) (s2 := [.int v10, .long 0, .long a1.toInt64]) X ⟨rfl, rfl⟩ (ct_J2_size l G σ o10) (jrd_of h10) (fun _ _ => va_cwF 0 X.1.2.2.2.2 (lw_F q1751 q832 q834 q142 q836) rfl rfl rfl (jfw2 X.2.1) (by decide +kernel) ⟨(Nat.le_of_ble_eq_true rfl), (Nat.le_of_ble_eq_true rfl)⟩) g10 rfl rfl hl.1 rfl rfl (Nat.le_of_ble_eq_true rfl) dX1_chuteAt_10 ?_
  refine J.pu (fun _ _ _ _ k => lv_iconst (v := 1) X.1.1 X.1.2.1 dX1_chuteAt_15 (by decide) k) ?_
  refine J.pu (fun _ _ _ _ k => lv_isub X.1.1 X.1.2.1 dX1_chuteAt_16 k) ?_
  refine J.pu (fun _ _ _ _ k => lv_i2l (v := (v10 - 1).toInt64) X.1.1 X.1.2.1 dX1_chuteAt_17 rfl k) ?_
  refine J.bind (fun v18 h18 => ?_)
  refine J.cS (As := [.long a1.toInt64, .long 0, .long (v10 - 1).toInt64]) (rest := []) (s2 := [.int v18]) X ⟨rfl, rfl⟩ (ct_X1_isIn l G n σ a1.toInt64 0 ((v10 - 1).toInt64)) (jrd_of h18) (fun _ _ => va_cwS 3 X.1.2.2.2.2 (lw_S q1365 q1366 q138 q1367) rfl rfl rfl (by decide +kernel) ⟨(Nat.le_of_ble_eq_true rfl), (Nat.le_of_ble_eq_true rfl)⟩) rfl hl.1 rfl rfl (Nat.le_of_ble_eq_true rfl) dX1_chuteAt_18 ?_
  refine J.tS (As := [.int v18]) (rest := []) X hout ⟨rfl, rfl⟩ (ct_X1_checkIndex l hfl G n σ v18) (fun _ _ => va_cwS 1 X.1.2.2.2.2 (lw_S q2431 q2432 q138 q2433) rfl rfl rfl (by decide +kernel) ⟨(Nat.le_of_ble_eq_true rfl), (Nat.le_of_ble_eq_true rfl)⟩) rfl hl.1 rfl (Nat.le_of_ble_eq_true rfl) dX1_chuteAt_21 (fun v21 S21 h21 => ?_)
  refine J.geq (g2 := F0 m 24 ls []) rfl ?_
  refine J.pu (fun _ _ _ _ k => lv_aload_n X.1.1 X.1.2.1 dX1_chuteAt_24 rfl (lv_at hl 0 rfl) k) ?_
  refine J.getR (k := 4) (ci := 0) X in_X1 (show jCl[0]? = some (RX1, TX1, 9) from rfl) (by decide) q1329 (fun _ h => h) dX1_chuteAt_25 (fun v25 h25 => ?_)
  refine J.pu (fun _ _ _ _ k => lv_iload_n X.1.1 X.1.2.1 dX1_chuteAt_28 rfl (lv_at hl 1 rfl) k) ?_
  refine J.bind (fun o29 g29 => ?_)
  refine J.bind (fun v29 h29 => ?_)
  refine J.cV (q := (RX2, TX2, 9)) (ci := 1) (As := [.int a1]) (rest := []) (s2 := [va_rf v29]) X ⟨rfl, rfl⟩ (ct_X2_chute l G n S21 o29 a1) (jrd_of h29) (fun _ _ => cwV 1 X.1.2.2.2.2 (lw_V q2185 q844 q845 q139 q846) rfl rfl rfl (by decide +kernel) ⟨(Nat.le_of_ble_eq_true rfl), (Nat.le_of_ble_eq_true rfl)⟩) g29 rfl rfl hl.1 rfl rfl (Nat.le_of_ble_eq_true rfl) dX1_chuteAt_29 ?_
  exact J.tret (J.aret (vr := fun t : (Option Nat) × jH => jrR t.1) (fin := (Prod.snd : (Option Nat) × jH → jH)) (t := (v29, S21)) X hr (Or.inl ⟨_, rfl⟩) (by rfl) (by rfl) dX1_chuteAt_32)
noncomputable def X1_comingTo_j55 (G : jG) (n : Nat) (σ : jH) (this : Nat) (a1 : Int32) (rec4 : Int32 × Int32 → Option (Int32)) (x3_55 : Int32) (s0_55 : Int32) (s1_55 : Int32) : Option (Int32) :=
  (X1_bit G n σ s1_55).bind fun v55 => rec4 ((s0_55 + v55), (x3_55 + 1))
noncomputable def X1_comingTo_j54 (G : jG) (n : Nat) (σ : jH) (this : Nat) (a1 : Int32) (rec4 : Int32 × Int32 → Option (Int32)) (x3_54 : Int32) (s0_54 : Int32) : Option (Int32) :=
  X1_comingTo_j55 G n σ this a1 rec4 x3_54 s0_54 0
noncomputable def X1_comingTo_h4 (G : jG) (n : Nat) (σ : jH) (this : Nat) (a1 : Int32) (rec4 : Int32 × Int32 → Option (Int32)) (q4 : Int32 × Int32) : Option (Int32) :=
  let x2_4 := q4.1; let x3_4 := q4.2; (gR σ (some this) 0 4).bind fun v6 => (gR σ v6 1 4).bind fun v9 => (rc σ v9 15).bind fun o12 => (lSize 0 σ o12).bind fun v12 => if v12 ≤ x3_4 then (some x2_4) else ((gR σ (some this) 0 4).bind fun v22 => (rc σ v22 1).bind fun o26 => (X2_parcel G n σ o26 x3_4).bind fun v26 => (rc σ v26 4).bind fun o29 => (X5_isOn G n σ o29).bind fun v29 => if v29 = 0 then (X1_comingTo_j54 G n σ this a1 rec4 x3_4 x2_4) else ((gR σ (some this) 0 4).bind fun v36 => (rc σ v36 1).bind fun o40 => (X2_parcel G n σ o40 x3_4).bind fun v40 => (gI σ v40 4 1).bind fun v43 => if v43 = a1 then (X1_comingTo_j55 G n σ this a1 rec4 x3_4 x2_4 1) else (X1_comingTo_j54 G n σ this a1 rec4 x3_4 x2_4)))
noncomputable def X1_comingTo (G : jG) (n : Nat) (σ : jH) (this : Nat) (a1 : Int32) : Option (Int32) :=
  jloop (X1_comingTo_h4 G n σ this a1) n (0, 0)
set_option maxHeartbeats 4000000 in
set_option maxRecDepth 100000 in
theorem ct_X1_comingTo (l : Launch) (G : jG) (n : Nat) (σ : jH) (this : Nat) (a1 : Int32) : jCt l G yX1_comingTo (ws_ yX1_comingTo cX1_comingTo 4 (some .int)) 22 1242 jrI [.ref this, .int a1] σ (jrd σ (X1_comingTo G n σ this a1)) := by
  refine jCt.rd (lv := [(0, .ref this), (1, .int a1)]) (plainFor_of_name (by decide)) (Nat.le_of_ble_eq_true rfl) rfl ?_
  intro t p e s m args below meth c ls X hr hnm hl
  have X : jCx p c cX1_comingTo 4 s m args RX1 G meth := X
  have L4 : ∀ (n4 : Nat) (x2_4 : Int32) (x3_4 : Int32) (ls : Array Slot), lv_has ls 4 [(0, .ref this), (1, .int a1), (2, .int x2_4), (3, .int x3_4)] → jGo l G 22 1242 σ (fun _ : Int32 => σ) jrI t p e s m args below meth c (jloop (X1_comingTo_h4 G n σ this a1) n4 (x2_4, x3_4)) σ (F0 m 4 ls []) := by
    intro n4
    induction n4 with
    | zero => intro x2_4 x3_4 ls hl; exact J.nil_
    | succ n4 ih4 =>
      have j55 : ∀ (x3_55 : Int32) (s0_55 : Int32) (s1_55 : Int32) (ls : Array Slot), lv_has ls 4 [(0, .ref this), (1, .int a1), (3, .int x3_55)] → jGo l G 22 1242 σ (fun _ : Int32 => σ) jrI t p e s m args below meth c (X1_comingTo_j55 G n σ this a1 (jloop (X1_comingTo_h4 G n σ this a1) n4) x3_55 s0_55 s1_55) σ (F0 m 55 ls [.int s1_55, .int s0_55]) := by
        intro x3_55 s0_55 s1_55 ls hl
        unfold X1_comingTo_j55
        refine J.bind (fun v55 h55 => ?_)
        refine J.cS (As := [.int s1_55]) (rest := [.int s0_55]) (s2 := [.int v55, .int s0_55]) X ⟨rfl, rfl⟩ (ct_X1_bit l G n σ s1_55) (jrd_of h55) (fun _ _ => va_cwS 1 X.1.2.2.2.2 (lw_S q2178 q1703 q138 q1704) rfl rfl rfl (by decide +kernel) ⟨(Nat.le_of_ble_eq_true rfl), (Nat.le_of_ble_eq_true rfl)⟩) rfl hl.1 rfl rfl (Nat.le_of_ble_eq_true rfl) dX1_comingTo_55 ?_
        refine J.pu (fun _ _ _ _ k => lv_iadd X.1.1 X.1.2.1 dX1_comingTo_58 k) ?_
        refine J.istore_n (i := 2) (lv' := [(2, .int (s0_55 + v55)), (0, .ref this), (1, .int a1), (3, .int x3_55)]) X.1.1 X.1.2.1 dX1_comingTo_59 rfl hl (by decide) (by first | rfl | simp [va_rf_cat, jcI, jcA, jcJ, jcD, jcF]) (fun ls hl => ?_)
        refine J.iinc (k := 3) (lv' := [(3, .int (x3_55 + 1)), (2, .int (s0_55 + v55)), (0, .ref this), (1, .int a1)]) (w := (x3_55 + 1)) X.1.1 X.1.2.1 dX1_comingTo_60 hl rfl rfl (by decide) (by first | rfl | simp [va_rf_cat, jcI, jcA, jcJ, jcD, jcF]) (fun ls hl => ?_)
        refine J.pu (fun _ _ _ _ k => lv_goto (tgt := 4) X.1.1 X.1.2.1 dX1_comingTo_63 (by decide) k) ?_
        exact ih4 (s0_55 + v55) (x3_55 + 1) ls (lv_sub hl [2, 3, 1, 0] rfl)
      have j54 : ∀ (x3_54 : Int32) (s0_54 : Int32) (ls : Array Slot), lv_has ls 4 [(0, .ref this), (1, .int a1), (3, .int x3_54)] → jGo l G 22 1242 σ (fun _ : Int32 => σ) jrI t p e s m args below meth c (X1_comingTo_j54 G n σ this a1 (jloop (X1_comingTo_h4 G n σ this a1) n4) x3_54 s0_54) σ (F0 m 54 ls [.int s0_54]) := by
        intro x3_54 s0_54 ls hl
        unfold X1_comingTo_j54
        refine J.pu (fun _ _ _ _ k => lv_iconst (v := 0) X.1.1 X.1.2.1 dX1_comingTo_54 (by decide) k) ?_
        exact j55 x3_54 s0_54 0 ls (lv_sub hl [0, 1, 2] rfl)
      intro x2_4 x3_4 ls hl
      refine J.eq (jloop_s _ _ _) ?_
      dsimp only [X1_comingTo_h4]
      refine J.pu (fun _ _ _ _ k => lv_iload_n X.1.1 X.1.2.1 dX1_comingTo_4 rfl (lv_at hl 3 rfl) k) ?_
      refine J.pu (fun _ _ _ _ k => lv_aload_n X.1.1 X.1.2.1 dX1_comingTo_5 rfl (lv_at hl 0 rfl) k) ?_
      refine J.getR (k := 4) (ci := 0) X in_X1 (show jCl[0]? = some (RX1, TX1, 9) from rfl) (by decide) q1329 (fun _ h => h) dX1_comingTo_6 (fun v6 h6 => ?_)
      refine J.getRN (k := 4) (ci := 1) X in_X2 (show jCl[1]? = some (RX2, TX2, 9) from rfl) (by decide) jnf10 (fun _ h => h) dX1_comingTo_9 (fun v9 h9 => ?_)
      refine J.bind (fun o12 g12 => ?_)
      refine J.bind (fun v12 h12 => ?_)
      refine J.cF (q := (RJ2, TJ2, 3)) (ci := 15) (As := []) (rest := [.int x3_4]) (s2 := [.int v12, .int x3_4]) X ⟨rfl, rfl⟩ (ct_J2_size l G σ o12) (jrd_of h12) (fun _ _ => va_cwF 0 X.1.2.2.2.2 (lw_F q1751 q832 q834 q142 q836) rfl rfl rfl (jfw2 X.2.1) (by decide +kernel) ⟨(Nat.le_of_ble_eq_true rfl), (Nat.le_of_ble_eq_true rfl)⟩) g12 rfl rfl hl.1 rfl rfl (Nat.le_of_ble_eq_true rfl) dX1_comingTo_12 ?_
      refine J.br (fun _ _ _ _ ka kb => lv_icmp_ge (tgt := 66) X.1.1 X.1.2.1 dX1_comingTo_17 (by decide) ka kb) (fun c17 => ?_) (fun c17 => ?_)
      · refine J.pu (fun _ _ _ _ k => lv_iload_n X.1.1 X.1.2.1 dX1_comingTo_66 rfl (lv_at hl 2 rfl) k) ?_
        exact J.iret (vr := jrI) (fin := fun _ : Int32 => σ) (t := t) X hr (by rfl) (by rfl) dX1_comingTo_67
      · refine J.pu (fun _ _ _ _ k => lv_iload_n X.1.1 X.1.2.1 dX1_comingTo_20 rfl (lv_at hl 2 rfl) k) ?_
        refine J.pu (fun _ _ _ _ k => lv_aload_n X.1.1 X.1.2.1 dX1_comingTo_21 rfl (lv_at hl 0 rfl) k) ?_
        refine J.getR (k := 4) (ci := 0) X in_X1 (show jCl[0]? = some (RX1, TX1, 9) from rfl) (by decide) q1329 (fun _ h => h) dX1_comingTo_22 (fun v22 h22 => ?_)
        refine J.pu (fun _ _ _ _ k => lv_iload_n X.1.1 X.1.2.1 dX1_comingTo_25 rfl (lv_at hl 3 rfl) k) ?_
        refine J.bind (fun o26 g26 => ?_)
        refine J.bind (fun v26 h26 => ?_)
        refine J.cV (q := (RX2, TX2, 9)) (ci := 1) (As := [.int x3_4]) (rest := [.int x2_4]) (s2 := [va_rf v26, .int x2_4]) X ⟨rfl, rfl⟩ (ct_X2_parcel l G n σ o26 x3_4) (jrd_of h26) (fun _ _ => cwV 1 X.1.2.2.2.2 (lw_V q2179 q943 q944 q139 q945) rfl rfl rfl (by decide +kernel) ⟨(Nat.le_of_ble_eq_true rfl), (Nat.le_of_ble_eq_true rfl)⟩) g26 rfl rfl hl.1 rfl rfl (Nat.le_of_ble_eq_true rfl) dX1_comingTo_26 ?_
        refine J.bind (fun o29 g29 => ?_)
        refine J.bind (fun v29 h29 => ?_)
        refine J.cV (q := (RX5, TX5, 10)) (ci := 4) (As := []) (rest := [.int x2_4]) (s2 := [.int v29, .int x2_4]) X ⟨rfl, rfl⟩ (ct_X5_isOn l G n σ o29) (jrd_of h29) (fun _ _ => cwV 0 X.1.2.2.2.2 (lw_V q2395 q1041 q1042 q167 q1043) rfl rfl rfl (by decide +kernel) ⟨(Nat.le_of_ble_eq_true rfl), (Nat.le_of_ble_eq_true rfl)⟩) g29 rfl rfl hl.1 rfl rfl (Nat.le_of_ble_eq_true rfl) dX1_comingTo_29 ?_
        refine J.br (fun _ _ _ _ ka kb => lv_if_eq (tgt := 54) X.1.1 X.1.2.1 dX1_comingTo_32 (by decide) ka kb) (fun c32 => ?_) (fun c32 => ?_)
        · exact j54 x3_4 x2_4 ls (lv_sub hl [0, 1, 3] rfl)
        · refine J.pu (fun _ _ _ _ k => lv_aload_n X.1.1 X.1.2.1 dX1_comingTo_35 rfl (lv_at hl 0 rfl) k) ?_
          refine J.getR (k := 4) (ci := 0) X in_X1 (show jCl[0]? = some (RX1, TX1, 9) from rfl) (by decide) q1329 (fun _ h => h) dX1_comingTo_36 (fun v36 h36 => ?_)
          refine J.pu (fun _ _ _ _ k => lv_iload_n X.1.1 X.1.2.1 dX1_comingTo_39 rfl (lv_at hl 3 rfl) k) ?_
          refine J.bind (fun o40 g40 => ?_)
          refine J.bind (fun v40 h40 => ?_)
          refine J.cV (q := (RX2, TX2, 9)) (ci := 1) (As := [.int x3_4]) (rest := [.int x2_4]) (s2 := [va_rf v40, .int x2_4]) X ⟨rfl, rfl⟩ (ct_X2_parcel l G n σ o40 x3_4) (jrd_of h40) (fun _ _ => cwV 1 X.1.2.2.2.2 (lw_V q2179 q943 q944 q139 q945) rfl rfl rfl (by decide +kernel) ⟨(Nat.le_of_ble_eq_true rfl), (Nat.le_of_ble_eq_true rfl)⟩) g40 rfl rfl hl.1 rfl rfl (Nat.le_of_ble_eq_true rfl) dX1_comingTo_40 ?_
          refine J.getIN (k := 1) (ci := 4) X in_X5 (show jCl[4]? = some (RX5, TX5, 10) from rfl) (by decide) jnf37 (fun _ h => h) dX1_comingTo_43 (fun v43 h43 => ?_)
          refine J.pu (fun _ _ _ _ k => lv_iload_n X.1.1 X.1.2.1 dX1_comingTo_46 rfl (lv_at hl 1 rfl) k) ?_
          refine J.br (fun _ _ _ _ ka kb => lv_icmp_ne (tgt := 54) X.1.1 X.1.2.1 dX1_comingTo_47 (by decide) kb ka) (fun c47 => ?_) (fun c47 => ?_)
          · refine J.pu (fun _ _ _ _ k => lv_iconst (v := 1) X.1.1 X.1.2.1 dX1_comingTo_50 (by decide) k) ?_
            refine J.pu (fun _ _ _ _ k => lv_goto (tgt := 55) X.1.1 X.1.2.1 dX1_comingTo_51 (by decide) k) ?_
            exact j55 x3_4 x2_4 1 ls (lv_sub hl [0, 1, 3] rfl)
          · exact j54 x3_4 x2_4 ls (lv_sub hl [0, 1, 3] rfl)
  unfold X1_comingTo
  refine J.pu (fun _ _ _ _ k => lv_iconst (v := 0) X.1.1 X.1.2.1 dX1_comingTo_0 (by decide) k) ?_
  refine J.istore_n (i := 2) (lv' := [(2, .int 0), (0, .ref this), (1, .int a1)]) X.1.1 X.1.2.1 dX1_comingTo_1 rfl hl (by decide) (by first | rfl | simp [va_rf_cat, jcI, jcA, jcJ, jcD, jcF]) (fun ls hl => ?_)
  refine J.pu (fun _ _ _ _ k => lv_iconst (v := 0) X.1.1 X.1.2.1 dX1_comingTo_2 (by decide) k) ?_
  refine J.istore_n (i := 3) (lv' := [(3, .int 0), (2, .int 0), (0, .ref this), (1, .int a1)]) X.1.1 X.1.2.1 dX1_comingTo_3 rfl hl (by decide) (by first | rfl | simp [va_rf_cat, jcI, jcA, jcJ, jcD, jcF]) (fun ls hl => ?_)
  exact L4 n 0 0 ls (lv_sub hl [2, 3, 1, 0] rfl)
noncomputable def X1_held_b (G : jG) (n : Nat) (σ : jH) (this : Nat) (a1 : Int32) (a2 : Int32) : Option (jTh Int32 × jH) :=
  (rc σ (some this) 0).bind fun o2 => tb (X1_chuteAt G n σ o2 a1) fun v2 S2 => (gR S2 v2 3 4).bind fun v10 => (rc S2 v10 16).bind fun o13 => (lSize 1 S2 o13).bind fun v13 => (X1_isIn G n S2 a2.toInt64 0 ((v13 - 1).toInt64)).bind fun v21 => if v21 = 0 then (some (.inl (-1), S2)) else ((gR S2 v2 3 4).bind fun v28 => (rc S2 v28 16).bind fun o32 => (lGet 1 S2 o32 a2).bind fun v32 => (jck' S2 v32 [4]).bind fun _ => (gI S2 v32 4 0).bind fun v40 => some (.inl v40, S2))
noncomputable def X1_held (G : jG) (n : Nat) (σ : jH) (this : Nat) (a1 : Int32) (a2 : Int32) : Option (jTh Int32 × jH) := jck σ (X1_held_b G n σ this a1 a2)
set_option maxHeartbeats 4000000 in
set_option maxRecDepth 100000 in
theorem ct_X1_held (l : Launch) (hfl : l.stackTraces = false) (G : jG) (n : Nat) (σ : jH) (this : Nat) (a1 : Int32) (a2 : Int32) : jTt l G yX1_held (ws_ yX1_held cX1_held 4 (some .int)) 23 1263 jrI [.ref this, .int a1, .int a2] σ (X1_held G n σ this a1 a2) := by
  refine jTt.wr (lv := [(0, .ref this), (1, .int a1), (2, .int a2)]) rfl (Nat.le_of_ble_eq_true rfl) rfl ?_
  intro t p e s m args below meth c ls X hr hnm hout hl
  have X : jCx p c cX1_held 4 s m args RX1 G meth := X
  unfold X1_held_b
  refine J.pu (fun _ _ _ _ k => lv_aload_n X.1.1 X.1.2.1 dX1_held_0 rfl (lv_at hl 0 rfl) k) ?_
  refine J.pu (fun _ _ _ _ k => lv_iload_n X.1.1 X.1.2.1 dX1_held_1 rfl (lv_at hl 1 rfl) k) ?_
  refine J.bind (fun o2 g2 => ?_)
  refine J.tV (q := (RX1, TX1, 9)) (ci := 0) (As := [.int a1]) (rest := []) X hout ⟨rfl, rfl⟩ (ct_X1_chuteAt l hfl G n σ o2 a1) (fun _ _ => cwV 1 X.1.2.2.2.2 (lw_V q2465 q2467 qs48 q138 q2468) rfl rfl rfl (by decide +kernel) ⟨(Nat.le_of_ble_eq_true rfl), (Nat.le_of_ble_eq_true rfl)⟩) g2 rfl rfl hl.1 rfl (Nat.le_of_ble_eq_true rfl) dX1_held_2 (fun v2 S2 h2 => ?_)
  refine J.geq (g2 := F0 m 5 ls [va_rf v2]) rfl ?_
  refine J.astore_n (r := v2) (i := 3) (lv' := [(3, va_rf v2), (0, .ref this), (1, .int a1), (2, .int a2)]) X.1.1 X.1.2.1 dX1_held_5 rfl hl (by decide) (by first | rfl | simp [va_rf_cat, jcI, jcA, jcJ, jcD, jcF]) (fun ls hl => ?_)
  refine J.pu (fun _ _ _ _ k => lv_iload_n X.1.1 X.1.2.1 dX1_held_6 rfl (lv_at hl 3 rfl) k) ?_
  refine J.pu (fun _ _ _ _ k => lv_i2l (v := a2.toInt64) X.1.1 X.1.2.1 dX1_held_7 rfl k) ?_
  refine J.pu (fun _ _ _ _ k => lv_lconst (v := 0) X.1.1 X.1.2.1 dX1_held_8 (by decide) k) ?_
  refine J.pu (fun _ _ _ _ k => W.rload_n X.1.1 X.1.2.1 dX1_held_9 rfl (lv_at hl 0 rfl) k) ?_
  refine J.getRN (k := 4) (ci := 3) X in_X4 (show jCl[3]? = some (RX4, TX4, 9) from rfl) (by decide) jnf24 (fun _ h => h) dX1_held_10 (fun v10 h10 => ?_)
  refine J.bind (fun o13 g13 => ?_)
  refine J.bind (fun v13 h13 => ?_)
  refine J.cF (q := (RJ19, TJ19, 4)) (ci := 16) (As := []) (rest := [.long 0, .long a2.toInt64]) (s2 := [.int v13, .long 0, .long a2.toInt64]) X ⟨rfl, rfl⟩ (ct_J19_size l G S2 o13) (jrd_of h13) (fun _ _ => va_cwF 0 X.1.2.2.2.2 (lw_F q1751 q837 q839 q163 q841) rfl rfl rfl (jfw3 X.2.1) (by decide +kernel) ⟨(Nat.le_of_ble_eq_true rfl), (Nat.le_of_ble_eq_true rfl)⟩) g13 rfl rfl hl.1 rfl rfl (Nat.le_of_ble_eq_true rfl) dX1_held_13 ?_
  refine J.pu (fun _ _ _ _ k => lv_iconst (v := 1) X.1.1 X.1.2.1 dX1_held_18 (by decide) k) ?_
  refine J.pu (fun _ _ _ _ k => lv_isub X.1.1 X.1.2.1 dX1_held_19 k) ?_
  refine J.pu (fun _ _ _ _ k => lv_i2l (v := (v13 - 1).toInt64) X.1.1 X.1.2.1 dX1_held_20 rfl k) ?_
  refine J.bind (fun v21 h21 => ?_)
  refine J.cS (As := [.long a2.toInt64, .long 0, .long (v13 - 1).toInt64]) (rest := []) (s2 := [.int v21]) X ⟨rfl, rfl⟩ (ct_X1_isIn l G n S2 a2.toInt64 0 ((v13 - 1).toInt64)) (jrd_of h21) (fun _ _ => va_cwS 3 X.1.2.2.2.2 (lw_S q1365 q1366 q138 q1367) rfl rfl rfl (by decide +kernel) ⟨(Nat.le_of_ble_eq_true rfl), (Nat.le_of_ble_eq_true rfl)⟩) rfl hl.1 rfl rfl (Nat.le_of_ble_eq_true rfl) dX1_held_21 ?_
  refine J.br (fun _ _ _ _ ka kb => lv_if_eq (tgt := 46) X.1.1 X.1.2.1 dX1_held_24 (by decide) ka kb) (fun c24 => ?_) (fun c24 => ?_)
  · refine J.pu (fun _ _ _ _ k => lv_iconst (v := (-1)) X.1.1 X.1.2.1 dX1_held_46 (by decide) k) ?_
    exact J.tret (J.iret (vr := fun t : Int32 × jH => jrI t.1) (fin := (Prod.snd : Int32 × jH → jH)) (t := ((-1), S2)) X hr (by rfl) (by rfl) dX1_held_47)
  · refine J.pu (fun _ _ _ _ k => W.rload_n X.1.1 X.1.2.1 dX1_held_27 rfl (lv_at hl 0 rfl) k) ?_
    refine J.getRN (k := 4) (ci := 3) X in_X4 (show jCl[3]? = some (RX4, TX4, 9) from rfl) (by decide) jnf24 (fun _ h => h) dX1_held_28 (fun v28 h28 => ?_)
    refine J.pu (fun _ _ _ _ k => lv_iload_n X.1.1 X.1.2.1 dX1_held_31 rfl (lv_at hl 3 rfl) k) ?_
    refine J.bind (fun o32 g32 => ?_)
    refine J.bind (fun v32 h32 => ?_)
    refine J.cF (q := (RJ19, TJ19, 4)) (ci := 16) (As := [.int a2]) (rest := []) (s2 := [va_rf v32]) X ⟨rfl, rfl⟩ (ct_J19_get l G S2 o32 a2) (jrd_of h32) (fun _ _ => va_cwF 1 X.1.2.2.2.2 (lw_F q1956 q866 q868 q163 q870) rfl rfl rfl (jfw5 X.2.1) (by decide +kernel) ⟨(Nat.le_of_ble_eq_true rfl), (Nat.le_of_ble_eq_true rfl)⟩) g32 rfl rfl hl.1 rfl rfl (Nat.le_of_ble_eq_true rfl) dX1_held_32 ?_
    refine J.cast (nm := "SortingLoop$Parcel") X q2346 (List.forall_mem_cons.mpr ⟨⟨_, rfl, Or.inl rfl⟩, jnil_all⟩) dX1_held_37 ?_
    refine J.getIN (k := 0) (ci := 4) X in_X5 (show jCl[4]? = some (RX5, TX5, 10) from rfl) (by decide) jnf34 (fun _ h => h) dX1_held_40 (fun v40 h40 => ?_)
    refine J.pu (fun _ _ _ _ k => lv_goto (tgt := 47) X.1.1 X.1.2.1 dX1_held_43 (by decide) k) ?_
    exact J.tret (J.iret (vr := fun t : Int32 × jH => jrI t.1) (fin := (Prod.snd : Int32 × jH → jH)) (t := (v40, S2)) X hr (by rfl) (by rfl) dX1_held_47)
noncomputable def X1_steps_b (G : jG) (n : Nat) (σ : jH) (this : Nat) (a1 : Int32) (a2 : Int32) : Option (jTh Int32 × jH) :=
  (rc σ (some this) 0).bind fun o2 => tb (X1_checkCell G n σ o2 a1) fun v2 S2 => (rc S2 (some this) 0).bind fun o7 => tb (X1_checkCell G n S2 o7 a2) fun v7 S7 => (gR S7 (some this) 0 4).bind fun v11 => (rc S7 v11 1).bind fun o16 => (X2_steps G n S7 o16 a1 a2).bind fun v16 => some (.inl v16, S7)
noncomputable def X1_steps (G : jG) (n : Nat) (σ : jH) (this : Nat) (a1 : Int32) (a2 : Int32) : Option (jTh Int32 × jH) := jck σ (X1_steps_b G n σ this a1 a2)
set_option maxHeartbeats 4000000 in
set_option maxRecDepth 100000 in
theorem ct_X1_steps (l : Launch) (hfl : l.stackTraces = false) (G : jG) (n : Nat) (σ : jH) (this : Nat) (a1 : Int32) (a2 : Int32) : jTt l G yX1_steps (ws_ yX1_steps cX1_steps 3 (some .int)) 8 141 jrI [.ref this, .int a1, .int a2] σ (X1_steps G n σ this a1 a2) := by
  refine jTt.wr (lv := [(0, .ref this), (1, .int a1), (2, .int a2)]) rfl (Nat.le_of_ble_eq_true rfl) rfl ?_
  intro t p e s m args below meth c ls X hr hnm hout hl
  have X : jCx p c cX1_steps 3 s m args RX1 G meth := X
  unfold X1_steps_b
  refine J.pu (fun _ _ _ _ k => lv_aload_n X.1.1 X.1.2.1 dX1_steps_0 rfl (lv_at hl 0 rfl) k) ?_
  refine J.pu (fun _ _ _ _ k => lv_iload_n X.1.1 X.1.2.1 dX1_steps_1 rfl (lv_at hl 1 rfl) k) ?_
  refine J.bind (fun o2 g2 => ?_)
  refine J.tV (q := (RX1, TX1, 9)) (ci := 0) (As := [.int a1]) (rest := []) X hout ⟨rfl, rfl⟩ (ct_X1_checkCell l hfl G n σ o2 a1) (fun _ _ => cwV 1 X.1.2.2.2.2 (lw_V q2427 q2429 qs45 q138 q2430) rfl rfl rfl (by decide +kernel) ⟨(Nat.le_of_ble_eq_true rfl), (Nat.le_of_ble_eq_true rfl)⟩) g2 rfl rfl hl.1 rfl (Nat.le_of_ble_eq_true rfl) dX1_steps_2 (fun v2 S2 h2 => ?_)
  refine J.geq (g2 := F0 m 5 ls []) rfl ?_
  refine J.pu (fun _ _ _ _ k => lv_aload_n X.1.1 X.1.2.1 dX1_steps_5 rfl (lv_at hl 0 rfl) k) ?_
  refine J.pu (fun _ _ _ _ k => lv_iload_n X.1.1 X.1.2.1 dX1_steps_6 rfl (lv_at hl 2 rfl) k) ?_
  refine J.bind (fun o7 g7 => ?_)
  refine J.tV (q := (RX1, TX1, 9)) (ci := 0) (As := [.int a2]) (rest := []) X hout ⟨rfl, rfl⟩ (ct_X1_checkCell l hfl G n S2 o7 a2) (fun _ _ => cwV 1 X.1.2.2.2.2 (lw_V q2427 q2429 qs45 q138 q2430) rfl rfl rfl (by decide +kernel) ⟨(Nat.le_of_ble_eq_true rfl), (Nat.le_of_ble_eq_true rfl)⟩) g7 rfl rfl hl.1 rfl (Nat.le_of_ble_eq_true rfl) dX1_steps_7 (fun v7 S7 h7 => ?_)
  refine J.geq (g2 := F0 m 10 ls []) rfl ?_
  refine J.pu (fun _ _ _ _ k => lv_aload_n X.1.1 X.1.2.1 dX1_steps_10 rfl (lv_at hl 0 rfl) k) ?_
  refine J.getR (k := 4) (ci := 0) X in_X1 (show jCl[0]? = some (RX1, TX1, 9) from rfl) (by decide) q1329 (fun _ h => h) dX1_steps_11 (fun v11 h11 => ?_)
  refine J.pu (fun _ _ _ _ k => lv_iload_n X.1.1 X.1.2.1 dX1_steps_14 rfl (lv_at hl 1 rfl) k) ?_
  refine J.pu (fun _ _ _ _ k => lv_iload_n X.1.1 X.1.2.1 dX1_steps_15 rfl (lv_at hl 2 rfl) k) ?_
  refine J.bind (fun o16 g16 => ?_)
  refine J.bind (fun v16 h16 => ?_)
  refine J.cV (q := (RX2, TX2, 9)) (ci := 1) (As := [.int a1, .int a2]) (rest := []) (s2 := [.int v16]) X ⟨rfl, rfl⟩ (ct_X2_steps l G n S7 o16 a1 a2) (jrd_of h16) (fun _ _ => cwV 2 X.1.2.2.2.2 (lw_V q2499 q2120 q2121 q139 q2122) rfl rfl rfl (by decide +kernel) ⟨(Nat.le_of_ble_eq_true rfl), (Nat.le_of_ble_eq_true rfl)⟩) g16 rfl rfl hl.1 rfl rfl (Nat.le_of_ble_eq_true rfl) dX1_steps_16 ?_
  exact J.tret (J.iret (vr := fun t : Int32 × jH => jrI t.1) (fin := (Prod.snd : Int32 × jH → jH)) (t := (v16, S7)) X hr (by rfl) (by rfl) dX1_steps_19)
noncomputable def X1_stepsToScanner_h11 (G : jG) (n : Nat) (σ : jH) (this : Nat) (a1 : Option Nat) (rec11 : Int32 → Option (Int32)) (q11 : Int32) : Option (Int32) :=
  let x2_11 := q11; (gR σ (some this) 0 4).bind fun v13 => (gI σ v13 1 0).bind fun v16 => if v16 < x2_11 then (some (-1)) else ((gR σ (some this) 0 4).bind fun v23 => (gR σ v23 1 2).bind fun v26 => (gI σ a1 4 5).bind fun v30 => (gR σ (some this) 0 4).bind fun v36 => (gI σ v36 1 0).bind fun v39 => jnz v39 fun _ => (aI σ v26 2 ((v30 + x2_11) - (v30 + x2_11) / v39 * v39)).bind fun v43 => if v43 = 0 then (rec11 (x2_11 + 1)) else (some x2_11))
noncomputable def X1_stepsToScanner (G : jG) (n : Nat) (σ : jH) (this : Nat) (a1 : Option Nat) : Option (Int32) :=
  (rc σ a1 4).bind fun o1 => (X5_isOn G n σ o1).bind fun v1 => if v1 = 0 then (some (-1)) else (jloop (X1_stepsToScanner_h11 G n σ this a1) n 1)
set_option maxHeartbeats 4000000 in
set_option maxRecDepth 100000 in
theorem ct_X1_stepsToScanner (l : Launch) (G : jG) (n : Nat) (σ : jH) (this : Nat) (a1 : Option Nat) : jCt l G yX1_stepsToScanner (ws_ yX1_stepsToScanner cX1_stepsToScanner 3 (some .int)) 1 20 jrI [.ref this, va_rf a1] σ (jrd σ (X1_stepsToScanner G n σ this a1)) := by
  refine jCt.rd (lv := [(0, .ref this), (1, va_rf a1)]) (plainFor_of_name (by decide)) (by simp [lg_sl, va_rf_cat, jcI, jcA, jcJ, jcD, jcF]) (by simp [lv_args, va_rf_cat, jcI, jcA, jcJ, jcD, jcF]) ?_
  intro t p e s m args below meth c ls X hr hnm hl
  have X : jCx p c cX1_stepsToScanner 3 s m args RX1 G meth := X
  have L11 : ∀ (n11 : Nat) (x2_11 : Int32) (ls : Array Slot), lv_has ls 3 [(0, .ref this), (1, va_rf a1), (2, .int x2_11)] → jGo l G 1 20 σ (fun _ : Int32 => σ) jrI t p e s m args below meth c (jloop (X1_stepsToScanner_h11 G n σ this a1) n11 x2_11) σ (F0 m 11 ls []) := by
    intro n11
    induction n11 with
    | zero => intro x2_11 ls hl; exact J.nil_
    | succ n11 ih11 =>
      intro x2_11 ls hl
      refine J.eq (jloop_s _ _ _) ?_
      dsimp only [X1_stepsToScanner_h11]
      refine J.pu (fun _ _ _ _ k => lv_iload_n X.1.1 X.1.2.1 dX1_stepsToScanner_11 rfl (lv_at hl 2 rfl) k) ?_
      refine J.pu (fun _ _ _ _ k => lv_aload_n X.1.1 X.1.2.1 dX1_stepsToScanner_12 rfl (lv_at hl 0 rfl) k) ?_
      refine J.getR (k := 4) (ci := 0) X in_X1 (show jCl[0]? = some (RX1, TX1, 9) from rfl) (by decide) q1329 (fun _ h => h) dX1_stepsToScanner_13 (fun v13 h13 => ?_)
      refine J.getIN (k := 0) (ci := 1) X in_X2 (show jCl[1]? = some (RX2, TX2, 9) from rfl) (by decide) jnf2 (fun _ h => h) dX1_stepsToScanner_16 (fun v16 h16 => ?_)
      refine J.br (fun _ _ _ _ ka kb => lv_icmp_gt (tgt := 55) X.1.1 X.1.2.1 dX1_stepsToScanner_19 (by decide) ka kb) (fun c19 => ?_) (fun c19 => ?_)
      · refine J.pu (fun _ _ _ _ k => lv_iconst (v := (-1)) X.1.1 X.1.2.1 dX1_stepsToScanner_55 (by decide) k) ?_
        exact J.iret (vr := jrI) (fin := fun _ : Int32 => σ) (t := t) X hr (by rfl) (by rfl) dX1_stepsToScanner_56
      · refine J.pu (fun _ _ _ _ k => lv_aload_n X.1.1 X.1.2.1 dX1_stepsToScanner_22 rfl (lv_at hl 0 rfl) k) ?_
        refine J.getR (k := 4) (ci := 0) X in_X1 (show jCl[0]? = some (RX1, TX1, 9) from rfl) (by decide) q1329 (fun _ h => h) dX1_stepsToScanner_23 (fun v23 h23 => ?_)
        refine J.getRN (k := 2) (ci := 1) X in_X2 (show jCl[1]? = some (RX2, TX2, 9) from rfl) (by decide) jnf5 (fun _ h => h) dX1_stepsToScanner_26 (fun v26 h26 => ?_)
        refine J.pu (fun _ _ _ _ k => W.rload_n X.1.1 X.1.2.1 dX1_stepsToScanner_29 rfl (lv_at hl 1 rfl) k) ?_
        refine J.getIN (k := 5) (ci := 4) X in_X5 (show jCl[4]? = some (RX5, TX5, 10) from rfl) (by decide) jnf45 (fun _ h => h) dX1_stepsToScanner_30 (fun v30 h30 => ?_)
        refine J.pu (fun _ _ _ _ k => lv_iload_n X.1.1 X.1.2.1 dX1_stepsToScanner_33 rfl (lv_at hl 2 rfl) k) ?_
        refine J.pu (fun _ _ _ _ k => lv_iadd X.1.1 X.1.2.1 dX1_stepsToScanner_34 k) ?_
        refine J.pu (fun _ _ _ _ k => lv_aload_n X.1.1 X.1.2.1 dX1_stepsToScanner_35 rfl (lv_at hl 0 rfl) k) ?_
        refine J.getR (k := 4) (ci := 0) X in_X1 (show jCl[0]? = some (RX1, TX1, 9) from rfl) (by decide) q1329 (fun _ h => h) dX1_stepsToScanner_36 (fun v36 h36 => ?_)
        refine J.getIN (k := 0) (ci := 1) X in_X2 (show jCl[1]? = some (RX2, TX2, 9) from rfl) (by decide) jnf2 (fun _ h => h) dX1_stepsToScanner_39 (fun v39 h39 => ?_)
        refine J.nz (fun z42 => ?_)
        refine J.pu (fun _ _ _ _ k => lv_irem X.1.1 X.1.2.1 dX1_stepsToScanner_42 z42 k) ?_
        refine J.aI2 X dX1_stepsToScanner_43 (fun v43 h43 => ?_)
        refine J.br (fun _ _ _ _ ka kb => lv_if_eq (tgt := 49) X.1.1 X.1.2.1 dX1_stepsToScanner_44 (by decide) ka kb) (fun c44 => ?_) (fun c44 => ?_)
        · refine J.iinc (k := 2) (lv' := [(2, .int (x2_11 + 1)), (0, .ref this), (1, va_rf a1)]) (w := (x2_11 + 1)) X.1.1 X.1.2.1 dX1_stepsToScanner_49 hl rfl rfl (by decide) (by first | rfl | simp [va_rf_cat, jcI, jcA, jcJ, jcD, jcF]) (fun ls hl => ?_)
          refine J.pu (fun _ _ _ _ k => lv_goto (tgt := 11) X.1.1 X.1.2.1 dX1_stepsToScanner_52 (by decide) k) ?_
          exact ih11 (x2_11 + 1) ls (lv_sub hl [1, 2, 0] rfl)
        · refine J.pu (fun _ _ _ _ k => lv_iload_n X.1.1 X.1.2.1 dX1_stepsToScanner_47 rfl (lv_at hl 2 rfl) k) ?_
          exact J.iret (vr := jrI) (fin := fun _ : Int32 => σ) (t := t) X hr (by rfl) (by rfl) dX1_stepsToScanner_48
  unfold X1_stepsToScanner
  refine J.pu (fun _ _ _ _ k => W.rload_n X.1.1 X.1.2.1 dX1_stepsToScanner_0 rfl (lv_at hl 1 rfl) k) ?_
  refine J.bind (fun o1 g1 => ?_)
  refine J.bind (fun v1 h1 => ?_)
  refine J.cV (q := (RX5, TX5, 10)) (ci := 4) (As := []) (rest := []) (s2 := [.int v1]) X ⟨rfl, rfl⟩ (ct_X5_isOn l G n σ o1) (jrd_of h1) (fun _ _ => cwV 0 X.1.2.2.2.2 (lw_V q2395 q1041 q1042 q167 q1043) rfl rfl rfl (by decide +kernel) ⟨(Nat.le_of_ble_eq_true rfl), (Nat.le_of_ble_eq_true rfl)⟩) g1 rfl rfl hl.1 rfl rfl (Nat.le_of_ble_eq_true rfl) dX1_stepsToScanner_1 ?_
  refine J.br (fun _ _ _ _ ka kb => lv_if_ne (tgt := 9) X.1.1 X.1.2.1 dX1_stepsToScanner_4 (by decide) kb ka) (fun c4 => ?_) (fun c4 => ?_)
  · refine J.pu (fun _ _ _ _ k => lv_iconst (v := (-1)) X.1.1 X.1.2.1 dX1_stepsToScanner_7 (by decide) k) ?_
    exact J.iret (vr := jrI) (fin := fun _ : Int32 => σ) (t := t) X hr (by rfl) (by rfl) dX1_stepsToScanner_8
  · refine J.pu (fun _ _ _ _ k => lv_iconst (v := 1) X.1.1 X.1.2.1 dX1_stepsToScanner_9 (by decide) k) ?_
    refine J.istore_n (i := 2) (lv' := [(2, .int 1), (0, .ref this), (1, va_rf a1)]) X.1.1 X.1.2.1 dX1_stepsToScanner_10 rfl hl (by decide) (by first | rfl | simp [va_rf_cat, jcI, jcA, jcJ, jcD, jcF]) (fun ls hl => ?_)
    exact L11 n 1 ls (lv_sub hl [1, 2, 0] rfl)
noncomputable def X1_stepsToChute (G : jG) (n : Nat) (σ : jH) (this : Nat) (a1 : Option Nat) : Option (Int32) :=
  (rc σ a1 4).bind fun o1 => (X5_isTracked G n σ o1).bind fun v1 => if v1 = 0 then (some (-1)) else ((gR σ (some this) 0 4).bind fun v10 => (gI σ a1 4 6).bind fun v14 => (gR σ (some this) 0 4).bind fun v18 => (gI σ a1 4 1).bind fun v22 => (rc σ v18 1).bind fun o25 => (X2_chute G n σ o25 v22).bind fun v25 => (gI σ v25 3 1).bind fun v28 => (rc σ v10 1).bind fun o31 => (X2_steps G n σ o31 v14 v28).bind fun v31 => if v31 = 0 then ((gR σ (some this) 0 4).bind fun v40 => (gI σ v40 1 0).bind fun v43 => some v43) else (some v31))
set_option maxHeartbeats 4000000 in
set_option maxRecDepth 100000 in
theorem ct_X1_stepsToChute (l : Launch) (G : jG) (n : Nat) (σ : jH) (this : Nat) (a1 : Option Nat) : jCt l G yX1_stepsToChute (ws_ yX1_stepsToChute cX1_stepsToChute 3 (some .int)) 22 1242 jrI [.ref this, va_rf a1] σ (jrd σ (X1_stepsToChute G n σ this a1)) := by
  refine jCt.rd (lv := [(0, .ref this), (1, va_rf a1)]) (plainFor_of_name (by decide)) (by simp [lg_sl, va_rf_cat, jcI, jcA, jcJ, jcD, jcF]) (by simp [lv_args, va_rf_cat, jcI, jcA, jcJ, jcD, jcF]) ?_
  intro t p e s m args below meth c ls X hr hnm hl
  have X : jCx p c cX1_stepsToChute 3 s m args RX1 G meth := X
  unfold X1_stepsToChute
  refine J.pu (fun _ _ _ _ k => W.rload_n X.1.1 X.1.2.1 dX1_stepsToChute_0 rfl (lv_at hl 1 rfl) k) ?_
  refine J.bind (fun o1 g1 => ?_)
  refine J.bind (fun v1 h1 => ?_)
  refine J.cV (q := (RX5, TX5, 10)) (ci := 4) (As := []) (rest := []) (s2 := [.int v1]) X ⟨rfl, rfl⟩ (ct_X5_isTracked l G n σ o1) (jrd_of h1) (fun _ _ => cwV 0 X.1.2.2.2.2 (lw_V q2396 q2100 q2101 q167 q2102) rfl rfl rfl (by decide +kernel) ⟨(Nat.le_of_ble_eq_true rfl), (Nat.le_of_ble_eq_true rfl)⟩) g1 rfl rfl hl.1 rfl rfl (Nat.le_of_ble_eq_true rfl) dX1_stepsToChute_1 ?_
  refine J.br (fun _ _ _ _ ka kb => lv_if_ne (tgt := 9) X.1.1 X.1.2.1 dX1_stepsToChute_4 (by decide) kb ka) (fun c4 => ?_) (fun c4 => ?_)
  · refine J.pu (fun _ _ _ _ k => lv_iconst (v := (-1)) X.1.1 X.1.2.1 dX1_stepsToChute_7 (by decide) k) ?_
    exact J.iret (vr := jrI) (fin := fun _ : Int32 => σ) (t := t) X hr (by rfl) (by rfl) dX1_stepsToChute_8
  · refine J.pu (fun _ _ _ _ k => lv_aload_n X.1.1 X.1.2.1 dX1_stepsToChute_9 rfl (lv_at hl 0 rfl) k) ?_
    refine J.getR (k := 4) (ci := 0) X in_X1 (show jCl[0]? = some (RX1, TX1, 9) from rfl) (by decide) q1329 (fun _ h => h) dX1_stepsToChute_10 (fun v10 h10 => ?_)
    refine J.pu (fun _ _ _ _ k => W.rload_n X.1.1 X.1.2.1 dX1_stepsToChute_13 rfl (lv_at hl 1 rfl) k) ?_
    refine J.getIN (k := 6) (ci := 4) X in_X5 (show jCl[4]? = some (RX5, TX5, 10) from rfl) (by decide) jnf47 (fun _ h => h) dX1_stepsToChute_14 (fun v14 h14 => ?_)
    refine J.pu (fun _ _ _ _ k => lv_aload_n X.1.1 X.1.2.1 dX1_stepsToChute_17 rfl (lv_at hl 0 rfl) k) ?_
    refine J.getR (k := 4) (ci := 0) X in_X1 (show jCl[0]? = some (RX1, TX1, 9) from rfl) (by decide) q1329 (fun _ h => h) dX1_stepsToChute_18 (fun v18 h18 => ?_)
    refine J.pu (fun _ _ _ _ k => W.rload_n X.1.1 X.1.2.1 dX1_stepsToChute_21 rfl (lv_at hl 1 rfl) k) ?_
    refine J.getIN (k := 1) (ci := 4) X in_X5 (show jCl[4]? = some (RX5, TX5, 10) from rfl) (by decide) jnf37 (fun _ h => h) dX1_stepsToChute_22 (fun v22 h22 => ?_)
    refine J.bind (fun o25 g25 => ?_)
    refine J.bind (fun v25 h25 => ?_)
    refine J.cV (q := (RX2, TX2, 9)) (ci := 1) (As := [.int v22]) (rest := [.int v14, va_rf v10]) (s2 := [va_rf v25, .int v14, va_rf v10]) X ⟨rfl, rfl⟩ (ct_X2_chute l G n σ o25 v22) (jrd_of h25) (fun _ _ => cwV 1 X.1.2.2.2.2 (lw_V q2185 q844 q845 q139 q846) rfl rfl rfl (by decide +kernel) ⟨(Nat.le_of_ble_eq_true rfl), (Nat.le_of_ble_eq_true rfl)⟩) g25 rfl rfl hl.1 rfl rfl (by simp [va_rf_cat, jcI, jcA, jcJ, jcD, jcF]) dX1_stepsToChute_25 ?_
    refine J.getIN (k := 1) (ci := 3) X in_X4 (show jCl[3]? = some (RX4, TX4, 9) from rfl) (by decide) jnf19 (fun _ h => h) dX1_stepsToChute_28 (fun v28 h28 => ?_)
    refine J.bind (fun o31 g31 => ?_)
    refine J.bind (fun v31 h31 => ?_)
    refine J.cV (q := (RX2, TX2, 9)) (ci := 1) (As := [.int v14, .int v28]) (rest := []) (s2 := [.int v31]) X ⟨rfl, rfl⟩ (ct_X2_steps l G n σ o31 v14 v28) (jrd_of h31) (fun _ _ => cwV 2 X.1.2.2.2.2 (lw_V q2499 q2120 q2121 q139 q2122) rfl rfl rfl (by decide +kernel) ⟨(Nat.le_of_ble_eq_true rfl), (Nat.le_of_ble_eq_true rfl)⟩) g31 rfl rfl hl.1 rfl rfl (Nat.le_of_ble_eq_true rfl) dX1_stepsToChute_31 ?_
    refine J.istore_n (i := 2) (lv' := [(2, .int v31), (0, .ref this), (1, va_rf a1)]) X.1.1 X.1.2.1 dX1_stepsToChute_34 rfl hl (by decide) (by first | rfl | simp [va_rf_cat, jcI, jcA, jcJ, jcD, jcF]) (fun ls hl => ?_)
    refine J.pu (fun _ _ _ _ k => lv_iload_n X.1.1 X.1.2.1 dX1_stepsToChute_35 rfl (lv_at hl 0 rfl) k) ?_
    refine J.br (fun _ _ _ _ ka kb => lv_if_ne (tgt := 49) X.1.1 X.1.2.1 dX1_stepsToChute_36 (by decide) kb ka) (fun c36 => ?_) (fun c36 => ?_)
    · refine J.pu (fun _ _ _ _ k => lv_aload_n X.1.1 X.1.2.1 dX1_stepsToChute_39 rfl (lv_at hl 1 rfl) k) ?_
      refine J.getR (k := 4) (ci := 0) X in_X1 (show jCl[0]? = some (RX1, TX1, 9) from rfl) (by decide) q1329 (fun _ h => h) dX1_stepsToChute_40 (fun v40 h40 => ?_)
      refine J.getIN (k := 0) (ci := 1) X in_X2 (show jCl[1]? = some (RX2, TX2, 9) from rfl) (by decide) jnf2 (fun _ h => h) dX1_stepsToChute_43 (fun v43 h43 => ?_)
      refine J.pu (fun _ _ _ _ k => lv_goto (tgt := 50) X.1.1 X.1.2.1 dX1_stepsToChute_46 (by decide) k) ?_
      exact J.iret (vr := jrI) (fin := fun _ : Int32 => σ) (t := t) X hr (by rfl) (by rfl) dX1_stepsToChute_50
    · refine J.pu (fun _ _ _ _ k => lv_iload_n X.1.1 X.1.2.1 dX1_stepsToChute_49 rfl (lv_at hl 0 rfl) k) ?_
      exact J.iret (vr := jrI) (fin := fun _ : Int32 => σ) (t := t) X hr (by rfl) (by rfl) dX1_stepsToChute_50
noncomputable def X1_deeper (G : jG) (n : Nat) (σ : jH) (this : Nat) (a1 : Option Nat) (a2 : Int32) : Option (Int32) :=
  if a2 = 2 then ((gI σ a1 4 1).bind fun v40 => some (300 + v40)) else if a2 = 3 then ((rc σ (some this) 0).bind fun o53 => (X1_stepsToScanner G n σ o53 a1).bind fun v53 => (J12_max n 0 v53).bind fun v56 => some (500 + v56)) else if a2 = 5 then ((gR σ (some this) 0 4).bind fun v67 => (gI σ a1 4 1).bind fun v71 => (rc σ v67 1).bind fun o74 => (X2_chute G n σ o74 v71).bind fun v74 => (gR σ v74 3 4).bind fun v77 => (rc σ v77 16).bind fun o80 => (lSize 1 σ o80).bind fun v80 => some (800 + v80)) else if a2 = 6 then ((gR σ (some this) 0 4).bind fun v93 => (gI σ a1 4 1).bind fun v97 => (rc σ v93 1).bind fun o100 => (X2_chute G n σ o100 v97).bind fun v100 => (gI σ v100 3 5).bind fun v103 => some (1000 + v103)) else some 0
set_option maxHeartbeats 4000000 in
set_option maxRecDepth 100000 in
theorem ct_X1_deeper (l : Launch) (G : jG) (n : Nat) (σ : jH) (this : Nat) (a1 : Option Nat) (a2 : Int32) : jCt l G yX1_deeper (ws_ yX1_deeper cX1_deeper 3 (some .int)) 22 1242 jrI [.ref this, va_rf a1, .int a2] σ (jrd σ (X1_deeper G n σ this a1 a2)) := by
  refine jCt.rd (lv := [(0, .ref this), (1, va_rf a1), (2, .int a2)]) (plainFor_of_name (by decide)) (by simp [lg_sl, va_rf_cat, jcI, jcA, jcJ, jcD, jcF]) (by simp [lv_args, va_rf_cat, jcI, jcA, jcJ, jcD, jcF]) ?_
  intro t p e s m args below meth c ls X hr hnm hl
  have X : jCx p c cX1_deeper 3 s m args RX1 G meth := X
  unfold X1_deeper
  refine J.pu (fun _ _ _ _ k => lv_iload_n X.1.1 X.1.2.1 dX1_deeper_0 rfl (lv_at hl 2 rfl) k) ?_
  refine J.ite (fun c1_2 => ?_) (fun c1_2 => ?_)
  · refine J.pu (fun _ _ _ _ k => lv_tableIn (tgt := 36) (off := 35) X.1.1 X.1.2.1 dX1_deeper_1 (by rw [c1_2]; decide) (by rw [c1_2]; decide) (by rw [c1_2]; decide) (by decide) k) ?_
    refine J.pu (fun _ _ _ _ k => lv_sipush (v := 300) X.1.1 X.1.2.1 dX1_deeper_36 (by decide) k) ?_
    refine J.pu (fun _ _ _ _ k => W.rload_n X.1.1 X.1.2.1 dX1_deeper_39 rfl (lv_at hl 1 rfl) k) ?_
    refine J.getIN (k := 1) (ci := 4) X in_X5 (show jCl[4]? = some (RX5, TX5, 10) from rfl) (by decide) jnf37 (fun _ h => h) dX1_deeper_40 (fun v40 h40 => ?_)
    refine J.pu (fun _ _ _ _ k => lv_iadd X.1.1 X.1.2.1 dX1_deeper_43 k) ?_
    refine J.pu (fun _ _ _ _ k => lv_goto (tgt := 111) X.1.1 X.1.2.1 dX1_deeper_44 (by decide) k) ?_
    exact J.iret (vr := jrI) (fin := fun _ : Int32 => σ) (t := t) X hr (by rfl) (by rfl) dX1_deeper_111
  refine J.ite (fun c1_3 => ?_) (fun c1_3 => ?_)
  · refine J.pu (fun _ _ _ _ k => lv_tableIn (tgt := 47) (off := 46) X.1.1 X.1.2.1 dX1_deeper_1 (by rw [c1_3]; decide) (by rw [c1_3]; decide) (by rw [c1_3]; decide) (by decide) k) ?_
    refine J.pu (fun _ _ _ _ k => lv_sipush (v := 500) X.1.1 X.1.2.1 dX1_deeper_47 (by decide) k) ?_
    refine J.pu (fun _ _ _ _ k => lv_iconst (v := 0) X.1.1 X.1.2.1 dX1_deeper_50 (by decide) k) ?_
    refine J.pu (fun _ _ _ _ k => lv_aload_n X.1.1 X.1.2.1 dX1_deeper_51 rfl (lv_at hl 0 rfl) k) ?_
    refine J.pu (fun _ _ _ _ k => W.rload_n X.1.1 X.1.2.1 dX1_deeper_52 rfl (lv_at hl 1 rfl) k) ?_
    refine J.bind (fun o53 g53 => ?_)
    refine J.bind (fun v53 h53 => ?_)
    refine J.cV (q := (RX1, TX1, 9)) (ci := 0) (As := [va_rf a1]) (rest := [.int 0, .int 500]) (s2 := [.int v53, .int 0, .int 500]) X ⟨rfl, rfl⟩ (ct_X1_stepsToScanner l G n σ o53 a1) (jrd_of h53) (fun _ _ => cwV 1 X.1.2.2.2.2 (lw_V q2507 q2509 qs50 q138 q2510) rfl rfl rfl (by decide +kernel) ⟨(Nat.le_of_ble_eq_true rfl), (Nat.le_of_ble_eq_true rfl)⟩) g53 rfl rfl hl.1 rfl rfl (Nat.le_of_ble_eq_true rfl) dX1_deeper_53 ?_
    refine J.bind (fun v56 h56 => ?_)
    refine J.cS (As := [.int 0, .int v53]) (rest := [.int 500]) (s2 := [.int v56, .int 500]) X ⟨rfl, rfl⟩ (ct_J12_max l G σ n 0 v53) (jrd_of h56) (fun _ _ => va_cwS 2 X.1.2.2.2.2 (lw_S q2543 q329 q152 q330) rfl rfl rfl (by decide +kernel) ⟨(Nat.le_of_ble_eq_true rfl), (Nat.le_of_ble_eq_true rfl)⟩) rfl hl.1 rfl rfl (Nat.le_of_ble_eq_true rfl) dX1_deeper_56 ?_
    refine J.pu (fun _ _ _ _ k => lv_iadd X.1.1 X.1.2.1 dX1_deeper_59 k) ?_
    refine J.pu (fun _ _ _ _ k => lv_goto (tgt := 111) X.1.1 X.1.2.1 dX1_deeper_60 (by decide) k) ?_
    exact J.iret (vr := jrI) (fin := fun _ : Int32 => σ) (t := t) X hr (by rfl) (by rfl) dX1_deeper_111
  refine J.ite (fun c1_5 => ?_) (fun c1_5 => ?_)
  · refine J.pu (fun _ _ _ _ k => lv_tableIn (tgt := 63) (off := 62) X.1.1 X.1.2.1 dX1_deeper_1 (by rw [c1_5]; decide) (by rw [c1_5]; decide) (by rw [c1_5]; decide) (by decide) k) ?_
    refine J.pu (fun _ _ _ _ k => lv_sipush (v := 800) X.1.1 X.1.2.1 dX1_deeper_63 (by decide) k) ?_
    refine J.pu (fun _ _ _ _ k => lv_aload_n X.1.1 X.1.2.1 dX1_deeper_66 rfl (lv_at hl 0 rfl) k) ?_
    refine J.getR (k := 4) (ci := 0) X in_X1 (show jCl[0]? = some (RX1, TX1, 9) from rfl) (by decide) q1329 (fun _ h => h) dX1_deeper_67 (fun v67 h67 => ?_)
    refine J.pu (fun _ _ _ _ k => W.rload_n X.1.1 X.1.2.1 dX1_deeper_70 rfl (lv_at hl 1 rfl) k) ?_
    refine J.getIN (k := 1) (ci := 4) X in_X5 (show jCl[4]? = some (RX5, TX5, 10) from rfl) (by decide) jnf37 (fun _ h => h) dX1_deeper_71 (fun v71 h71 => ?_)
    refine J.bind (fun o74 g74 => ?_)
    refine J.bind (fun v74 h74 => ?_)
    refine J.cV (q := (RX2, TX2, 9)) (ci := 1) (As := [.int v71]) (rest := [.int 800]) (s2 := [va_rf v74, .int 800]) X ⟨rfl, rfl⟩ (ct_X2_chute l G n σ o74 v71) (jrd_of h74) (fun _ _ => cwV 1 X.1.2.2.2.2 (lw_V q2185 q844 q845 q139 q846) rfl rfl rfl (by decide +kernel) ⟨(Nat.le_of_ble_eq_true rfl), (Nat.le_of_ble_eq_true rfl)⟩) g74 rfl rfl hl.1 rfl rfl (Nat.le_of_ble_eq_true rfl) dX1_deeper_74 ?_
    refine J.getRN (k := 4) (ci := 3) X in_X4 (show jCl[3]? = some (RX4, TX4, 9) from rfl) (by decide) jnf24 (fun _ h => h) dX1_deeper_77 (fun v77 h77 => ?_)
    refine J.bind (fun o80 g80 => ?_)
    refine J.bind (fun v80 h80 => ?_)
    refine J.cF (q := (RJ19, TJ19, 4)) (ci := 16) (As := []) (rest := [.int 800]) (s2 := [.int v80, .int 800]) X ⟨rfl, rfl⟩ (ct_J19_size l G σ o80) (jrd_of h80) (fun _ _ => va_cwF 0 X.1.2.2.2.2 (lw_F q1751 q837 q839 q163 q841) rfl rfl rfl (jfw3 X.2.1) (by decide +kernel) ⟨(Nat.le_of_ble_eq_true rfl), (Nat.le_of_ble_eq_true rfl)⟩) g80 rfl rfl hl.1 rfl rfl (Nat.le_of_ble_eq_true rfl) dX1_deeper_80 ?_
    refine J.pu (fun _ _ _ _ k => lv_iadd X.1.1 X.1.2.1 dX1_deeper_85 k) ?_
    refine J.pu (fun _ _ _ _ k => lv_goto (tgt := 111) X.1.1 X.1.2.1 dX1_deeper_86 (by decide) k) ?_
    exact J.iret (vr := jrI) (fin := fun _ : Int32 => σ) (t := t) X hr (by rfl) (by rfl) dX1_deeper_111
  refine J.ite (fun c1_6 => ?_) (fun c1_6 => ?_)
  · refine J.pu (fun _ _ _ _ k => lv_tableIn (tgt := 89) (off := 88) X.1.1 X.1.2.1 dX1_deeper_1 (by rw [c1_6]; decide) (by rw [c1_6]; decide) (by rw [c1_6]; decide) (by decide) k) ?_
    refine J.pu (fun _ _ _ _ k => lv_sipush (v := 1000) X.1.1 X.1.2.1 dX1_deeper_89 (by decide) k) ?_
    refine J.pu (fun _ _ _ _ k => lv_aload_n X.1.1 X.1.2.1 dX1_deeper_92 rfl (lv_at hl 0 rfl) k) ?_
    refine J.getR (k := 4) (ci := 0) X in_X1 (show jCl[0]? = some (RX1, TX1, 9) from rfl) (by decide) q1329 (fun _ h => h) dX1_deeper_93 (fun v93 h93 => ?_)
    refine J.pu (fun _ _ _ _ k => W.rload_n X.1.1 X.1.2.1 dX1_deeper_96 rfl (lv_at hl 1 rfl) k) ?_
    refine J.getIN (k := 1) (ci := 4) X in_X5 (show jCl[4]? = some (RX5, TX5, 10) from rfl) (by decide) jnf37 (fun _ h => h) dX1_deeper_97 (fun v97 h97 => ?_)
    refine J.bind (fun o100 g100 => ?_)
    refine J.bind (fun v100 h100 => ?_)
    refine J.cV (q := (RX2, TX2, 9)) (ci := 1) (As := [.int v97]) (rest := [.int 1000]) (s2 := [va_rf v100, .int 1000]) X ⟨rfl, rfl⟩ (ct_X2_chute l G n σ o100 v97) (jrd_of h100) (fun _ _ => cwV 1 X.1.2.2.2.2 (lw_V q2185 q844 q845 q139 q846) rfl rfl rfl (by decide +kernel) ⟨(Nat.le_of_ble_eq_true rfl), (Nat.le_of_ble_eq_true rfl)⟩) g100 rfl rfl hl.1 rfl rfl (Nat.le_of_ble_eq_true rfl) dX1_deeper_100 ?_
    refine J.getIN (k := 5) (ci := 3) X in_X4 (show jCl[3]? = some (RX4, TX4, 9) from rfl) (by decide) jnf26 (fun _ h => h) dX1_deeper_103 (fun v103 h103 => ?_)
    refine J.pu (fun _ _ _ _ k => lv_iadd X.1.1 X.1.2.1 dX1_deeper_106 k) ?_
    refine J.pu (fun _ _ _ _ k => lv_goto (tgt := 111) X.1.1 X.1.2.1 dX1_deeper_107 (by decide) k) ?_
    exact J.iret (vr := jrI) (fin := fun _ : Int32 => σ) (t := t) X hr (by rfl) (by rfl) dX1_deeper_111
  by_cases b1 : a2.toInt < 2 ∨ 6 < a2.toInt
  · refine J.pu (fun _ _ _ _ k => lv_tableOut (tgt := 110) X.1.1 X.1.2.1 dX1_deeper_1 b1 (by decide) k) ?_
    refine J.pu (fun _ _ _ _ k => lv_iconst (v := 0) X.1.1 X.1.2.1 dX1_deeper_110 (by decide) k) ?_
    exact J.iret (vr := jrI) (fin := fun _ : Int32 => σ) (t := t) X hr (by rfl) (by rfl) dX1_deeper_111
  · by_cases e1_4 : a2 = 4
    · refine J.pu (fun _ _ _ _ k => lv_tableIn (tgt := 110) (off := 109) X.1.1 X.1.2.1 dX1_deeper_1 (by rw [e1_4]; decide) (by rw [e1_4]; decide) (by rw [e1_4]; decide) (by decide) k) ?_
      refine J.pu (fun _ _ _ _ k => lv_iconst (v := 0) X.1.1 X.1.2.1 dX1_deeper_110 (by decide) k) ?_
      exact J.iret (vr := jrI) (fin := fun _ : Int32 => σ) (t := t) X hr (by rfl) (by rfl) dX1_deeper_111
    exfalso; have := lv_neT c1_2 (a := 2) rfl; have := lv_neT c1_3 (a := 3) rfl; have := lv_neT c1_5 (a := 5) rfl; have := lv_neT c1_6 (a := 6) rfl; have := lv_neT e1_4 (a := 4) rfl; omega
noncomputable def X1_ending (G : jG) (n : Nat) (σ : jH) (a0 : Option Nat) : Option (Int32) :=
  (gI σ a0 4 4).bind fun v1 => if v1 = 1 then ((rc σ a0 4).bind fun o9 => (X5_isSorted G n σ o9).bind fun v9 => if v9 = 0 then (some 2) else (some 1)) else ((gI σ a0 4 4).bind fun v22 => if v22 = 0 then (some 0) else ((gI σ a0 4 4).bind fun v33 => some (v33 + 1)))
set_option maxHeartbeats 4000000 in
set_option maxRecDepth 100000 in
theorem ct_X1_ending (l : Launch) (G : jG) (n : Nat) (σ : jH) (a0 : Option Nat) : jCt l G yX1_ending (ws_ yX1_ending cX1_ending 1 (some .int)) 1 20 jrI [va_rf a0] σ (jrd σ (X1_ending G n σ a0)) := by
  refine jCt.rd (lv := [(0, va_rf a0)]) (plainFor_of_name (by decide)) (by simp [lg_sl, va_rf_cat, jcI, jcA, jcJ, jcD, jcF]) (by simp [lv_args, va_rf_cat, jcI, jcA, jcJ, jcD, jcF]) ?_
  intro t p e s m args below meth c ls X hr hnm hl
  have X : jCx p c cX1_ending 1 s m args RX1 G meth := X
  unfold X1_ending
  refine J.pu (fun _ _ _ _ k => W.rload_n X.1.1 X.1.2.1 dX1_ending_0 rfl (lv_at hl 0 rfl) k) ?_
  refine J.getIN (k := 4) (ci := 4) X in_X5 (show jCl[4]? = some (RX5, TX5, 10) from rfl) (by decide) jnf43 (fun _ h => h) dX1_ending_1 (fun v1 h1 => ?_)
  refine J.pu (fun _ _ _ _ k => lv_iconst (v := 1) X.1.1 X.1.2.1 dX1_ending_4 (by decide) k) ?_
  refine J.br (fun _ _ _ _ ka kb => lv_icmp_ne (tgt := 21) X.1.1 X.1.2.1 dX1_ending_5 (by decide) kb ka) (fun c5 => ?_) (fun c5 => ?_)
  · refine J.pu (fun _ _ _ _ k => W.rload_n X.1.1 X.1.2.1 dX1_ending_8 rfl (lv_at hl 0 rfl) k) ?_
    refine J.bind (fun o9 g9 => ?_)
    refine J.bind (fun v9 h9 => ?_)
    refine J.cV (q := (RX5, TX5, 10)) (ci := 4) (As := []) (rest := []) (s2 := [.int v9]) X ⟨rfl, rfl⟩ (ct_X5_isSorted l G n σ o9) (jrd_of h9) (fun _ _ => cwV 0 X.1.2.2.2.2 (lw_V q2534 q2535 q2536 q167 q2537) rfl rfl rfl (by decide +kernel) ⟨(Nat.le_of_ble_eq_true rfl), (Nat.le_of_ble_eq_true rfl)⟩) g9 rfl rfl hl.1 rfl rfl (Nat.le_of_ble_eq_true rfl) dX1_ending_9 ?_
    refine J.br (fun _ _ _ _ ka kb => lv_if_eq (tgt := 19) X.1.1 X.1.2.1 dX1_ending_12 (by decide) ka kb) (fun c12 => ?_) (fun c12 => ?_)
    · refine J.pu (fun _ _ _ _ k => lv_iconst (v := 2) X.1.1 X.1.2.1 dX1_ending_19 (by decide) k) ?_
      exact J.iret (vr := jrI) (fin := fun _ : Int32 => σ) (t := t) X hr (by rfl) (by rfl) dX1_ending_20
    · refine J.pu (fun _ _ _ _ k => lv_iconst (v := 1) X.1.1 X.1.2.1 dX1_ending_15 (by decide) k) ?_
      refine J.pu (fun _ _ _ _ k => lv_goto (tgt := 20) X.1.1 X.1.2.1 dX1_ending_16 (by decide) k) ?_
      exact J.iret (vr := jrI) (fin := fun _ : Int32 => σ) (t := t) X hr (by rfl) (by rfl) dX1_ending_20
  · refine J.pu (fun _ _ _ _ k => W.rload_n X.1.1 X.1.2.1 dX1_ending_21 rfl (lv_at hl 0 rfl) k) ?_
    refine J.getIN (k := 4) (ci := 4) X in_X5 (show jCl[4]? = some (RX5, TX5, 10) from rfl) (by decide) jnf43 (fun _ h => h) dX1_ending_22 (fun v22 h22 => ?_)
    refine J.br (fun _ _ _ _ ka kb => lv_if_ne (tgt := 32) X.1.1 X.1.2.1 dX1_ending_25 (by decide) kb ka) (fun c25 => ?_) (fun c25 => ?_)
    · refine J.pu (fun _ _ _ _ k => lv_iconst (v := 0) X.1.1 X.1.2.1 dX1_ending_28 (by decide) k) ?_
      refine J.pu (fun _ _ _ _ k => lv_goto (tgt := 38) X.1.1 X.1.2.1 dX1_ending_29 (by decide) k) ?_
      exact J.iret (vr := jrI) (fin := fun _ : Int32 => σ) (t := t) X hr (by rfl) (by rfl) dX1_ending_38
    · refine J.pu (fun _ _ _ _ k => W.rload_n X.1.1 X.1.2.1 dX1_ending_32 rfl (lv_at hl 0 rfl) k) ?_
      refine J.getIN (k := 4) (ci := 4) X in_X5 (show jCl[4]? = some (RX5, TX5, 10) from rfl) (by decide) jnf43 (fun _ h => h) dX1_ending_33 (fun v33 h33 => ?_)
      refine J.pu (fun _ _ _ _ k => lv_iconst (v := 1) X.1.1 X.1.2.1 dX1_ending_36 (by decide) k) ?_
      refine J.pu (fun _ _ _ _ k => lv_iadd X.1.1 X.1.2.1 dX1_ending_37 k) ?_
      exact J.iret (vr := jrI) (fin := fun _ : Int32 => σ) (t := t) X hr (by rfl) (by rfl) dX1_ending_38
noncomputable def X1_undo_j15 (G : jG) (n : Nat) (this : Nat) (s0_15 : Int32) (B15 : jH) : Option (jTh Int32 × jH) :=
  tb (X1_checkElement G n B15 s0_15) fun v15 S15 => (gR S15 (some this) 0 7).bind fun v20 => (rc S15 v20 18).bind fun o23 => bd (jck S15 (dqLast G S15 o23)) fun v23 S23 => (jck' S23 v23 [1]).bind fun _ => (pR G S23 (some this) 0 4 v23).bind fun S29 => (gR S29 (some this) 0 7).bind fun v33 => (rc S29 v33 18).bind fun o36 => (dqSize S29 o36).bind fun v36 => some (.inl v36, S29)
noncomputable def X1_undo_b (G : jG) (n : Nat) (σ : jH) (this : Nat) : Option (jTh Int32 × jH) :=
  (gR σ (some this) 0 7).bind fun v1 => (rc σ v1 18).bind fun o4 => (dqEmpty σ o4).bind fun v4 => if v4 = 0 then (X1_undo_j15 G n this 1 σ) else (X1_undo_j15 G n this 0 σ)
noncomputable def X1_undo (G : jG) (n : Nat) (σ : jH) (this : Nat) : Option (jTh Int32 × jH) := jck σ (X1_undo_b G n σ this)
set_option maxHeartbeats 4000000 in
set_option maxRecDepth 100000 in
theorem ct_X1_undo (l : Launch) (hfl : l.stackTraces = false) (G : jG) (n : Nat) (σ : jH) (this : Nat) : jTt l G yX1_undo (ws_ yX1_undo cX1_undo 1 (some .int)) 21 1221 jrI [.ref this] σ (X1_undo G n σ this) := by
  refine jTt.wr (lv := [(0, .ref this)]) rfl (Nat.le_of_ble_eq_true rfl) rfl ?_
  intro t p e s m args below meth c ls X hr hnm hout hl
  have X : jCx p c cX1_undo 1 s m args RX1 G meth := X
  have j15 : ∀ (s0_15 : Int32) (B15 : jH) (ls : Array Slot), lv_has ls 1 [(0, .ref this)] → jGoT l G 21 1221 σ jrI t p e s m args below meth c (X1_undo_j15 G n this s0_15 B15) B15 (F0 m 15 ls [.int s0_15]) := by
    intro s0_15 B15 ls hl
    unfold X1_undo_j15
    refine J.tS (As := [.int s0_15]) (rest := []) X hout ⟨rfl, rfl⟩ (ct_X1_checkElement l hfl G n B15 s0_15) (fun _ _ => va_cwS 1 X.1.2.2.2.2 (lw_S q2689 q2690 q138 q2691) rfl rfl rfl (by decide +kernel) ⟨(Nat.le_of_ble_eq_true rfl), (Nat.le_of_ble_eq_true rfl)⟩) rfl hl.1 rfl (Nat.le_of_ble_eq_true rfl) dX1_undo_15 (fun v15 S15 h15 => ?_)
    refine J.geq (g2 := F0 m 18 ls []) rfl ?_
    refine J.pu (fun _ _ _ _ k => lv_aload_n X.1.1 X.1.2.1 dX1_undo_18 rfl (lv_at hl 0 rfl) k) ?_
    refine J.pu (fun _ _ _ _ k => lv_aload_n X.1.1 X.1.2.1 dX1_undo_19 rfl (lv_at hl 0 rfl) k) ?_
    refine J.getR (k := 7) (ci := 0) X in_X1 (show jCl[0]? = some (RX1, TX1, 9) from rfl) (by decide) q1332 (fun _ h => h) dX1_undo_20 (fun v20 h20 => ?_)
    refine J.bind (fun o23 g23 => ?_)
    refine J.bd' (fun v23 S23 h23 => ?_)
    refine J.cV (q := (RJ20, TJ20, 3)) (ci := 18) (As := []) (rest := [.ref this]) (s2 := [va_rf v23, .ref this]) X ⟨rfl, rfl⟩ (ct_J20_removeLast l G S15 o23) h23 (fun _ _ => cwV 0 X.1.2.2.2.2 (lw_V q2694 q2695 q2696 q164 q2697) rfl rfl rfl (by decide +kernel) ⟨(Nat.le_of_ble_eq_true rfl), (Nat.le_of_ble_eq_true rfl)⟩) g23 rfl rfl hl.1 rfl rfl (Nat.le_of_ble_eq_true rfl) dX1_undo_23 ?_
    refine J.cast (nm := "SortingLoop$Loop") X q202 (List.forall_mem_cons.mpr ⟨⟨_, rfl, Or.inl rfl⟩, jnil_all⟩) dX1_undo_26 ?_
    refine J.putR (k := 4) (ci := 0) X in_X1 (show jCl[0]? = some (RX1, TX1, 9) from rfl) tyX1_ok (fun a ha b hb h => Or.inl (nmX1 a ha b hb h)) (by decide) q1329 (fun _ h => h) rfl (Or.inl ⟨_, rfl⟩) dX1_undo_29 (fun S29 h29 => ?_)
    refine J.pu (fun _ _ _ _ k => lv_aload_n X.1.1 X.1.2.1 dX1_undo_32 rfl (lv_at hl 0 rfl) k) ?_
    refine J.getR (k := 7) (ci := 0) X in_X1 (show jCl[0]? = some (RX1, TX1, 9) from rfl) (by decide) q1332 (fun _ h => h) dX1_undo_33 (fun v33 h33 => ?_)
    refine J.bind (fun o36 g36 => ?_)
    refine J.bind (fun v36 h36 => ?_)
    refine J.cV (q := (RJ20, TJ20, 3)) (ci := 18) (As := []) (rest := []) (s2 := [.int v36]) X ⟨rfl, rfl⟩ (ct_J20_size l G S29 o36) (jrd_of h36) (fun _ _ => cwV 0 X.1.2.2.2.2 (lw_V q1906 q1738 q3342 q164 q1739) rfl rfl rfl (by decide +kernel) ⟨(Nat.le_of_ble_eq_true rfl), (Nat.le_of_ble_eq_true rfl)⟩) g36 rfl rfl hl.1 rfl rfl (Nat.le_of_ble_eq_true rfl) dX1_undo_36 ?_
    exact J.tret (J.iret (vr := fun t : Int32 × jH => jrI t.1) (fin := (Prod.snd : Int32 × jH → jH)) (t := (v36, S29)) X hr (by rfl) (by rfl) dX1_undo_39)
  unfold X1_undo_b
  refine J.pu (fun _ _ _ _ k => lv_aload_n X.1.1 X.1.2.1 dX1_undo_0 rfl (lv_at hl 0 rfl) k) ?_
  refine J.getR (k := 7) (ci := 0) X in_X1 (show jCl[0]? = some (RX1, TX1, 9) from rfl) (by decide) q1332 (fun _ h => h) dX1_undo_1 (fun v1 h1 => ?_)
  refine J.bind (fun o4 g4 => ?_)
  refine J.bind (fun v4 h4 => ?_)
  refine J.cV (q := (RJ20, TJ20, 3)) (ci := 18) (As := []) (rest := []) (s2 := [.int v4]) X ⟨rfl, rfl⟩ (ct_J20_isEmpty l G σ o4) (jrd_of h4) (fun _ _ => cwV 0 X.1.2.2.2.2 (lw_V q2685 q2686 q2687 q164 q2688) rfl rfl rfl (by decide +kernel) ⟨(Nat.le_of_ble_eq_true rfl), (Nat.le_of_ble_eq_true rfl)⟩) g4 rfl rfl hl.1 rfl rfl (Nat.le_of_ble_eq_true rfl) dX1_undo_4 ?_
  refine J.br (fun _ _ _ _ ka kb => lv_if_ne (tgt := 14) X.1.1 X.1.2.1 dX1_undo_7 (by decide) kb ka) (fun c7 => ?_) (fun c7 => ?_)
  · refine J.pu (fun _ _ _ _ k => lv_iconst (v := 1) X.1.1 X.1.2.1 dX1_undo_10 (by decide) k) ?_
    refine J.pu (fun _ _ _ _ k => lv_goto (tgt := 15) X.1.1 X.1.2.1 dX1_undo_11 (by decide) k) ?_
    exact j15 1 σ ls (lv_sub hl [0] rfl)
  · refine J.pu (fun _ _ _ _ k => lv_iconst (v := 0) X.1.1 X.1.2.1 dX1_undo_14 (by decide) k) ?_
    exact j15 0 σ ls (lv_sub hl [0] rfl)
noncomputable def X15_does_b (G : jG) (n : Nat) (σ : jH) (this : Nat) (a1 : Option Nat) : Option (Int32 × jH) :=
  (rc σ (some this) 12).bind fun o3 => (X11_first_X15 G n σ o3).bind fun v3 => (rc σ a1 1).bind fun o6 => (X2_chute G n σ o6 v3).bind fun v6 => (rc σ a1 1).bind fun o9 => bd (X2_empties G n σ o9 v6) fun v9 S9 => if v9 < 0 then (some (0, S9)) else (some (1, S9))
noncomputable def X15_does (G : jG) (n : Nat) (σ : jH) (this : Nat) (a1 : Option Nat) : Option (Int32 × jH) := jck σ (X15_does_b G n σ this a1)
set_option maxHeartbeats 4000000 in
set_option maxRecDepth 100000 in
theorem ct_X15_does (l : Launch) (G : jG) (n : Nat) (σ : jH) (this : Nat) (a1 : Option Nat) : jCt l G yX15_does (ws_ yX15_does cX15_does 2 (some .boolean)) 22 1246 jrI [.ref this, va_rf a1] σ (X15_does G n σ this a1) := by
  refine jCt.wr (lv := [(0, .ref this), (1, va_rf a1)]) (plainFor_of_name (by decide)) (by simp [lg_sl, va_rf_cat, jcI, jcA, jcJ, jcD, jcF]) (by simp [lv_args, va_rf_cat, jcI, jcA, jcJ, jcD, jcF]) ?_
  intro t p e s m args below meth c ls X hr hnm hl
  have X : jCx p c cX15_does 2 s m args RX15 G meth := X
  unfold X15_does_b
  refine J.pu (fun _ _ _ _ k => W.rload_n X.1.1 X.1.2.1 dX15_does_0 rfl (lv_at hl 1 rfl) k) ?_
  refine J.pu (fun _ _ _ _ k => W.rload_n X.1.1 X.1.2.1 dX15_does_1 rfl (lv_at hl 1 rfl) k) ?_
  refine J.pu (fun _ _ _ _ k => lv_aload_n X.1.1 X.1.2.1 dX15_does_2 rfl (lv_at hl 0 rfl) k) ?_
  refine J.bind (fun o3 g3 => ?_)
  refine J.bind (fun v3 h3 => ?_)
  refine J.cU (q := (RX15, TX15, 2)) (ci := 12) (As := []) (rest := [va_rf a1, va_rf a1]) (s2 := [.int v3, va_rf a1, va_rf a1]) X ⟨rfl, rfl⟩ (ct_X11_first_X15 l G n σ o3) (jrd_of h3) (fun _ _ => va_cwU 0 X.1.2.2.2.2 (lw_U q1964 q1965 q1967 q1968 q183 q1969) rfl rfl rfl rfl (by decide +kernel) ⟨(Nat.le_of_ble_eq_true rfl), (Nat.le_of_ble_eq_true rfl)⟩) g3 rfl rfl hl.1 rfl rfl (by simp [va_rf_cat, jcI, jcA, jcJ, jcD, jcF]) dX15_does_3 ?_
  refine J.bind (fun o6 g6 => ?_)
  refine J.bind (fun v6 h6 => ?_)
  refine J.cV (q := (RX2, TX2, 9)) (ci := 1) (As := [.int v3]) (rest := [va_rf a1]) (s2 := [va_rf v6, va_rf a1]) X ⟨rfl, rfl⟩ (ct_X2_chute l G n σ o6 v3) (jrd_of h6) (fun _ _ => cwV 1 X.1.2.2.2.2 (lw_V q1970 q844 q845 q139 q846) rfl rfl rfl (by decide +kernel) ⟨(Nat.le_of_ble_eq_true rfl), (Nat.le_of_ble_eq_true rfl)⟩) g6 rfl rfl hl.1 rfl rfl (by simp [va_rf_cat, jcI, jcA, jcJ, jcD, jcF]) dX15_does_6 ?_
  refine J.bind (fun o9 g9 => ?_)
  refine J.bd' (fun v9 S9 h9 => ?_)
  refine J.cV (q := (RX2, TX2, 9)) (ci := 1) (As := [va_rf v6]) (rest := []) (s2 := [.int v9]) X ⟨rfl, rfl⟩ (ct_X2_empties l G n σ o9 v6) h9 (fun _ _ => cwV 1 X.1.2.2.2.2 (lw_V q1971 q1972 q1973 q139 q1974) rfl rfl rfl (by decide +kernel) ⟨(Nat.le_of_ble_eq_true rfl), (Nat.le_of_ble_eq_true rfl)⟩) g9 rfl rfl hl.1 rfl rfl (Nat.le_of_ble_eq_true rfl) dX15_does_9 ?_
  refine J.br (fun _ _ _ _ ka kb => lv_if_lt (tgt := 19) X.1.1 X.1.2.1 dX15_does_12 (by decide) ka kb) (fun c12 => ?_) (fun c12 => ?_)
  · refine J.pu (fun _ _ _ _ k => lv_iconst (v := 0) X.1.1 X.1.2.1 dX15_does_19 (by decide) k) ?_
    exact J.zret (vr := fun t : Int32 × jH => jrI t.1) (fin := Prod.snd) (t := t) X hr (by decide) (by rfl) (by rfl) dX15_does_20
  · refine J.pu (fun _ _ _ _ k => lv_iconst (v := 1) X.1.1 X.1.2.1 dX15_does_15 (by decide) k) ?_
    refine J.pu (fun _ _ _ _ k => lv_goto (tgt := 20) X.1.1 X.1.2.1 dX15_does_16 (by decide) k) ?_
    exact J.zret (vr := fun t : Int32 × jH => jrI t.1) (fin := Prod.snd) (t := t) X hr (by decide) (by rfl) (by rfl) dX15_does_20
noncomputable def X16_does_j22 (G : jG) (n : Nat) (this : Nat) (a1 : Option Nat) (s0_22 : Option Nat) (s1_22 : Option Nat) (s2_22 : Int32) (B22 : jH) : Option (Int32 × jH) :=
  (rc B22 s0_22 1).bind fun o22 => bd (X2_opens G n B22 o22 s1_22 s2_22) fun v22 S22 => if v22 < 0 then (some (0, S22)) else (some (1, S22))
noncomputable def X16_does_b (G : jG) (n : Nat) (σ : jH) (this : Nat) (a1 : Option Nat) : Option (Int32 × jH) :=
  (rc σ (some this) 13).bind fun o3 => (X11_first_X16 G n σ o3).bind fun v3 => (rc σ a1 1).bind fun o6 => (X2_chute G n σ o6 v3).bind fun v6 => (rc σ (some this) 13).bind fun o10 => (X11_second_X16 G n σ o10).bind fun v10 => if v10 = 1 then (X16_does_j22 G n this a1 a1 v6 1 σ) else (X16_does_j22 G n this a1 a1 v6 0 σ)
noncomputable def X16_does (G : jG) (n : Nat) (σ : jH) (this : Nat) (a1 : Option Nat) : Option (Int32 × jH) := jck σ (X16_does_b G n σ this a1)
set_option maxHeartbeats 4000000 in
set_option maxRecDepth 100000 in
theorem ct_X16_does (l : Launch) (G : jG) (n : Nat) (σ : jH) (this : Nat) (a1 : Option Nat) : jCt l G yX16_does (ws_ yX16_does cX16_does 2 (some .boolean)) 22 1242 jrI [.ref this, va_rf a1] σ (X16_does G n σ this a1) := by
  refine jCt.wr (lv := [(0, .ref this), (1, va_rf a1)]) (plainFor_of_name (by decide)) (by simp [lg_sl, va_rf_cat, jcI, jcA, jcJ, jcD, jcF]) (by simp [lv_args, va_rf_cat, jcI, jcA, jcJ, jcD, jcF]) ?_
  intro t p e s m args below meth c ls X hr hnm hl
  have X : jCx p c cX16_does 2 s m args RX16 G meth := X
  have j22 : ∀ (s0_22 : Option Nat) (s1_22 : Option Nat) (s2_22 : Int32) (B22 : jH) (ls : Array Slot), lv_has ls 2 [] → jGo l G 22 1242 σ (Prod.snd : Int32 × jH → jH) (fun t => jrI t.1) t p e s m args below meth c (X16_does_j22 G n this a1 s0_22 s1_22 s2_22 B22) B22 (F0 m 22 ls [.int s2_22, va_rf s1_22, va_rf s0_22]) := by
    intro s0_22 s1_22 s2_22 B22 ls hl
    unfold X16_does_j22
    refine J.bind (fun o22 g22 => ?_)
    refine J.bd' (fun v22 S22 h22 => ?_)
    refine J.cV (q := (RX2, TX2, 9)) (ci := 1) (As := [va_rf s1_22, .int s2_22]) (rest := []) (s2 := [.int v22]) X ⟨rfl, rfl⟩ (ct_X2_opens l G n B22 o22 s1_22 s2_22) h22 (fun _ _ => cwV 2 X.1.2.2.2.2 (lw_V q1988 q1989 q1990 q139 q1991) rfl rfl rfl (by decide +kernel) ⟨(Nat.le_of_ble_eq_true rfl), (Nat.le_of_ble_eq_true rfl)⟩) g22 rfl rfl hl.1 rfl rfl (Nat.le_of_ble_eq_true rfl) dX16_does_22 ?_
    refine J.br (fun _ _ _ _ ka kb => lv_if_lt (tgt := 32) X.1.1 X.1.2.1 dX16_does_25 (by decide) ka kb) (fun c25 => ?_) (fun c25 => ?_)
    · refine J.pu (fun _ _ _ _ k => lv_iconst (v := 0) X.1.1 X.1.2.1 dX16_does_32 (by decide) k) ?_
      exact J.zret (vr := fun t : Int32 × jH => jrI t.1) (fin := Prod.snd) (t := t) X hr (by decide) (by rfl) (by rfl) dX16_does_33
    · refine J.pu (fun _ _ _ _ k => lv_iconst (v := 1) X.1.1 X.1.2.1 dX16_does_28 (by decide) k) ?_
      refine J.pu (fun _ _ _ _ k => lv_goto (tgt := 33) X.1.1 X.1.2.1 dX16_does_29 (by decide) k) ?_
      exact J.zret (vr := fun t : Int32 × jH => jrI t.1) (fin := Prod.snd) (t := t) X hr (by decide) (by rfl) (by rfl) dX16_does_33
  unfold X16_does_b
  refine J.pu (fun _ _ _ _ k => W.rload_n X.1.1 X.1.2.1 dX16_does_0 rfl (lv_at hl 1 rfl) k) ?_
  refine J.pu (fun _ _ _ _ k => W.rload_n X.1.1 X.1.2.1 dX16_does_1 rfl (lv_at hl 1 rfl) k) ?_
  refine J.pu (fun _ _ _ _ k => lv_aload_n X.1.1 X.1.2.1 dX16_does_2 rfl (lv_at hl 0 rfl) k) ?_
  refine J.bind (fun o3 g3 => ?_)
  refine J.bind (fun v3 h3 => ?_)
  refine J.cU (q := (RX16, TX16, 2)) (ci := 13) (As := []) (rest := [va_rf a1, va_rf a1]) (s2 := [.int v3, va_rf a1, va_rf a1]) X ⟨rfl, rfl⟩ (ct_X11_first_X16 l G n σ o3) (jrd_of h3) (fun _ _ => va_cwU 0 X.1.2.2.2.2 (lw_U q1978 q1979 q1980 q1968 q183 q1969) rfl rfl rfl rfl (by decide +kernel) ⟨(Nat.le_of_ble_eq_true rfl), (Nat.le_of_ble_eq_true rfl)⟩) g3 rfl rfl hl.1 rfl rfl (by simp [va_rf_cat, jcI, jcA, jcJ, jcD, jcF]) dX16_does_3 ?_
  refine J.bind (fun o6 g6 => ?_)
  refine J.bind (fun v6 h6 => ?_)
  refine J.cV (q := (RX2, TX2, 9)) (ci := 1) (As := [.int v3]) (rest := [va_rf a1]) (s2 := [va_rf v6, va_rf a1]) X ⟨rfl, rfl⟩ (ct_X2_chute l G n σ o6 v3) (jrd_of h6) (fun _ _ => cwV 1 X.1.2.2.2.2 (lw_V q1981 q844 q845 q139 q846) rfl rfl rfl (by decide +kernel) ⟨(Nat.le_of_ble_eq_true rfl), (Nat.le_of_ble_eq_true rfl)⟩) g6 rfl rfl hl.1 rfl rfl (by simp [va_rf_cat, jcI, jcA, jcJ, jcD, jcF]) dX16_does_6 ?_
  refine J.pu (fun _ _ _ _ k => lv_aload_n X.1.1 X.1.2.1 dX16_does_9 rfl (lv_at hl 0 rfl) k) ?_
  refine J.bind (fun o10 g10 => ?_)
  refine J.bind (fun v10 h10 => ?_)
  refine J.cU (q := (RX16, TX16, 2)) (ci := 13) (As := []) (rest := [va_rf v6, va_rf a1]) (s2 := [.int v10, va_rf v6, va_rf a1]) X ⟨rfl, rfl⟩ (ct_X11_second_X16 l G n σ o10) (jrd_of h10) (fun _ _ => va_cwU 0 X.1.2.2.2.2 (lw_U q1982 q1983 q1985 q1986 q183 q1987) rfl rfl rfl rfl (by decide +kernel) ⟨(Nat.le_of_ble_eq_true rfl), (Nat.le_of_ble_eq_true rfl)⟩) g10 rfl rfl hl.1 rfl rfl (by simp [va_rf_cat, jcI, jcA, jcJ, jcD, jcF]) dX16_does_10 ?_
  refine J.pu (fun _ _ _ _ k => lv_iconst (v := 1) X.1.1 X.1.2.1 dX16_does_13 (by decide) k) ?_
  refine J.br (fun _ _ _ _ ka kb => lv_icmp_ne (tgt := 21) X.1.1 X.1.2.1 dX16_does_14 (by decide) kb ka) (fun c14 => ?_) (fun c14 => ?_)
  · refine J.pu (fun _ _ _ _ k => lv_iconst (v := 1) X.1.1 X.1.2.1 dX16_does_17 (by decide) k) ?_
    refine J.pu (fun _ _ _ _ k => lv_goto (tgt := 22) X.1.1 X.1.2.1 dX16_does_18 (by decide) k) ?_
    exact j22 a1 v6 1 σ ls (lv_sub hl [] rfl)
  · refine J.pu (fun _ _ _ _ k => lv_iconst (v := 0) X.1.1 X.1.2.1 dX16_does_21 (by decide) k) ?_
    exact j22 a1 v6 0 σ ls (lv_sub hl [] rfl)
noncomputable def X17_does_b (G : jG) (n : Nat) (σ : jH) (this : Nat) (a1 : Option Nat) : Option (Int32 × jH) :=
  (rc σ (some this) 14).bind fun o2 => (X11_first_X17 G n σ o2).bind fun v2 => (rc σ (some this) 14).bind fun o6 => (X11_second_X17 G n σ o6).bind fun v6 => (rc σ a1 1).bind fun o9 => bd (X2_sets G n σ o9 v2 v6) fun v9 S9 => if v9 < 0 then (some (0, S9)) else (some (1, S9))
noncomputable def X17_does (G : jG) (n : Nat) (σ : jH) (this : Nat) (a1 : Option Nat) : Option (Int32 × jH) := jck σ (X17_does_b G n σ this a1)
set_option maxHeartbeats 4000000 in
set_option maxRecDepth 100000 in
theorem ct_X17_does (l : Launch) (G : jG) (n : Nat) (σ : jH) (this : Nat) (a1 : Option Nat) : jCt l G yX17_does (ws_ yX17_does cX17_does 2 (some .boolean)) 23 1265 jrI [.ref this, va_rf a1] σ (X17_does G n σ this a1) := by
  refine jCt.wr (lv := [(0, .ref this), (1, va_rf a1)]) (plainFor_of_name (by decide)) (by simp [lg_sl, va_rf_cat, jcI, jcA, jcJ, jcD, jcF]) (by simp [lv_args, va_rf_cat, jcI, jcA, jcJ, jcD, jcF]) ?_
  intro t p e s m args below meth c ls X hr hnm hl
  have X : jCx p c cX17_does 2 s m args RX17 G meth := X
  unfold X17_does_b
  refine J.pu (fun _ _ _ _ k => W.rload_n X.1.1 X.1.2.1 dX17_does_0 rfl (lv_at hl 1 rfl) k) ?_
  refine J.pu (fun _ _ _ _ k => lv_aload_n X.1.1 X.1.2.1 dX17_does_1 rfl (lv_at hl 0 rfl) k) ?_
  refine J.bind (fun o2 g2 => ?_)
  refine J.bind (fun v2 h2 => ?_)
  refine J.cU (q := (RX17, TX17, 2)) (ci := 14) (As := []) (rest := [va_rf a1]) (s2 := [.int v2, va_rf a1]) X ⟨rfl, rfl⟩ (ct_X11_first_X17 l G n σ o2) (jrd_of h2) (fun _ _ => va_cwU 0 X.1.2.2.2.2 (lw_U q2019 q2020 q2021 q1968 q183 q1969) rfl rfl rfl rfl (by decide +kernel) ⟨(Nat.le_of_ble_eq_true rfl), (Nat.le_of_ble_eq_true rfl)⟩) g2 rfl rfl hl.1 rfl rfl (by simp [va_rf_cat, jcI, jcA, jcJ, jcD, jcF]) dX17_does_2 ?_
  refine J.pu (fun _ _ _ _ k => lv_aload_n X.1.1 X.1.2.1 dX17_does_5 rfl (lv_at hl 0 rfl) k) ?_
  refine J.bind (fun o6 g6 => ?_)
  refine J.bind (fun v6 h6 => ?_)
  refine J.cU (q := (RX17, TX17, 2)) (ci := 14) (As := []) (rest := [.int v2, va_rf a1]) (s2 := [.int v6, .int v2, va_rf a1]) X ⟨rfl, rfl⟩ (ct_X11_second_X17 l G n σ o6) (jrd_of h6) (fun _ _ => va_cwU 0 X.1.2.2.2.2 (lw_U q2022 q2023 q2024 q1986 q183 q1987) rfl rfl rfl rfl (by decide +kernel) ⟨(Nat.le_of_ble_eq_true rfl), (Nat.le_of_ble_eq_true rfl)⟩) g6 rfl rfl hl.1 rfl rfl (by simp [va_rf_cat, jcI, jcA, jcJ, jcD, jcF]) dX17_does_6 ?_
  refine J.bind (fun o9 g9 => ?_)
  refine J.bd' (fun v9 S9 h9 => ?_)
  refine J.cV (q := (RX2, TX2, 9)) (ci := 1) (As := [.int v2, .int v6]) (rest := []) (s2 := [.int v9]) X ⟨rfl, rfl⟩ (ct_X2_sets l G n σ o9 v2 v6) h9 (fun _ _ => cwV 2 X.1.2.2.2.2 (lw_V q2025 q2026 q2027 q139 q2028) rfl rfl rfl (by decide +kernel) ⟨(Nat.le_of_ble_eq_true rfl), (Nat.le_of_ble_eq_true rfl)⟩) g9 rfl rfl hl.1 rfl rfl (Nat.le_of_ble_eq_true rfl) dX17_does_9 ?_
  refine J.br (fun _ _ _ _ ka kb => lv_if_lt (tgt := 19) X.1.1 X.1.2.1 dX17_does_12 (by decide) ka kb) (fun c12 => ?_) (fun c12 => ?_)
  · refine J.pu (fun _ _ _ _ k => lv_iconst (v := 0) X.1.1 X.1.2.1 dX17_does_19 (by decide) k) ?_
    exact J.zret (vr := fun t : Int32 × jH => jrI t.1) (fin := Prod.snd) (t := t) X hr (by decide) (by rfl) (by rfl) dX17_does_20
  · refine J.pu (fun _ _ _ _ k => lv_iconst (v := 1) X.1.1 X.1.2.1 dX17_does_15 (by decide) k) ?_
    refine J.pu (fun _ _ _ _ k => lv_goto (tgt := 20) X.1.1 X.1.2.1 dX17_does_16 (by decide) k) ?_
    exact J.zret (vr := fun t : Int32 × jH => jrI t.1) (fin := Prod.snd) (t := t) X hr (by decide) (by rfl) (by rfl) dX17_does_20
noncomputable def X18_isAhead_X5 (G : jG) (n : Nat) (σ : jH) (this : Nat) (a1 : Option Nat) : Option (Int32) :=
  (rc σ (some this) 4).bind fun o1 => (X5_number G n σ o1).bind fun v1 => (rc σ a1 4).bind fun o7 => (X5_number G n σ o7).bind fun v7 => if v7 ≤ v1 then (some 0) else (some 1)
set_option maxHeartbeats 4000000 in
set_option maxRecDepth 100000 in
theorem ct_X18_isAhead_X5 (l : Launch) (G : jG) (n : Nat) (σ : jH) (this : Nat) (a1 : Option Nat) : jCt l G yX18_isAhead (ws_ yX18_isAhead cX18_isAhead 2 (some .boolean)) 1 20 jrI [.ref this, va_rf a1] σ (jrd σ (X18_isAhead_X5 G n σ this a1)) := by
  refine jCt.rd (lv := [(0, .ref this), (1, va_rf a1)]) (plainFor_of_name (by decide)) (by simp [lg_sl, va_rf_cat, jcI, jcA, jcJ, jcD, jcF]) (by simp [lv_args, va_rf_cat, jcI, jcA, jcJ, jcD, jcF]) ?_
  intro t p e s m args below meth c ls X hr hnm hl
  have X : jCx p c cX18_isAhead 2 s m args RX18 G meth := X
  unfold X18_isAhead_X5
  refine J.pu (fun _ _ _ _ k => lv_aload_n X.1.1 X.1.2.1 dX18_isAhead_0 rfl (lv_at hl 0 rfl) k) ?_
  refine J.bind (fun o1 g1 => ?_)
  refine J.bind (fun v1 h1 => ?_)
  refine J.cF (q := (RX5, TX5, 10)) (ci := 4) (As := []) (rest := []) (s2 := [.int v1]) X ⟨rfl, rfl⟩ (ct_X5_number l G n σ o1) (jrd_of h1) (fun _ _ => va_cwF 0 X.1.2.2.2.2 (lw_F q2250 q2260 q2262 q167 q2264) rfl rfl rfl (jfw30 X.2.1) (by decide +kernel) ⟨(Nat.le_of_ble_eq_true rfl), (Nat.le_of_ble_eq_true rfl)⟩) g1 rfl rfl hl.1 rfl rfl (Nat.le_of_ble_eq_true rfl) dX18_isAhead_1 ?_
  refine J.pu (fun _ _ _ _ k => W.rload_n X.1.1 X.1.2.1 dX18_isAhead_6 rfl (lv_at hl 1 rfl) k) ?_
  refine J.bind (fun o7 g7 => ?_)
  refine J.bind (fun v7 h7 => ?_)
  refine J.cF (q := (RX5, TX5, 10)) (ci := 4) (As := []) (rest := [.int v1]) (s2 := [.int v7, .int v1]) X ⟨rfl, rfl⟩ (ct_X5_number l G n σ o7) (jrd_of h7) (fun _ _ => va_cwF 0 X.1.2.2.2.2 (lw_F q2250 q2260 q2262 q167 q2264) rfl rfl rfl (jfw30 X.2.1) (by decide +kernel) ⟨(Nat.le_of_ble_eq_true rfl), (Nat.le_of_ble_eq_true rfl)⟩) g7 rfl rfl hl.1 rfl rfl (Nat.le_of_ble_eq_true rfl) dX18_isAhead_7 ?_
  refine J.br (fun _ _ _ _ ka kb => lv_icmp_ge (tgt := 19) X.1.1 X.1.2.1 dX18_isAhead_12 (by decide) ka kb) (fun c12 => ?_) (fun c12 => ?_)
  · refine J.pu (fun _ _ _ _ k => lv_iconst (v := 0) X.1.1 X.1.2.1 dX18_isAhead_19 (by decide) k) ?_
    exact J.zret (vr := jrI) (fin := fun _ : Int32 => σ) (t := t) X hr (by decide) (by rfl) (by rfl) dX18_isAhead_20
  · refine J.pu (fun _ _ _ _ k => lv_iconst (v := 1) X.1.1 X.1.2.1 dX18_isAhead_15 (by decide) k) ?_
    refine J.pu (fun _ _ _ _ k => lv_goto (tgt := 20) X.1.1 X.1.2.1 dX18_isAhead_16 (by decide) k) ?_
    exact J.zret (vr := jrI) (fin := fun _ : Int32 => σ) (t := t) X hr (by decide) (by rfl) (by rfl) dX18_isAhead_20
noncomputable def X18_of (G : jG) (n : Nat) (σ : jH) (a0 : Option Nat) : Option (Int32) :=
  if a0 = none then (some (-1)) else ((rc σ a0 4).bind fun o9 => (X5_number G n σ o9).bind fun v9 => some v9)
set_option maxHeartbeats 4000000 in
set_option maxRecDepth 100000 in
theorem ct_X18_of (l : Launch) (G : jG) (n : Nat) (σ : jH) (a0 : Option Nat) : jCt l G yX18_of (ws_ yX18_of cX18_of 1 (some .int)) 1 20 jrI [va_rf a0] σ (jrd σ (X18_of G n σ a0)) := by
  refine jCt.rd (lv := [(0, va_rf a0)]) (plainFor_of_name (by decide)) (by simp [lg_sl, va_rf_cat, jcI, jcA, jcJ, jcD, jcF]) (by simp [lv_args, va_rf_cat, jcI, jcA, jcJ, jcD, jcF]) ?_
  intro t p e s m args below meth c ls X hr hnm hl
  have X : jCx p c cX18_of 1 s m args RX18 G meth := X
  unfold X18_of
  refine J.pu (fun _ _ _ _ k => W.rload_n X.1.1 X.1.2.1 dX18_of_0 rfl (lv_at hl 0 rfl) k) ?_
  refine J.br (fun _ _ _ _ ka kb => W.rnonnull (tgt := 8) X.1.1 X.1.2.1 dX18_of_1 (by decide) kb ka) (fun c1 => ?_) (fun c1 => ?_)
  · refine J.pu (fun _ _ _ _ k => lv_iconst (v := (-1)) X.1.1 X.1.2.1 dX18_of_4 (by decide) k) ?_
    refine J.pu (fun _ _ _ _ k => lv_goto (tgt := 14) X.1.1 X.1.2.1 dX18_of_5 (by decide) k) ?_
    exact J.iret (vr := jrI) (fin := fun _ : Int32 => σ) (t := t) X hr (by rfl) (by rfl) dX18_of_14
  · refine J.pu (fun _ _ _ _ k => W.rload_n X.1.1 X.1.2.1 dX18_of_8 rfl (lv_at hl 0 rfl) k) ?_
    refine J.bind (fun o9 g9 => ?_)
    refine J.bind (fun v9 h9 => ?_)
    refine J.cF (q := (RX5, TX5, 10)) (ci := 4) (As := []) (rest := []) (s2 := [.int v9]) X ⟨rfl, rfl⟩ (ct_X5_number l G n σ o9) (jrd_of h9) (fun _ _ => va_cwF 0 X.1.2.2.2.2 (lw_F q2250 q2260 q2262 q167 q2264) rfl rfl rfl (jfw30 X.2.1) (by decide +kernel) ⟨(Nat.le_of_ble_eq_true rfl), (Nat.le_of_ble_eq_true rfl)⟩) g9 rfl rfl hl.1 rfl rfl (Nat.le_of_ble_eq_true rfl) dX18_of_9 ?_
    exact J.iret (vr := jrI) (fin := fun _ : Int32 => σ) (t := t) X hr (by rfl) (by rfl) dX18_of_14
noncomputable def X2_init_b (G : jG) (n : Nat) (σ : jH) (this : Nat) (a1 : Int32) (a2 : Int32) : Option (Unit × jH) :=
  bd (nO σ 15 [.int 0, .null, .int 0] 3) fun v5 S5 => bd (jck S5 (alInitI G S5 v5 6)) fun v11 S11 => (pR G S11 (some this) 1 3 (some v5)).bind fun S14 => bd (nO S14 15 [.int 0, .null, .int 0] 3) fun v18 S18 => bd (jck S18 (alInitI G S18 v18 40)) fun v24 S24 => (pR G S24 (some this) 1 4 (some v18)).bind fun S27 => bd (nI' S27 0 12) fun v33 S33 => (pR G S33 (some this) 1 6 (some v33)).bind fun S35 => (pI G S35 (some this) 1 8 3).bind fun S40 => (pI G S40 (some this) 1 0 a1).bind fun S45 => (pI G S45 (some this) 1 1 a2).bind fun S50 => bd (nI' S50 2 a1) fun v55 S55 => (pR G S55 (some this) 1 2 (some v55)).bind fun S57 => bd (nO S57 2 [.null] 1) fun v61 S61 => bd (X3_init G n S61 v61 a1) fun v66 S66 => (pR G S66 (some this) 1 5 (some v61)).bind fun S69 => some ((), S69)
noncomputable def X2_init (G : jG) (n : Nat) (σ : jH) (this : Nat) (a1 : Int32) (a2 : Int32) : Option (Unit × jH) := jck σ (X2_init_b G n σ this a1 a2)
set_option maxHeartbeats 4000000 in
set_option maxRecDepth 100000 in
theorem ct_X2_init (l : Launch) (G : jG) (n : Nat) (σ : jH) (this : Nat) (a1 : Int32) (a2 : Int32) : jCt l G yX2_init (ws_ yX2_init cX2_init 3 none) 22 1243 jrV [.ref this, .int a1, .int a2] σ (X2_init G n σ this a1 a2) := by
  refine jCt.wr (lv := [(0, .ref this), (1, .int a1), (2, .int a2)]) (plainFor_of_name (by decide)) (Nat.le_of_ble_eq_true rfl) rfl ?_
  intro t p e s m args below meth c ls X hr hnm hl
  have X : jCx p c cX2_init 3 s m args RX2 G meth := X
  unfold X2_init_b
  refine J.pu (fun _ _ _ _ k => lv_aload_n X.1.1 X.1.2.1 dX2_init_0 rfl (lv_at hl 0 rfl) k) ?_
  refine J.objI (a := this) X q207 hl.1 dX2_init_1 (Nat.le_of_ble_eq_true rfl) (Nat.le_of_ble_eq_true rfl) ?_
  refine J.pu (fun _ _ _ _ k => lv_aload_n X.1.1 X.1.2.1 dX2_init_4 rfl (lv_at hl 0 rfl) k) ?_
  refine J.nO' (fs := [.int 0, .null, .int 0]) X ⟨rfl, rfl⟩ in_J2 (show jCl[15]? = some (RJ2, TJ2, 3) from rfl) tyJ2 tyJ2_ok q210 q211 q142 rfl dX2_init_5 (fun v5 S5 h5 => ?_)
  refine J.pu (fun _ _ _ _ k => lv_dup X.1.1 X.1.2.1 dX2_init_8 rfl k) ?_
  refine J.pu (fun _ _ _ _ k => lv_bipush (v := 6) X.1.1 X.1.2.1 dX2_init_9 (by decide) k) ?_
  refine J.bd' (fun v11 S11 h11 => ?_)
  refine J.cI (a := v5) (As := [.int 6]) (rest := [.ref v5, .ref this]) (s2 := [.ref v5, .ref this]) X ⟨rfl, rfl⟩ (ct_J2_init l G S5 v5 6) h11 (fun _ _ => jcwI 1 X.1.2.2.2.2 q212 q213 q142 q214 rfl rfl rfl (by decide +kernel) ⟨(Nat.le_of_ble_eq_true rfl), (Nat.le_of_ble_eq_true rfl)⟩) rfl hl.1 rfl rfl (Nat.le_of_ble_eq_true rfl) dX2_init_11 ?_
  refine J.putRF (k := 3) (ci := 1) X hnm in_X2 (show jCl[1]? = some (RX2, TX2, 9) from rfl) tyX2_ok (fun a ha b hb h => Or.inl (nmX2 a ha b hb h)) (by decide) q692 (fun _ h => h) rfl rfl (Or.inl ⟨_, rfl⟩) dX2_init_14 (fun S14 h14 => ?_)
  refine J.pu (fun _ _ _ _ k => lv_aload_n X.1.1 X.1.2.1 dX2_init_17 rfl (lv_at hl 0 rfl) k) ?_
  refine J.nO' (fs := [.int 0, .null, .int 0]) X ⟨rfl, rfl⟩ in_J2 (show jCl[15]? = some (RJ2, TJ2, 3) from rfl) tyJ2 tyJ2_ok q210 q211 q142 rfl dX2_init_18 (fun v18 S18 h18 => ?_)
  refine J.pu (fun _ _ _ _ k => lv_dup X.1.1 X.1.2.1 dX2_init_21 rfl k) ?_
  refine J.pu (fun _ _ _ _ k => lv_bipush (v := 40) X.1.1 X.1.2.1 dX2_init_22 (by decide) k) ?_
  refine J.bd' (fun v24 S24 h24 => ?_)
  refine J.cI (a := v18) (As := [.int 40]) (rest := [.ref v18, .ref this]) (s2 := [.ref v18, .ref this]) X ⟨rfl, rfl⟩ (ct_J2_init l G S18 v18 40) h24 (fun _ _ => jcwI 1 X.1.2.2.2.2 q212 q213 q142 q214 rfl rfl rfl (by decide +kernel) ⟨(Nat.le_of_ble_eq_true rfl), (Nat.le_of_ble_eq_true rfl)⟩) rfl hl.1 rfl rfl (Nat.le_of_ble_eq_true rfl) dX2_init_24 ?_
  refine J.putRF (k := 4) (ci := 1) X hnm in_X2 (show jCl[1]? = some (RX2, TX2, 9) from rfl) tyX2_ok (fun a ha b hb h => Or.inl (nmX2 a ha b hb h)) (by decide) q696 (fun _ h => h) rfl rfl (Or.inl ⟨_, rfl⟩) dX2_init_27 (fun S27 h27 => ?_)
  refine J.pu (fun _ _ _ _ k => lv_aload_n X.1.1 X.1.2.1 dX2_init_30 rfl (lv_at hl 0 rfl) k) ?_
  refine J.pu (fun _ _ _ _ k => lv_bipush (v := 12) X.1.1 X.1.2.1 dX2_init_31 (by decide) k) ?_
  refine J.nI0 X ⟨rfl, rfl⟩ dX2_init_33 (fun v33 S33 h33 => ?_)
  refine J.putRF (k := 6) (ci := 1) X hnm in_X2 (show jCl[1]? = some (RX2, TX2, 9) from rfl) tyX2_ok (fun a ha b hb h => Or.inl (nmX2 a ha b hb h)) (by decide) q701 (fun _ h => h) rfl rfl (Or.inr ⟨_, rfl⟩) dX2_init_35 (fun S35 h35 => ?_)
  refine J.pu (fun _ _ _ _ k => lv_aload_n X.1.1 X.1.2.1 dX2_init_38 rfl (lv_at hl 0 rfl) k) ?_
  refine J.pu (fun _ _ _ _ k => lv_iconst (v := 3) X.1.1 X.1.2.1 dX2_init_39 (by decide) k) ?_
  refine J.putI (k := 8) (ci := 1) X in_X2 (show jCl[1]? = some (RX2, TX2, 9) from rfl) tyX2_ok (fun a ha b hb h => Or.inl (nmX2 a ha b hb h)) (by decide) q706 (fun _ h => h) rfl rfl dX2_init_40 (fun S40 h40 => ?_)
  refine J.pu (fun _ _ _ _ k => lv_aload_n X.1.1 X.1.2.1 dX2_init_43 rfl (lv_at hl 0 rfl) k) ?_
  refine J.pu (fun _ _ _ _ k => lv_iload_n X.1.1 X.1.2.1 dX2_init_44 rfl (lv_at hl 1 rfl) k) ?_
  refine J.putIF (k := 0) (ci := 1) X hnm in_X2 (show jCl[1]? = some (RX2, TX2, 9) from rfl) tyX2_ok (fun a ha b hb h => Or.inl (nmX2 a ha b hb h)) (by decide) q684 (fun _ h => h) rfl rfl rfl dX2_init_45 (fun S45 h45 => ?_)
  refine J.pu (fun _ _ _ _ k => lv_aload_n X.1.1 X.1.2.1 dX2_init_48 rfl (lv_at hl 0 rfl) k) ?_
  refine J.pu (fun _ _ _ _ k => lv_iload_n X.1.1 X.1.2.1 dX2_init_49 rfl (lv_at hl 2 rfl) k) ?_
  refine J.putIF (k := 1) (ci := 1) X hnm in_X2 (show jCl[1]? = some (RX2, TX2, 9) from rfl) tyX2_ok (fun a ha b hb h => Or.inl (nmX2 a ha b hb h)) (by decide) q687 (fun _ h => h) rfl rfl rfl dX2_init_50 (fun S50 h50 => ?_)
  refine J.pu (fun _ _ _ _ k => lv_aload_n X.1.1 X.1.2.1 dX2_init_53 rfl (lv_at hl 0 rfl) k) ?_
  refine J.pu (fun _ _ _ _ k => lv_iload_n X.1.1 X.1.2.1 dX2_init_54 rfl (lv_at hl 1 rfl) k) ?_
  refine J.nI2 X ⟨rfl, rfl⟩ dX2_init_55 (fun v55 S55 h55 => ?_)
  refine J.putRF (k := 2) (ci := 1) X hnm in_X2 (show jCl[1]? = some (RX2, TX2, 9) from rfl) tyX2_ok (fun a ha b hb h => Or.inl (nmX2 a ha b hb h)) (by decide) q689 (fun _ h => h) rfl rfl (Or.inr ⟨_, rfl⟩) dX2_init_57 (fun S57 h57 => ?_)
  refine J.pu (fun _ _ _ _ k => lv_aload_n X.1.1 X.1.2.1 dX2_init_60 rfl (lv_at hl 0 rfl) k) ?_
  refine J.nO' (fs := [.null]) X ⟨rfl, rfl⟩ in_X3 (show jCl[2]? = some (RX3, TX3, 1) from rfl) tyX3 tyX3_ok q565 q566 q159 rfl dX2_init_61 (fun v61 S61 h61 => ?_)
  refine J.pu (fun _ _ _ _ k => lv_dup X.1.1 X.1.2.1 dX2_init_64 rfl k) ?_
  refine J.pu (fun _ _ _ _ k => lv_iload_n X.1.1 X.1.2.1 dX2_init_65 rfl (lv_at hl 1 rfl) k) ?_
  refine J.bd' (fun v66 S66 h66 => ?_)
  refine J.cI (a := v61) (As := [.int a1]) (rest := [.ref v61, .ref this]) (s2 := [.ref v61, .ref this]) X ⟨rfl, rfl⟩ (ct_X3_init l G n S61 v61 a1) h66 (fun _ _ => jcwI 1 X.1.2.2.2.2 q567 q568 q159 q569 rfl rfl rfl (by decide +kernel) ⟨(Nat.le_of_ble_eq_true rfl), (Nat.le_of_ble_eq_true rfl)⟩) rfl hl.1 rfl rfl (Nat.le_of_ble_eq_true rfl) dX2_init_66 ?_
  refine J.putRF (k := 5) (ci := 1) X hnm in_X2 (show jCl[1]? = some (RX2, TX2, 9) from rfl) tyX2_ok (fun a ha b hb h => Or.inl (nmX2 a ha b hb h)) (by decide) q699 (fun _ h => h) rfl rfl (Or.inl ⟨_, rfl⟩) dX2_init_69 (fun S69 h69 => ?_)
  exact J.vret (vr := fun t : Unit × jH => jrV t.1) (fin := Prod.snd) (t := t) X hr (by rfl) (by rfl) dX2_init_72
noncomputable def X2_againstPut (G : jG) (n : Nat) (σ : jH) (this : Nat) : Option (Int32) :=
  (gR σ (some this) 1 4).bind fun v1 => (rc σ v1 15).bind fun o4 => (lSize 0 σ o4).bind fun v4 => if v4 = 40 then (some 1) else ((gR σ (some this) 1 5).bind fun v19 => (gI σ (some this) 1 1).bind fun v23 => (rc σ v19 2).bind fun o26 => (X3_isFree G n σ o26 v23).bind fun v26 => if v26 = 0 then (some 2) else (some 0))
set_option maxHeartbeats 4000000 in
set_option maxRecDepth 100000 in
theorem ct_X2_againstPut (l : Launch) (G : jG) (n : Nat) (σ : jH) (this : Nat) : jCt l G yX2_againstPut (ws_ yX2_againstPut cX2_againstPut 1 (some .int)) 22 1242 jrI [.ref this] σ (jrd σ (X2_againstPut G n σ this)) := by
  refine jCt.rd (lv := [(0, .ref this)]) (plainFor_of_name (by decide)) (Nat.le_of_ble_eq_true rfl) rfl ?_
  intro t p e s m args below meth c ls X hr hnm hl
  have X : jCx p c cX2_againstPut 1 s m args RX2 G meth := X
  unfold X2_againstPut
  refine J.pu (fun _ _ _ _ k => lv_aload_n X.1.1 X.1.2.1 dX2_againstPut_0 rfl (lv_at hl 0 rfl) k) ?_
  refine J.getR (k := 4) (ci := 1) X in_X2 (show jCl[1]? = some (RX2, TX2, 9) from rfl) (by decide) q696 (fun _ h => h) dX2_againstPut_1 (fun v1 h1 => ?_)
  refine J.bind (fun o4 g4 => ?_)
  refine J.bind (fun v4 h4 => ?_)
  refine J.cF (q := (RJ2, TJ2, 3)) (ci := 15) (As := []) (rest := []) (s2 := [.int v4]) X ⟨rfl, rfl⟩ (ct_J2_size l G σ o4) (jrd_of h4) (fun _ _ => va_cwF 0 X.1.2.2.2.2 (lw_F q829 q832 q834 q142 q836) rfl rfl rfl (jfw2 X.2.1) (by decide +kernel) ⟨(Nat.le_of_ble_eq_true rfl), (Nat.le_of_ble_eq_true rfl)⟩) g4 rfl rfl hl.1 rfl rfl (Nat.le_of_ble_eq_true rfl) dX2_againstPut_4 ?_
  refine J.pu (fun _ _ _ _ k => lv_bipush (v := 40) X.1.1 X.1.2.1 dX2_againstPut_9 (by decide) k) ?_
  refine J.br (fun _ _ _ _ ka kb => lv_icmp_ne (tgt := 18) X.1.1 X.1.2.1 dX2_againstPut_11 (by decide) kb ka) (fun c11 => ?_) (fun c11 => ?_)
  · refine J.pu (fun _ _ _ _ k => lv_iconst (v := 1) X.1.1 X.1.2.1 dX2_againstPut_14 (by decide) k) ?_
    refine J.pu (fun _ _ _ _ k => lv_goto (tgt := 37) X.1.1 X.1.2.1 dX2_againstPut_15 (by decide) k) ?_
    exact J.iret (vr := jrI) (fin := fun _ : Int32 => σ) (t := t) X hr (by rfl) (by rfl) dX2_againstPut_37
  · refine J.pu (fun _ _ _ _ k => lv_aload_n X.1.1 X.1.2.1 dX2_againstPut_18 rfl (lv_at hl 0 rfl) k) ?_
    refine J.getR (k := 5) (ci := 1) X in_X2 (show jCl[1]? = some (RX2, TX2, 9) from rfl) (by decide) q699 (fun _ h => h) dX2_againstPut_19 (fun v19 h19 => ?_)
    refine J.pu (fun _ _ _ _ k => lv_aload_n X.1.1 X.1.2.1 dX2_againstPut_22 rfl (lv_at hl 0 rfl) k) ?_
    refine J.getI (k := 1) (ci := 1) X in_X2 (show jCl[1]? = some (RX2, TX2, 9) from rfl) (by decide) q687 (fun _ h => h) dX2_againstPut_23 (fun v23 h23 => ?_)
    refine J.bind (fun o26 g26 => ?_)
    refine J.bind (fun v26 h26 => ?_)
    refine J.cV (q := (RX3, TX3, 1)) (ci := 2) (As := [.int v23]) (rest := []) (s2 := [.int v26]) X ⟨rfl, rfl⟩ (ct_X3_isFree l G n σ o26 v23) (jrd_of h26) (fun _ _ => cwV 1 X.1.2.2.2.2 (lw_V q1999 q2000 q2001 q159 q2002) rfl rfl rfl (by decide +kernel) ⟨(Nat.le_of_ble_eq_true rfl), (Nat.le_of_ble_eq_true rfl)⟩) g26 rfl rfl hl.1 rfl rfl (Nat.le_of_ble_eq_true rfl) dX2_againstPut_26 ?_
    refine J.br (fun _ _ _ _ ka kb => lv_if_eq (tgt := 36) X.1.1 X.1.2.1 dX2_againstPut_29 (by decide) ka kb) (fun c29 => ?_) (fun c29 => ?_)
    · refine J.pu (fun _ _ _ _ k => lv_iconst (v := 2) X.1.1 X.1.2.1 dX2_againstPut_36 (by decide) k) ?_
      exact J.iret (vr := jrI) (fin := fun _ : Int32 => σ) (t := t) X hr (by rfl) (by rfl) dX2_againstPut_37
    · refine J.pu (fun _ _ _ _ k => lv_iconst (v := 0) X.1.1 X.1.2.1 dX2_againstPut_32 (by decide) k) ?_
      refine J.pu (fun _ _ _ _ k => lv_goto (tgt := 37) X.1.1 X.1.2.1 dX2_againstPut_33 (by decide) k) ?_
      exact J.iret (vr := jrI) (fin := fun _ : Int32 => σ) (t := t) X hr (by rfl) (by rfl) dX2_againstPut_37
noncomputable def X2_puts_b (G : jG) (n : Nat) (σ : jH) (this : Nat) (a1 : Int32) (a2 : Int32) : Option (Int32 × jH) :=
  bd (nO σ 4 [.int 0, .int 0, .int 0, .int 0, .int 0, .int 0, .int 0, .int 0, .int 0, .int 0] 10) fun v0 S0 => (gR S0 (some this) 1 4).bind fun v5 => (rc S0 v5 15).bind fun o8 => (lSize 0 S0 o8).bind fun v8 => (gI S0 (some this) 1 1).bind fun v16 => bd (X5_init G n S0 v0 v8 a1 a2 v16) fun v19 S19 => (gR S19 (some this) 1 4).bind fun v24 => (rc S19 v24 15).bind fun o28 => bd (jck S19 (alAdd G S19 o28 (some v0))) fun v28 S28 => (gR S28 (some this) 1 5).bind fun v35 => (gI S28 (some this) 1 1).bind fun v39 => (rc S28 v35 2).bind fun o43 => bd (X3_lays G n S28 o43 v39 (some v0)) fun v43 S43 => (gR S43 (some this) 1 6).bind fun v47 => (aI S43 v47 0 1).bind fun v52 => (sI G S43 v47 0 1 (v52 + 1)).bind fun S55 => (gI S55 (some v0) 4 0).bind fun v57 => some (v57, S55)
noncomputable def X2_puts (G : jG) (n : Nat) (σ : jH) (this : Nat) (a1 : Int32) (a2 : Int32) : Option (Int32 × jH) := jck σ (X2_puts_b G n σ this a1 a2)
set_option maxHeartbeats 4000000 in
set_option maxRecDepth 100000 in
theorem ct_X2_puts (l : Launch) (G : jG) (n : Nat) (σ : jH) (this : Nat) (a1 : Int32) (a2 : Int32) : jCt l G yX2_puts (ws_ yX2_puts cX2_puts 4 (some .int)) 22 1246 jrI [.ref this, .int a1, .int a2] σ (X2_puts G n σ this a1 a2) := by
  refine jCt.wr (lv := [(0, .ref this), (1, .int a1), (2, .int a2)]) (plainFor_of_name (by decide)) (Nat.le_of_ble_eq_true rfl) rfl ?_
  intro t p e s m args below meth c ls X hr hnm hl
  have X : jCx p c cX2_puts 4 s m args RX2 G meth := X
  unfold X2_puts_b
  refine J.nO' (fs := [.int 0, .int 0, .int 0, .int 0, .int 0, .int 0, .int 0, .int 0, .int 0, .int 0]) X ⟨rfl, rfl⟩ in_X5 (show jCl[4]? = some (RX5, TX5, 10) from rfl) tyX5 tyX5_ok q946 q952 q167 rfl dX2_puts_0 (fun v0 S0 h0 => ?_)
  refine J.pu (fun _ _ _ _ k => lv_dup X.1.1 X.1.2.1 dX2_puts_3 rfl k) ?_
  refine J.pu (fun _ _ _ _ k => lv_aload_n X.1.1 X.1.2.1 dX2_puts_4 rfl (lv_at hl 0 rfl) k) ?_
  refine J.getR (k := 4) (ci := 1) X in_X2 (show jCl[1]? = some (RX2, TX2, 9) from rfl) (by decide) q696 (fun _ h => h) dX2_puts_5 (fun v5 h5 => ?_)
  refine J.bind (fun o8 g8 => ?_)
  refine J.bind (fun v8 h8 => ?_)
  refine J.cF (q := (RJ2, TJ2, 3)) (ci := 15) (As := []) (rest := [.ref v0, .ref v0]) (s2 := [.int v8, .ref v0, .ref v0]) X ⟨rfl, rfl⟩ (ct_J2_size l G S0 o8) (jrd_of h8) (fun _ _ => va_cwF 0 X.1.2.2.2.2 (lw_F q829 q832 q834 q142 q836) rfl rfl rfl (jfw2 X.2.1) (by decide +kernel) ⟨(Nat.le_of_ble_eq_true rfl), (Nat.le_of_ble_eq_true rfl)⟩) g8 rfl rfl hl.1 rfl rfl (Nat.le_of_ble_eq_true rfl) dX2_puts_8 ?_
  refine J.pu (fun _ _ _ _ k => lv_iload_n X.1.1 X.1.2.1 dX2_puts_13 rfl (lv_at hl 1 rfl) k) ?_
  refine J.pu (fun _ _ _ _ k => lv_iload_n X.1.1 X.1.2.1 dX2_puts_14 rfl (lv_at hl 2 rfl) k) ?_
  refine J.pu (fun _ _ _ _ k => lv_aload_n X.1.1 X.1.2.1 dX2_puts_15 rfl (lv_at hl 0 rfl) k) ?_
  refine J.getI (k := 1) (ci := 1) X in_X2 (show jCl[1]? = some (RX2, TX2, 9) from rfl) (by decide) q687 (fun _ h => h) dX2_puts_16 (fun v16 h16 => ?_)
  refine J.bd' (fun v19 S19 h19 => ?_)
  refine J.cI (a := v0) (As := [.int v8, .int a1, .int a2, .int v16]) (rest := [.ref v0]) (s2 := [.ref v0]) X ⟨rfl, rfl⟩ (ct_X5_init l G n S0 v0 v8 a1 a2 v16) h19 (fun _ _ => jcwI 4 X.1.2.2.2.2 q2015 q954 q167 q955 rfl rfl rfl (by decide +kernel) ⟨(Nat.le_of_ble_eq_true rfl), (Nat.le_of_ble_eq_true rfl)⟩) rfl hl.1 rfl rfl (Nat.le_of_ble_eq_true rfl) dX2_puts_19 ?_
  refine J.astore_n (r := (some v0)) (i := 3) (lv' := [(3, va_rf (some v0)), (0, .ref this), (1, .int a1), (2, .int a2)]) X.1.1 X.1.2.1 dX2_puts_22 rfl hl (by decide) (by first | rfl | simp [va_rf_cat, jcI, jcA, jcJ, jcD, jcF]) (fun ls hl => ?_)
  refine J.pu (fun _ _ _ _ k => lv_aload_n X.1.1 X.1.2.1 dX2_puts_23 rfl (lv_at hl 1 rfl) k) ?_
  refine J.getR (k := 4) (ci := 1) X in_X2 (show jCl[1]? = some (RX2, TX2, 9) from rfl) (by decide) q696 (fun _ h => h) dX2_puts_24 (fun v24 h24 => ?_)
  refine J.pu (fun _ _ _ _ k => W.rload_n X.1.1 X.1.2.1 dX2_puts_27 rfl (lv_at hl 0 rfl) k) ?_
  refine J.bind (fun o28 g28 => ?_)
  refine J.bd' (fun v28 S28 h28 => ?_)
  refine J.cF (q := (RJ2, TJ2, 3)) (ci := 15) (As := [va_rf (some v0)]) (rest := []) (s2 := [.int v28]) X ⟨rfl, rfl⟩ (ct_J2_add l G S19 o28 (some v0)) h28 (fun _ _ => va_cwF 1 X.1.2.2.2.2 (lw_F q914 q582 q584 q142 q586) rfl rfl rfl (jfw0 X.2.1) (by decide +kernel) ⟨(Nat.le_of_ble_eq_true rfl), (Nat.le_of_ble_eq_true rfl)⟩) g28 rfl rfl hl.1 rfl rfl (Nat.le_of_ble_eq_true rfl) dX2_puts_28 ?_
  refine J.pu (fun _ _ _ _ k => lv_pop X.1.1 X.1.2.1 dX2_puts_33 rfl k) ?_
  refine J.pu (fun _ _ _ _ k => lv_aload_n X.1.1 X.1.2.1 dX2_puts_34 rfl (lv_at hl 1 rfl) k) ?_
  refine J.getR (k := 5) (ci := 1) X in_X2 (show jCl[1]? = some (RX2, TX2, 9) from rfl) (by decide) q699 (fun _ h => h) dX2_puts_35 (fun v35 h35 => ?_)
  refine J.pu (fun _ _ _ _ k => lv_aload_n X.1.1 X.1.2.1 dX2_puts_38 rfl (lv_at hl 1 rfl) k) ?_
  refine J.getI (k := 1) (ci := 1) X in_X2 (show jCl[1]? = some (RX2, TX2, 9) from rfl) (by decide) q687 (fun _ h => h) dX2_puts_39 (fun v39 h39 => ?_)
  refine J.pu (fun _ _ _ _ k => W.rload_n X.1.1 X.1.2.1 dX2_puts_42 rfl (lv_at hl 0 rfl) k) ?_
  refine J.bind (fun o43 g43 => ?_)
  refine J.bd' (fun v43 S43 h43 => ?_)
  refine J.cV (q := (RX3, TX3, 1)) (ci := 2) (As := [.int v39, va_rf (some v0)]) (rest := []) (s2 := []) X ⟨rfl, rfl⟩ (ct_X3_lays l G n S28 o43 v39 (some v0)) h43 (fun _ _ => cwV 2 X.1.2.2.2.2 (lw_V q1044 q1034 q1035 q159 q1036) rfl rfl rfl (by decide +kernel) ⟨(Nat.le_of_ble_eq_true rfl), (Nat.le_of_ble_eq_true rfl)⟩) g43 rfl rfl hl.1 rfl rfl (Nat.le_of_ble_eq_true rfl) dX2_puts_43 ?_
  refine J.pu (fun _ _ _ _ k => lv_aload_n X.1.1 X.1.2.1 dX2_puts_46 rfl (lv_at hl 1 rfl) k) ?_
  refine J.getR (k := 6) (ci := 1) X in_X2 (show jCl[1]? = some (RX2, TX2, 9) from rfl) (by decide) q701 (fun _ h => h) dX2_puts_47 (fun v47 h47 => ?_)
  refine J.pu (fun _ _ _ _ k => lv_iconst (v := 1) X.1.1 X.1.2.1 dX2_puts_50 (by decide) k) ?_
  refine J.pu (fun _ _ _ _ k => lv_dup2_11 X.1.1 X.1.2.1 dX2_puts_51 rfl (va_rf_cat _) k) ?_
  refine J.aI0 X dX2_puts_52 (fun v52 h52 => ?_)
  refine J.pu (fun _ _ _ _ k => lv_iconst (v := 1) X.1.1 X.1.2.1 dX2_puts_53 (by decide) k) ?_
  refine J.pu (fun _ _ _ _ k => lv_iadd X.1.1 X.1.2.1 dX2_puts_54 k) ?_
  refine J.sI0 X dX2_puts_55 (fun S55 h55 => ?_)
  refine J.pu (fun _ _ _ _ k => W.rload_n X.1.1 X.1.2.1 dX2_puts_56 rfl (lv_at hl 0 rfl) k) ?_
  refine J.getIN (k := 0) (ci := 4) X in_X5 (show jCl[4]? = some (RX5, TX5, 10) from rfl) (by decide) jnf33 (fun _ h => h) dX2_puts_57 (fun v57 h57 => ?_)
  exact J.iret (vr := fun t : Int32 × jH => jrI t.1) (fin := Prod.snd) (t := t) X hr (by rfl) (by rfl) dX2_puts_60
noncomputable def X2_againstSlip (G : jG) (n : Nat) (σ : jH) (this : Nat) (a1 : Option Nat) : Option (Int32) :=
  (rc σ a1 4).bind fun o1 => (X5_isOn G n σ o1).bind fun v1 => if v1 = 0 then (some 1) else ((gI σ a1 4 5).bind fun v10 => if v10 = 0 then (some 2) else ((gR σ (some this) 1 5).bind fun v19 => (gI σ a1 4 5).bind fun v23 => (rc σ v19 2).bind fun o28 => (X3_isFree G n σ o28 (v23 - 1)).bind fun v28 => if v28 = 0 then (some 3) else (some 0)))
set_option maxHeartbeats 4000000 in
set_option maxRecDepth 100000 in
theorem ct_X2_againstSlip (l : Launch) (G : jG) (n : Nat) (σ : jH) (this : Nat) (a1 : Option Nat) : jCt l G yX2_againstSlip (ws_ yX2_againstSlip cX2_againstSlip 2 (some .int)) 22 1242 jrI [.ref this, va_rf a1] σ (jrd σ (X2_againstSlip G n σ this a1)) := by
  refine jCt.rd (lv := [(0, .ref this), (1, va_rf a1)]) (plainFor_of_name (by decide)) (by simp [lg_sl, va_rf_cat, jcI, jcA, jcJ, jcD, jcF]) (by simp [lv_args, va_rf_cat, jcI, jcA, jcJ, jcD, jcF]) ?_
  intro t p e s m args below meth c ls X hr hnm hl
  have X : jCx p c cX2_againstSlip 2 s m args RX2 G meth := X
  unfold X2_againstSlip
  refine J.pu (fun _ _ _ _ k => W.rload_n X.1.1 X.1.2.1 dX2_againstSlip_0 rfl (lv_at hl 1 rfl) k) ?_
  refine J.bind (fun o1 g1 => ?_)
  refine J.bind (fun v1 h1 => ?_)
  refine J.cV (q := (RX5, TX5, 10)) (ci := 4) (As := []) (rest := []) (s2 := [.int v1]) X ⟨rfl, rfl⟩ (ct_X5_isOn l G n σ o1) (jrd_of h1) (fun _ _ => cwV 0 X.1.2.2.2.2 (lw_V q1040 q1041 q1042 q167 q1043) rfl rfl rfl (by decide +kernel) ⟨(Nat.le_of_ble_eq_true rfl), (Nat.le_of_ble_eq_true rfl)⟩) g1 rfl rfl hl.1 rfl rfl (Nat.le_of_ble_eq_true rfl) dX2_againstSlip_1 ?_
  refine J.br (fun _ _ _ _ ka kb => lv_if_ne (tgt := 9) X.1.1 X.1.2.1 dX2_againstSlip_4 (by decide) kb ka) (fun c4 => ?_) (fun c4 => ?_)
  · refine J.pu (fun _ _ _ _ k => lv_iconst (v := 1) X.1.1 X.1.2.1 dX2_againstSlip_7 (by decide) k) ?_
    exact J.iret (vr := jrI) (fin := fun _ : Int32 => σ) (t := t) X hr (by rfl) (by rfl) dX2_againstSlip_8
  · refine J.pu (fun _ _ _ _ k => W.rload_n X.1.1 X.1.2.1 dX2_againstSlip_9 rfl (lv_at hl 1 rfl) k) ?_
    refine J.getIN (k := 5) (ci := 4) X in_X5 (show jCl[4]? = some (RX5, TX5, 10) from rfl) (by decide) jnf44 (fun _ h => h) dX2_againstSlip_10 (fun v10 h10 => ?_)
    refine J.br (fun _ _ _ _ ka kb => lv_if_ne (tgt := 18) X.1.1 X.1.2.1 dX2_againstSlip_13 (by decide) kb ka) (fun c13 => ?_) (fun c13 => ?_)
    · refine J.pu (fun _ _ _ _ k => lv_iconst (v := 2) X.1.1 X.1.2.1 dX2_againstSlip_16 (by decide) k) ?_
      exact J.iret (vr := jrI) (fin := fun _ : Int32 => σ) (t := t) X hr (by rfl) (by rfl) dX2_againstSlip_17
    · refine J.pu (fun _ _ _ _ k => lv_aload_n X.1.1 X.1.2.1 dX2_againstSlip_18 rfl (lv_at hl 0 rfl) k) ?_
      refine J.getR (k := 5) (ci := 1) X in_X2 (show jCl[1]? = some (RX2, TX2, 9) from rfl) (by decide) q699 (fun _ h => h) dX2_againstSlip_19 (fun v19 h19 => ?_)
      refine J.pu (fun _ _ _ _ k => W.rload_n X.1.1 X.1.2.1 dX2_againstSlip_22 rfl (lv_at hl 1 rfl) k) ?_
      refine J.getIN (k := 5) (ci := 4) X in_X5 (show jCl[4]? = some (RX5, TX5, 10) from rfl) (by decide) jnf44 (fun _ h => h) dX2_againstSlip_23 (fun v23 h23 => ?_)
      refine J.pu (fun _ _ _ _ k => lv_iconst (v := 1) X.1.1 X.1.2.1 dX2_againstSlip_26 (by decide) k) ?_
      refine J.pu (fun _ _ _ _ k => lv_isub X.1.1 X.1.2.1 dX2_againstSlip_27 k) ?_
      refine J.bind (fun o28 g28 => ?_)
      refine J.bind (fun v28 h28 => ?_)
      refine J.cV (q := (RX3, TX3, 1)) (ci := 2) (As := [.int (v23 - 1)]) (rest := []) (s2 := [.int v28]) X ⟨rfl, rfl⟩ (ct_X3_isFree l G n σ o28 (v23 - 1)) (jrd_of h28) (fun _ _ => cwV 1 X.1.2.2.2.2 (lw_V q1999 q2000 q2001 q159 q2002) rfl rfl rfl (by decide +kernel) ⟨(Nat.le_of_ble_eq_true rfl), (Nat.le_of_ble_eq_true rfl)⟩) g28 rfl rfl hl.1 rfl rfl (Nat.le_of_ble_eq_true rfl) dX2_againstSlip_28 ?_
      refine J.br (fun _ _ _ _ ka kb => lv_if_eq (tgt := 38) X.1.1 X.1.2.1 dX2_againstSlip_31 (by decide) ka kb) (fun c31 => ?_) (fun c31 => ?_)
      · refine J.pu (fun _ _ _ _ k => lv_iconst (v := 3) X.1.1 X.1.2.1 dX2_againstSlip_38 (by decide) k) ?_
        exact J.iret (vr := jrI) (fin := fun _ : Int32 => σ) (t := t) X hr (by rfl) (by rfl) dX2_againstSlip_39
      · refine J.pu (fun _ _ _ _ k => lv_iconst (v := 0) X.1.1 X.1.2.1 dX2_againstSlip_34 (by decide) k) ?_
        refine J.pu (fun _ _ _ _ k => lv_goto (tgt := 39) X.1.1 X.1.2.1 dX2_againstSlip_35 (by decide) k) ?_
        exact J.iret (vr := jrI) (fin := fun _ : Int32 => σ) (t := t) X hr (by rfl) (by rfl) dX2_againstSlip_39
noncomputable def X2_slips_b (G : jG) (n : Nat) (σ : jH) (this : Nat) (a1 : Option Nat) : Option (Int32 × jH) :=
  (gR σ (some this) 1 5).bind fun v1 => (gI σ a1 4 5).bind fun v5 => (rc σ v1 2).bind fun o9 => bd (X3_lays G n σ o9 v5 none) fun v9 S9 => (gI S9 a1 4 5).bind fun v14 => (pI G S9 a1 4 5 (v14 - 1)).bind fun S19 => (pB G S19 a1 4 9 1).bind fun S24 => (gR S24 (some this) 1 5).bind fun v28 => (gI S24 a1 4 5).bind fun v32 => (rc S24 v28 2).bind fun o36 => bd (X3_lays G n S24 o36 v32 a1) fun v36 S36 => (gR S36 (some this) 1 6).bind fun v40 => (aI S36 v40 0 11).bind fun v46 => (sI G S36 v40 0 11 (v46 + 1)).bind fun S49 => (gI S49 a1 4 5).bind fun v51 => some (v51, S49)
noncomputable def X2_slips (G : jG) (n : Nat) (σ : jH) (this : Nat) (a1 : Option Nat) : Option (Int32 × jH) := jck σ (X2_slips_b G n σ this a1)
set_option maxHeartbeats 4000000 in
set_option maxRecDepth 100000 in
theorem ct_X2_slips (l : Launch) (G : jG) (n : Nat) (σ : jH) (this : Nat) (a1 : Option Nat) : jCt l G yX2_slips (ws_ yX2_slips cX2_slips 2 (some .int)) 22 1246 jrI [.ref this, va_rf a1] σ (X2_slips G n σ this a1) := by
  refine jCt.wr (lv := [(0, .ref this), (1, va_rf a1)]) (plainFor_of_name (by decide)) (by simp [lg_sl, va_rf_cat, jcI, jcA, jcJ, jcD, jcF]) (by simp [lv_args, va_rf_cat, jcI, jcA, jcJ, jcD, jcF]) ?_
  intro t p e s m args below meth c ls X hr hnm hl
  have X : jCx p c cX2_slips 2 s m args RX2 G meth := X
  unfold X2_slips_b
  refine J.pu (fun _ _ _ _ k => lv_aload_n X.1.1 X.1.2.1 dX2_slips_0 rfl (lv_at hl 0 rfl) k) ?_
  refine J.getR (k := 5) (ci := 1) X in_X2 (show jCl[1]? = some (RX2, TX2, 9) from rfl) (by decide) q699 (fun _ h => h) dX2_slips_1 (fun v1 h1 => ?_)
  refine J.pu (fun _ _ _ _ k => W.rload_n X.1.1 X.1.2.1 dX2_slips_4 rfl (lv_at hl 1 rfl) k) ?_
  refine J.getIN (k := 5) (ci := 4) X in_X5 (show jCl[4]? = some (RX5, TX5, 10) from rfl) (by decide) jnf44 (fun _ h => h) dX2_slips_5 (fun v5 h5 => ?_)
  refine J.pu (fun _ _ _ _ k => lv_null X.1.1 X.1.2.1 dX2_slips_8 k) ?_
  refine J.bind (fun o9 g9 => ?_)
  refine J.bd' (fun v9 S9 h9 => ?_)
  refine J.cV (q := (RX3, TX3, 1)) (ci := 2) (As := [.int v5, va_rf none]) (rest := []) (s2 := []) X ⟨rfl, rfl⟩ (ct_X3_lays l G n σ o9 v5 none) h9 (fun _ _ => cwV 2 X.1.2.2.2.2 (lw_V q1044 q1034 q1035 q159 q1036) rfl rfl rfl (by decide +kernel) ⟨(Nat.le_of_ble_eq_true rfl), (Nat.le_of_ble_eq_true rfl)⟩) g9 rfl rfl hl.1 rfl rfl (Nat.le_of_ble_eq_true rfl) dX2_slips_9 ?_
  refine J.pu (fun _ _ _ _ k => W.rload_n X.1.1 X.1.2.1 dX2_slips_12 rfl (lv_at hl 1 rfl) k) ?_
  refine J.pu (fun _ _ _ _ k => lv_dup X.1.1 X.1.2.1 dX2_slips_13 (va_rf_cat _) k) ?_
  refine J.getIN (k := 5) (ci := 4) X in_X5 (show jCl[4]? = some (RX5, TX5, 10) from rfl) (by decide) jnf44 (fun _ h => h) dX2_slips_14 (fun v14 h14 => ?_)
  refine J.pu (fun _ _ _ _ k => lv_iconst (v := 1) X.1.1 X.1.2.1 dX2_slips_17 (by decide) k) ?_
  refine J.pu (fun _ _ _ _ k => lv_isub X.1.1 X.1.2.1 dX2_slips_18 k) ?_
  refine J.putIN (k := 5) (ci := 4) X in_X5 (show jCl[4]? = some (RX5, TX5, 10) from rfl) tyX5_ok (fun a ha b hb h => Or.inl (nmX5 a ha b hb h)) (by decide) jnf44 (fun _ h => h) rfl rfl dX2_slips_19 (fun S19 h19 => ?_)
  refine J.pu (fun _ _ _ _ k => W.rload_n X.1.1 X.1.2.1 dX2_slips_22 rfl (lv_at hl 1 rfl) k) ?_
  refine J.pu (fun _ _ _ _ k => lv_iconst (v := 1) X.1.1 X.1.2.1 dX2_slips_23 (by decide) k) ?_
  refine J.putBN (k := 9) (ci := 4) X in_X5 (show jCl[4]? = some (RX5, TX5, 10) from rfl) tyX5_ok (fun a ha b hb h => Or.inl (nmX5 a ha b hb h)) (by decide) jnf51 (fun _ h => h) rfl (Or.inl rfl) dX2_slips_24 (fun S24 h24 => ?_)
  refine J.pu (fun _ _ _ _ k => lv_aload_n X.1.1 X.1.2.1 dX2_slips_27 rfl (lv_at hl 0 rfl) k) ?_
  refine J.getR (k := 5) (ci := 1) X in_X2 (show jCl[1]? = some (RX2, TX2, 9) from rfl) (by decide) q699 (fun _ h => h) dX2_slips_28 (fun v28 h28 => ?_)
  refine J.pu (fun _ _ _ _ k => W.rload_n X.1.1 X.1.2.1 dX2_slips_31 rfl (lv_at hl 1 rfl) k) ?_
  refine J.getIN (k := 5) (ci := 4) X in_X5 (show jCl[4]? = some (RX5, TX5, 10) from rfl) (by decide) jnf44 (fun _ h => h) dX2_slips_32 (fun v32 h32 => ?_)
  refine J.pu (fun _ _ _ _ k => W.rload_n X.1.1 X.1.2.1 dX2_slips_35 rfl (lv_at hl 1 rfl) k) ?_
  refine J.bind (fun o36 g36 => ?_)
  refine J.bd' (fun v36 S36 h36 => ?_)
  refine J.cV (q := (RX3, TX3, 1)) (ci := 2) (As := [.int v32, va_rf a1]) (rest := []) (s2 := []) X ⟨rfl, rfl⟩ (ct_X3_lays l G n S24 o36 v32 a1) h36 (fun _ _ => cwV 2 X.1.2.2.2.2 (lw_V q1044 q1034 q1035 q159 q1036) rfl rfl rfl (by decide +kernel) ⟨(Nat.le_of_ble_eq_true rfl), (Nat.le_of_ble_eq_true rfl)⟩) g36 rfl rfl hl.1 rfl rfl (Nat.le_of_ble_eq_true rfl) dX2_slips_36 ?_
  refine J.pu (fun _ _ _ _ k => lv_aload_n X.1.1 X.1.2.1 dX2_slips_39 rfl (lv_at hl 0 rfl) k) ?_
  refine J.getR (k := 6) (ci := 1) X in_X2 (show jCl[1]? = some (RX2, TX2, 9) from rfl) (by decide) q701 (fun _ h => h) dX2_slips_40 (fun v40 h40 => ?_)
  refine J.pu (fun _ _ _ _ k => lv_bipush (v := 11) X.1.1 X.1.2.1 dX2_slips_43 (by decide) k) ?_
  refine J.pu (fun _ _ _ _ k => lv_dup2_11 X.1.1 X.1.2.1 dX2_slips_45 rfl (va_rf_cat _) k) ?_
  refine J.aI0 X dX2_slips_46 (fun v46 h46 => ?_)
  refine J.pu (fun _ _ _ _ k => lv_iconst (v := 1) X.1.1 X.1.2.1 dX2_slips_47 (by decide) k) ?_
  refine J.pu (fun _ _ _ _ k => lv_iadd X.1.1 X.1.2.1 dX2_slips_48 k) ?_
  refine J.sI0 X dX2_slips_49 (fun S49 h49 => ?_)
  refine J.pu (fun _ _ _ _ k => W.rload_n X.1.1 X.1.2.1 dX2_slips_50 rfl (lv_at hl 1 rfl) k) ?_
  refine J.getIN (k := 5) (ci := 4) X in_X5 (show jCl[4]? = some (RX5, TX5, 10) from rfl) (by decide) jnf44 (fun _ h => h) dX2_slips_51 (fun v51 h51 => ?_)
  exact J.iret (vr := fun t : Int32 × jH => jrI t.1) (fin := Prod.snd) (t := t) X hr (by rfl) (by rfl) dX2_slips_54
noncomputable def X2_laps_b (G : jG) (n : Nat) (σ : jH) (this : Nat) (a1 : Option Nat) : Option (Unit × jH) :=
  (gI σ a1 4 3).bind fun v2 => (pI G σ a1 4 3 (v2 + 1)).bind fun S7 => (gI S7 a1 4 3).bind fun v11 => (gI S7 (some this) 1 8).bind fun v15 => if v15 < v11 then ((gR S7 (some this) 1 5).bind fun v23 => (rc S7 v23 2).bind fun o28 => bd (X3_lays G n S7 o28 0 none) fun v28 S28 => (gI S28 (some this) 1 7).bind fun v34 => (rc S28 a1 4).bind fun o37 => bd (X5_leaves G n S28 o37 3 v34) fun v37 S37 => (gR S37 (some this) 1 6).bind fun v41 => (aI S37 v41 0 7).bind fun v47 => (sI G S37 v41 0 7 (v47 + 1)).bind fun S50 => some ((), S50)) else (some ((), S7))
noncomputable def X2_laps (G : jG) (n : Nat) (σ : jH) (this : Nat) (a1 : Option Nat) : Option (Unit × jH) := jck σ (X2_laps_b G n σ this a1)
set_option maxHeartbeats 4000000 in
set_option maxRecDepth 100000 in
theorem ct_X2_laps (l : Launch) (G : jG) (n : Nat) (σ : jH) (this : Nat) (a1 : Option Nat) : jCt l G yX2_laps (ws_ yX2_laps cX2_laps 2 none) 22 1246 jrV [.ref this, va_rf a1] σ (X2_laps G n σ this a1) := by
  refine jCt.wr (lv := [(0, .ref this), (1, va_rf a1)]) (plainFor_of_name (by decide)) (by simp [lg_sl, va_rf_cat, jcI, jcA, jcJ, jcD, jcF]) (by simp [lv_args, va_rf_cat, jcI, jcA, jcJ, jcD, jcF]) ?_
  intro t p e s m args below meth c ls X hr hnm hl
  have X : jCx p c cX2_laps 2 s m args RX2 G meth := X
  unfold X2_laps_b
  refine J.pu (fun _ _ _ _ k => W.rload_n X.1.1 X.1.2.1 dX2_laps_0 rfl (lv_at hl 1 rfl) k) ?_
  refine J.pu (fun _ _ _ _ k => lv_dup X.1.1 X.1.2.1 dX2_laps_1 (va_rf_cat _) k) ?_
  refine J.getIN (k := 3) (ci := 4) X in_X5 (show jCl[4]? = some (RX5, TX5, 10) from rfl) (by decide) jnf40 (fun _ h => h) dX2_laps_2 (fun v2 h2 => ?_)
  refine J.pu (fun _ _ _ _ k => lv_iconst (v := 1) X.1.1 X.1.2.1 dX2_laps_5 (by decide) k) ?_
  refine J.pu (fun _ _ _ _ k => lv_iadd X.1.1 X.1.2.1 dX2_laps_6 k) ?_
  refine J.putIN (k := 3) (ci := 4) X in_X5 (show jCl[4]? = some (RX5, TX5, 10) from rfl) tyX5_ok (fun a ha b hb h => Or.inl (nmX5 a ha b hb h)) (by decide) jnf40 (fun _ h => h) rfl rfl dX2_laps_7 (fun S7 h7 => ?_)
  refine J.pu (fun _ _ _ _ k => W.rload_n X.1.1 X.1.2.1 dX2_laps_10 rfl (lv_at hl 1 rfl) k) ?_
  refine J.getIN (k := 3) (ci := 4) X in_X5 (show jCl[4]? = some (RX5, TX5, 10) from rfl) (by decide) jnf40 (fun _ h => h) dX2_laps_11 (fun v11 h11 => ?_)
  refine J.pu (fun _ _ _ _ k => lv_aload_n X.1.1 X.1.2.1 dX2_laps_14 rfl (lv_at hl 0 rfl) k) ?_
  refine J.getI (k := 8) (ci := 1) X in_X2 (show jCl[1]? = some (RX2, TX2, 9) from rfl) (by decide) q706 (fun _ h => h) dX2_laps_15 (fun v15 h15 => ?_)
  refine J.br (fun _ _ _ _ ka kb => lv_icmp_gt (tgt := 22) X.1.1 X.1.2.1 dX2_laps_18 (by decide) ka kb) (fun c18 => ?_) (fun c18 => ?_)
  · refine J.pu (fun _ _ _ _ k => lv_aload_n X.1.1 X.1.2.1 dX2_laps_22 rfl (lv_at hl 0 rfl) k) ?_
    refine J.getR (k := 5) (ci := 1) X in_X2 (show jCl[1]? = some (RX2, TX2, 9) from rfl) (by decide) q699 (fun _ h => h) dX2_laps_23 (fun v23 h23 => ?_)
    refine J.pu (fun _ _ _ _ k => lv_iconst (v := 0) X.1.1 X.1.2.1 dX2_laps_26 (by decide) k) ?_
    refine J.pu (fun _ _ _ _ k => lv_null X.1.1 X.1.2.1 dX2_laps_27 k) ?_
    refine J.bind (fun o28 g28 => ?_)
    refine J.bd' (fun v28 S28 h28 => ?_)
    refine J.cV (q := (RX3, TX3, 1)) (ci := 2) (As := [.int 0, va_rf none]) (rest := []) (s2 := []) X ⟨rfl, rfl⟩ (ct_X3_lays l G n S7 o28 0 none) h28 (fun _ _ => cwV 2 X.1.2.2.2.2 (lw_V q1044 q1034 q1035 q159 q1036) rfl rfl rfl (by decide +kernel) ⟨(Nat.le_of_ble_eq_true rfl), (Nat.le_of_ble_eq_true rfl)⟩) g28 rfl rfl hl.1 rfl rfl (Nat.le_of_ble_eq_true rfl) dX2_laps_28 ?_
    refine J.pu (fun _ _ _ _ k => W.rload_n X.1.1 X.1.2.1 dX2_laps_31 rfl (lv_at hl 1 rfl) k) ?_
    refine J.pu (fun _ _ _ _ k => lv_iconst (v := 3) X.1.1 X.1.2.1 dX2_laps_32 (by decide) k) ?_
    refine J.pu (fun _ _ _ _ k => lv_aload_n X.1.1 X.1.2.1 dX2_laps_33 rfl (lv_at hl 0 rfl) k) ?_
    refine J.getI (k := 7) (ci := 1) X in_X2 (show jCl[1]? = some (RX2, TX2, 9) from rfl) (by decide) q704 (fun _ h => h) dX2_laps_34 (fun v34 h34 => ?_)
    refine J.bind (fun o37 g37 => ?_)
    refine J.bd' (fun v37 S37 h37 => ?_)
    refine J.cV (q := (RX5, TX5, 10)) (ci := 4) (As := [.int 3, .int v34]) (rest := []) (s2 := []) X ⟨rfl, rfl⟩ (ct_X5_leaves l G n S28 o37 3 v34) h37 (fun _ _ => cwV 2 X.1.2.2.2.2 (lw_V q2107 q2108 q2109 q167 q2110) rfl rfl rfl (by decide +kernel) ⟨(Nat.le_of_ble_eq_true rfl), (Nat.le_of_ble_eq_true rfl)⟩) g37 rfl rfl hl.1 rfl rfl (Nat.le_of_ble_eq_true rfl) dX2_laps_37 ?_
    refine J.pu (fun _ _ _ _ k => lv_aload_n X.1.1 X.1.2.1 dX2_laps_40 rfl (lv_at hl 0 rfl) k) ?_
    refine J.getR (k := 6) (ci := 1) X in_X2 (show jCl[1]? = some (RX2, TX2, 9) from rfl) (by decide) q701 (fun _ h => h) dX2_laps_41 (fun v41 h41 => ?_)
    refine J.pu (fun _ _ _ _ k => lv_bipush (v := 7) X.1.1 X.1.2.1 dX2_laps_44 (by decide) k) ?_
    refine J.pu (fun _ _ _ _ k => lv_dup2_11 X.1.1 X.1.2.1 dX2_laps_46 rfl (va_rf_cat _) k) ?_
    refine J.aI0 X dX2_laps_47 (fun v47 h47 => ?_)
    refine J.pu (fun _ _ _ _ k => lv_iconst (v := 1) X.1.1 X.1.2.1 dX2_laps_48 (by decide) k) ?_
    refine J.pu (fun _ _ _ _ k => lv_iadd X.1.1 X.1.2.1 dX2_laps_49 k) ?_
    refine J.sI0 X dX2_laps_50 (fun S50 h50 => ?_)
    exact J.vret (vr := fun t : Unit × jH => jrV t.1) (fin := Prod.snd) (t := t) X hr (by rfl) (by rfl) dX2_laps_51
  · exact J.vret (vr := fun t : Unit × jH => jrV t.1) (fin := Prod.snd) (t := t) X hr (by rfl) (by rfl) dX2_laps_21
noncomputable def X2_lag (G : jG) (n : Nat) (σ : jH) (this : Nat) (a1 : Option Nat) : Option (Int32) :=
  (rc σ a1 4).bind fun o1 => (X5_isTracked G n σ o1).bind fun v1 => if v1 = 0 then (some (-1)) else ((gI σ a1 4 5).bind fun v9 => (gI σ a1 4 6).bind fun v13 => (rc σ (some this) 1).bind fun o16 => (X2_steps G n σ o16 v9 v13).bind fun v16 => some v16)
set_option maxHeartbeats 4000000 in
set_option maxRecDepth 100000 in
theorem ct_X2_lag (l : Launch) (G : jG) (n : Nat) (σ : jH) (this : Nat) (a1 : Option Nat) : jCt l G yX2_lag (ws_ yX2_lag cX2_lag 2 (some .int)) 1 22 jrI [.ref this, va_rf a1] σ (jrd σ (X2_lag G n σ this a1)) := by
  refine jCt.rd (lv := [(0, .ref this), (1, va_rf a1)]) (plainFor_of_name (by decide)) (by simp [lg_sl, va_rf_cat, jcI, jcA, jcJ, jcD, jcF]) (by simp [lv_args, va_rf_cat, jcI, jcA, jcJ, jcD, jcF]) ?_
  intro t p e s m args below meth c ls X hr hnm hl
  have X : jCx p c cX2_lag 2 s m args RX2 G meth := X
  unfold X2_lag
  refine J.pu (fun _ _ _ _ k => W.rload_n X.1.1 X.1.2.1 dX2_lag_0 rfl (lv_at hl 1 rfl) k) ?_
  refine J.bind (fun o1 g1 => ?_)
  refine J.bind (fun v1 h1 => ?_)
  refine J.cV (q := (RX5, TX5, 10)) (ci := 4) (As := []) (rest := []) (s2 := [.int v1]) X ⟨rfl, rfl⟩ (ct_X5_isTracked l G n σ o1) (jrd_of h1) (fun _ _ => cwV 0 X.1.2.2.2.2 (lw_V q2099 q2100 q2101 q167 q2102) rfl rfl rfl (by decide +kernel) ⟨(Nat.le_of_ble_eq_true rfl), (Nat.le_of_ble_eq_true rfl)⟩) g1 rfl rfl hl.1 rfl rfl (Nat.le_of_ble_eq_true rfl) dX2_lag_1 ?_
  refine J.br (fun _ _ _ _ ka kb => lv_if_eq (tgt := 22) X.1.1 X.1.2.1 dX2_lag_4 (by decide) ka kb) (fun c4 => ?_) (fun c4 => ?_)
  · refine J.pu (fun _ _ _ _ k => lv_iconst (v := (-1)) X.1.1 X.1.2.1 dX2_lag_22 (by decide) k) ?_
    exact J.iret (vr := jrI) (fin := fun _ : Int32 => σ) (t := t) X hr (by rfl) (by rfl) dX2_lag_23
  · refine J.pu (fun _ _ _ _ k => lv_aload_n X.1.1 X.1.2.1 dX2_lag_7 rfl (lv_at hl 0 rfl) k) ?_
    refine J.pu (fun _ _ _ _ k => W.rload_n X.1.1 X.1.2.1 dX2_lag_8 rfl (lv_at hl 1 rfl) k) ?_
    refine J.getIN (k := 5) (ci := 4) X in_X5 (show jCl[4]? = some (RX5, TX5, 10) from rfl) (by decide) jnf44 (fun _ h => h) dX2_lag_9 (fun v9 h9 => ?_)
    refine J.pu (fun _ _ _ _ k => W.rload_n X.1.1 X.1.2.1 dX2_lag_12 rfl (lv_at hl 1 rfl) k) ?_
    refine J.getIN (k := 6) (ci := 4) X in_X5 (show jCl[4]? = some (RX5, TX5, 10) from rfl) (by decide) jnf46 (fun _ h => h) dX2_lag_13 (fun v13 h13 => ?_)
    refine J.bind (fun o16 g16 => ?_)
    refine J.bind (fun v16 h16 => ?_)
    refine J.cV (q := (RX2, TX2, 9)) (ci := 1) (As := [.int v9, .int v13]) (rest := []) (s2 := [.int v16]) X ⟨rfl, rfl⟩ (ct_X2_steps l G n σ o16 v9 v13) (jrd_of h16) (fun _ _ => cwV 2 X.1.2.2.2.2 (lw_V q2119 q2120 q2121 q139 q2122) rfl rfl rfl (by decide +kernel) ⟨(Nat.le_of_ble_eq_true rfl), (Nat.le_of_ble_eq_true rfl)⟩) g16 rfl rfl hl.1 rfl rfl (Nat.le_of_ble_eq_true rfl) dX2_lag_16 ?_
    refine J.pu (fun _ _ _ _ k => lv_goto (tgt := 23) X.1.1 X.1.2.1 dX2_lag_19 (by decide) k) ?_
    exact J.iret (vr := jrI) (fin := fun _ : Int32 => σ) (t := t) X hr (by rfl) (by rfl) dX2_lag_23
noncomputable def X2_isAt (G : jG) (n : Nat) (σ : jH) (this : Nat) (a1 : Option Nat) (a2 : Option Nat) : Option (Int32) :=
  (rc σ a2 4).bind fun o1 => (X5_isTracked G n σ o1).bind fun v1 => if v1 = 0 then (some 0) else ((gI σ a2 4 2).bind fun v8 => if v8 = 0 then ((gI σ a2 4 1).bind fun v15 => (gI σ a1 3 0).bind fun v19 => if v15 = v19 then ((gI σ a2 4 6).bind fun v26 => (gI σ a1 3 1).bind fun v30 => if v26 = v30 then (some 1) else (some 0)) else (some 0)) else (some 0))
set_option maxHeartbeats 4000000 in
set_option maxRecDepth 100000 in
theorem ct_X2_isAt (l : Launch) (G : jG) (n : Nat) (σ : jH) (this : Nat) (a1 : Option Nat) (a2 : Option Nat) : jCt l G yX2_isAt (ws_ yX2_isAt cX2_isAt 3 (some .boolean)) 1 20 jrI [.ref this, va_rf a1, va_rf a2] σ (jrd σ (X2_isAt G n σ this a1 a2)) := by
  refine jCt.rd (lv := [(0, .ref this), (1, va_rf a1), (2, va_rf a2)]) (plainFor_of_name (by decide)) (by simp [lg_sl, va_rf_cat, jcI, jcA, jcJ, jcD, jcF]) (by simp [lv_args, va_rf_cat, jcI, jcA, jcJ, jcD, jcF]) ?_
  intro t p e s m args below meth c ls X hr hnm hl
  have X : jCx p c cX2_isAt 3 s m args RX2 G meth := X
  unfold X2_isAt
  refine J.pu (fun _ _ _ _ k => W.rload_n X.1.1 X.1.2.1 dX2_isAt_0 rfl (lv_at hl 2 rfl) k) ?_
  refine J.bind (fun o1 g1 => ?_)
  refine J.bind (fun v1 h1 => ?_)
  refine J.cV (q := (RX5, TX5, 10)) (ci := 4) (As := []) (rest := []) (s2 := [.int v1]) X ⟨rfl, rfl⟩ (ct_X5_isTracked l G n σ o1) (jrd_of h1) (fun _ _ => cwV 0 X.1.2.2.2.2 (lw_V q2099 q2100 q2101 q167 q2102) rfl rfl rfl (by decide +kernel) ⟨(Nat.le_of_ble_eq_true rfl), (Nat.le_of_ble_eq_true rfl)⟩) g1 rfl rfl hl.1 rfl rfl (Nat.le_of_ble_eq_true rfl) dX2_isAt_1 ?_
  refine J.br (fun _ _ _ _ ka kb => lv_if_eq (tgt := 40) X.1.1 X.1.2.1 dX2_isAt_4 (by decide) ka kb) (fun c4 => ?_) (fun c4 => ?_)
  · refine J.pu (fun _ _ _ _ k => lv_iconst (v := 0) X.1.1 X.1.2.1 dX2_isAt_40 (by decide) k) ?_
    exact J.zret (vr := jrI) (fin := fun _ : Int32 => σ) (t := t) X hr (by decide) (by rfl) (by rfl) dX2_isAt_41
  · refine J.pu (fun _ _ _ _ k => W.rload_n X.1.1 X.1.2.1 dX2_isAt_7 rfl (lv_at hl 2 rfl) k) ?_
    refine J.getIN (k := 2) (ci := 4) X in_X5 (show jCl[4]? = some (RX5, TX5, 10) from rfl) (by decide) jnf38 (fun _ h => h) dX2_isAt_8 (fun v8 h8 => ?_)
    refine J.br (fun _ _ _ _ ka kb => lv_if_ne (tgt := 40) X.1.1 X.1.2.1 dX2_isAt_11 (by decide) kb ka) (fun c11 => ?_) (fun c11 => ?_)
    · refine J.pu (fun _ _ _ _ k => W.rload_n X.1.1 X.1.2.1 dX2_isAt_14 rfl (lv_at hl 2 rfl) k) ?_
      refine J.getIN (k := 1) (ci := 4) X in_X5 (show jCl[4]? = some (RX5, TX5, 10) from rfl) (by decide) jnf35 (fun _ h => h) dX2_isAt_15 (fun v15 h15 => ?_)
      refine J.pu (fun _ _ _ _ k => W.rload_n X.1.1 X.1.2.1 dX2_isAt_18 rfl (lv_at hl 1 rfl) k) ?_
      refine J.getIN (k := 0) (ci := 3) X in_X4 (show jCl[3]? = some (RX4, TX4, 9) from rfl) (by decide) jnf17 (fun _ h => h) dX2_isAt_19 (fun v19 h19 => ?_)
      refine J.br (fun _ _ _ _ ka kb => lv_icmp_ne (tgt := 40) X.1.1 X.1.2.1 dX2_isAt_22 (by decide) kb ka) (fun c22 => ?_) (fun c22 => ?_)
      · refine J.pu (fun _ _ _ _ k => W.rload_n X.1.1 X.1.2.1 dX2_isAt_25 rfl (lv_at hl 2 rfl) k) ?_
        refine J.getIN (k := 6) (ci := 4) X in_X5 (show jCl[4]? = some (RX5, TX5, 10) from rfl) (by decide) jnf46 (fun _ h => h) dX2_isAt_26 (fun v26 h26 => ?_)
        refine J.pu (fun _ _ _ _ k => W.rload_n X.1.1 X.1.2.1 dX2_isAt_29 rfl (lv_at hl 1 rfl) k) ?_
        refine J.getIN (k := 1) (ci := 3) X in_X4 (show jCl[3]? = some (RX4, TX4, 9) from rfl) (by decide) jnf18 (fun _ h => h) dX2_isAt_30 (fun v30 h30 => ?_)
        refine J.br (fun _ _ _ _ ka kb => lv_icmp_ne (tgt := 40) X.1.1 X.1.2.1 dX2_isAt_33 (by decide) kb ka) (fun c33 => ?_) (fun c33 => ?_)
        · refine J.pu (fun _ _ _ _ k => lv_iconst (v := 1) X.1.1 X.1.2.1 dX2_isAt_36 (by decide) k) ?_
          refine J.pu (fun _ _ _ _ k => lv_goto (tgt := 41) X.1.1 X.1.2.1 dX2_isAt_37 (by decide) k) ?_
          exact J.zret (vr := jrI) (fin := fun _ : Int32 => σ) (t := t) X hr (by decide) (by rfl) (by rfl) dX2_isAt_41
        · refine J.pu (fun _ _ _ _ k => lv_iconst (v := 0) X.1.1 X.1.2.1 dX2_isAt_40 (by decide) k) ?_
          exact J.zret (vr := jrI) (fin := fun _ : Int32 => σ) (t := t) X hr (by decide) (by rfl) (by rfl) dX2_isAt_41
      · refine J.pu (fun _ _ _ _ k => lv_iconst (v := 0) X.1.1 X.1.2.1 dX2_isAt_40 (by decide) k) ?_
        exact J.zret (vr := jrI) (fin := fun _ : Int32 => σ) (t := t) X hr (by decide) (by rfl) (by rfl) dX2_isAt_41
    · refine J.pu (fun _ _ _ _ k => lv_iconst (v := 0) X.1.1 X.1.2.1 dX2_isAt_40 (by decide) k) ?_
      exact J.zret (vr := jrI) (fin := fun _ : Int32 => σ) (t := t) X hr (by decide) (by rfl) (by rfl) dX2_isAt_41
noncomputable def X2_comes_j70 (G : jG) (n : Nat) (this : Nat) (a1 : Option Nat) (a2 : Option Nat) (s0_70 : Option Nat) (s1_70 : Int32) (B70 : jH) : Option (Unit × jH) :=
  (aI B70 s0_70 0 s1_70).bind fun v71 => (sI G B70 s0_70 0 s1_70 (v71 + 1)).bind fun S74 => some ((), S74)
noncomputable def X2_comes_b (G : jG) (n : Nat) (σ : jH) (this : Nat) (a1 : Option Nat) (a2 : Option Nat) : Option (Unit × jH) :=
  (gR σ (some this) 1 5).bind fun v1 => (gI σ a2 4 5).bind fun v5 => (rc σ v1 2).bind fun o9 => bd (X3_lays G n σ o9 v5 none) fun v9 S9 => (gI S9 (some this) 1 7).bind fun v15 => (rc S9 a2 4).bind fun o18 => bd (X5_leaves G n S9 o18 1 v15) fun v18 S18 => (gI S18 a1 3 0).bind fun v23 => (pI G S18 a2 4 7 v23).bind fun S26 => (gR S26 a1 3 4).bind fun v30 => (rc S26 v30 16).bind fun o34 => bd (jck S26 (llAdd G S26 o34 a2)) fun v34 S34 => (gI S34 a1 3 7).bind fun v42 => (pI G S34 a1 3 7 (v42 + 1)).bind fun S47 => (gR S47 (some this) 1 6).bind fun v51 => (gI S47 a2 4 1).bind fun v55 => (gI S47 a1 3 0).bind fun v59 => if v55 = v59 then (X2_comes_j70 G n this a1 a2 v51 2 S47) else (X2_comes_j70 G n this a1 a2 v51 3 S47)
noncomputable def X2_comes (G : jG) (n : Nat) (σ : jH) (this : Nat) (a1 : Option Nat) (a2 : Option Nat) : Option (Unit × jH) := jck σ (X2_comes_b G n σ this a1 a2)
set_option maxHeartbeats 4000000 in
set_option maxRecDepth 100000 in
theorem ct_X2_comes (l : Launch) (G : jG) (n : Nat) (σ : jH) (this : Nat) (a1 : Option Nat) (a2 : Option Nat) : jCt l G yX2_comes (ws_ yX2_comes cX2_comes 3 none) 22 1246 jrV [.ref this, va_rf a1, va_rf a2] σ (X2_comes G n σ this a1 a2) := by
  refine jCt.wr (lv := [(0, .ref this), (1, va_rf a1), (2, va_rf a2)]) (plainFor_of_name (by decide)) (by simp [lg_sl, va_rf_cat, jcI, jcA, jcJ, jcD, jcF]) (by simp [lv_args, va_rf_cat, jcI, jcA, jcJ, jcD, jcF]) ?_
  intro t p e s m args below meth c ls X hr hnm hl
  have X : jCx p c cX2_comes 3 s m args RX2 G meth := X
  have j70 : ∀ (s0_70 : Option Nat) (s1_70 : Int32) (B70 : jH) (ls : Array Slot), lv_has ls 3 [] → jGo l G 22 1246 σ (Prod.snd : Unit × jH → jH) (fun t => jrV t.1) t p e s m args below meth c (X2_comes_j70 G n this a1 a2 s0_70 s1_70 B70) B70 (F0 m 70 ls [.int s1_70, va_rf s0_70]) := by
    intro s0_70 s1_70 B70 ls hl
    unfold X2_comes_j70
    refine J.pu (fun _ _ _ _ k => lv_dup2_11 X.1.1 X.1.2.1 dX2_comes_70 rfl (va_rf_cat _) k) ?_
    refine J.aI0 X dX2_comes_71 (fun v71 h71 => ?_)
    refine J.pu (fun _ _ _ _ k => lv_iconst (v := 1) X.1.1 X.1.2.1 dX2_comes_72 (by decide) k) ?_
    refine J.pu (fun _ _ _ _ k => lv_iadd X.1.1 X.1.2.1 dX2_comes_73 k) ?_
    refine J.sI0 X dX2_comes_74 (fun S74 h74 => ?_)
    exact J.vret (vr := fun t : Unit × jH => jrV t.1) (fin := Prod.snd) (t := t) X hr (by rfl) (by rfl) dX2_comes_75
  unfold X2_comes_b
  refine J.pu (fun _ _ _ _ k => lv_aload_n X.1.1 X.1.2.1 dX2_comes_0 rfl (lv_at hl 0 rfl) k) ?_
  refine J.getR (k := 5) (ci := 1) X in_X2 (show jCl[1]? = some (RX2, TX2, 9) from rfl) (by decide) q699 (fun _ h => h) dX2_comes_1 (fun v1 h1 => ?_)
  refine J.pu (fun _ _ _ _ k => W.rload_n X.1.1 X.1.2.1 dX2_comes_4 rfl (lv_at hl 2 rfl) k) ?_
  refine J.getIN (k := 5) (ci := 4) X in_X5 (show jCl[4]? = some (RX5, TX5, 10) from rfl) (by decide) jnf44 (fun _ h => h) dX2_comes_5 (fun v5 h5 => ?_)
  refine J.pu (fun _ _ _ _ k => lv_null X.1.1 X.1.2.1 dX2_comes_8 k) ?_
  refine J.bind (fun o9 g9 => ?_)
  refine J.bd' (fun v9 S9 h9 => ?_)
  refine J.cV (q := (RX3, TX3, 1)) (ci := 2) (As := [.int v5, va_rf none]) (rest := []) (s2 := []) X ⟨rfl, rfl⟩ (ct_X3_lays l G n σ o9 v5 none) h9 (fun _ _ => cwV 2 X.1.2.2.2.2 (lw_V q1044 q1034 q1035 q159 q1036) rfl rfl rfl (by decide +kernel) ⟨(Nat.le_of_ble_eq_true rfl), (Nat.le_of_ble_eq_true rfl)⟩) g9 rfl rfl hl.1 rfl rfl (Nat.le_of_ble_eq_true rfl) dX2_comes_9 ?_
  refine J.pu (fun _ _ _ _ k => W.rload_n X.1.1 X.1.2.1 dX2_comes_12 rfl (lv_at hl 2 rfl) k) ?_
  refine J.pu (fun _ _ _ _ k => lv_iconst (v := 1) X.1.1 X.1.2.1 dX2_comes_13 (by decide) k) ?_
  refine J.pu (fun _ _ _ _ k => lv_aload_n X.1.1 X.1.2.1 dX2_comes_14 rfl (lv_at hl 0 rfl) k) ?_
  refine J.getI (k := 7) (ci := 1) X in_X2 (show jCl[1]? = some (RX2, TX2, 9) from rfl) (by decide) q704 (fun _ h => h) dX2_comes_15 (fun v15 h15 => ?_)
  refine J.bind (fun o18 g18 => ?_)
  refine J.bd' (fun v18 S18 h18 => ?_)
  refine J.cV (q := (RX5, TX5, 10)) (ci := 4) (As := [.int 1, .int v15]) (rest := []) (s2 := []) X ⟨rfl, rfl⟩ (ct_X5_leaves l G n S9 o18 1 v15) h18 (fun _ _ => cwV 2 X.1.2.2.2.2 (lw_V q2107 q2108 q2109 q167 q2110) rfl rfl rfl (by decide +kernel) ⟨(Nat.le_of_ble_eq_true rfl), (Nat.le_of_ble_eq_true rfl)⟩) g18 rfl rfl hl.1 rfl rfl (Nat.le_of_ble_eq_true rfl) dX2_comes_18 ?_
  refine J.pu (fun _ _ _ _ k => W.rload_n X.1.1 X.1.2.1 dX2_comes_21 rfl (lv_at hl 2 rfl) k) ?_
  refine J.pu (fun _ _ _ _ k => W.rload_n X.1.1 X.1.2.1 dX2_comes_22 rfl (lv_at hl 1 rfl) k) ?_
  refine J.getIN (k := 0) (ci := 3) X in_X4 (show jCl[3]? = some (RX4, TX4, 9) from rfl) (by decide) jnf17 (fun _ h => h) dX2_comes_23 (fun v23 h23 => ?_)
  refine J.putIN (k := 7) (ci := 4) X in_X5 (show jCl[4]? = some (RX5, TX5, 10) from rfl) tyX5_ok (fun a ha b hb h => Or.inl (nmX5 a ha b hb h)) (by decide) jnf48 (fun _ h => h) rfl rfl dX2_comes_26 (fun S26 h26 => ?_)
  refine J.pu (fun _ _ _ _ k => W.rload_n X.1.1 X.1.2.1 dX2_comes_29 rfl (lv_at hl 1 rfl) k) ?_
  refine J.getRN (k := 4) (ci := 3) X in_X4 (show jCl[3]? = some (RX4, TX4, 9) from rfl) (by decide) jnf23 (fun _ h => h) dX2_comes_30 (fun v30 h30 => ?_)
  refine J.pu (fun _ _ _ _ k => W.rload_n X.1.1 X.1.2.1 dX2_comes_33 rfl (lv_at hl 2 rfl) k) ?_
  refine J.bind (fun o34 g34 => ?_)
  refine J.bd' (fun v34 S34 h34 => ?_)
  refine J.cF (q := (RJ19, TJ19, 4)) (ci := 16) (As := [va_rf a2]) (rest := []) (s2 := [.int v34]) X ⟨rfl, rfl⟩ (ct_J19_add l G S26 o34 a2) h34 (fun _ _ => va_cwF 1 X.1.2.2.2.2 (lw_F q914 q648 q650 q163 q652) rfl rfl rfl (jfw1 X.2.1) (by decide +kernel) ⟨(Nat.le_of_ble_eq_true rfl), (Nat.le_of_ble_eq_true rfl)⟩) g34 rfl rfl hl.1 rfl rfl (Nat.le_of_ble_eq_true rfl) dX2_comes_34 ?_
  refine J.pu (fun _ _ _ _ k => lv_pop X.1.1 X.1.2.1 dX2_comes_39 rfl k) ?_
  refine J.pu (fun _ _ _ _ k => W.rload_n X.1.1 X.1.2.1 dX2_comes_40 rfl (lv_at hl 1 rfl) k) ?_
  refine J.pu (fun _ _ _ _ k => lv_dup X.1.1 X.1.2.1 dX2_comes_41 (va_rf_cat _) k) ?_
  refine J.getIN (k := 7) (ci := 3) X in_X4 (show jCl[3]? = some (RX4, TX4, 9) from rfl) (by decide) jnf29 (fun _ h => h) dX2_comes_42 (fun v42 h42 => ?_)
  refine J.pu (fun _ _ _ _ k => lv_iconst (v := 1) X.1.1 X.1.2.1 dX2_comes_45 (by decide) k) ?_
  refine J.pu (fun _ _ _ _ k => lv_iadd X.1.1 X.1.2.1 dX2_comes_46 k) ?_
  refine J.putIN (k := 7) (ci := 3) X in_X4 (show jCl[3]? = some (RX4, TX4, 9) from rfl) tyX4_ok (fun a ha b hb h => Or.inl (nmX4 a ha b hb h)) (by decide) jnf29 (fun _ h => h) rfl rfl dX2_comes_47 (fun S47 h47 => ?_)
  refine J.pu (fun _ _ _ _ k => lv_aload_n X.1.1 X.1.2.1 dX2_comes_50 rfl (lv_at hl 0 rfl) k) ?_
  refine J.getR (k := 6) (ci := 1) X in_X2 (show jCl[1]? = some (RX2, TX2, 9) from rfl) (by decide) q701 (fun _ h => h) dX2_comes_51 (fun v51 h51 => ?_)
  refine J.pu (fun _ _ _ _ k => W.rload_n X.1.1 X.1.2.1 dX2_comes_54 rfl (lv_at hl 2 rfl) k) ?_
  refine J.getIN (k := 1) (ci := 4) X in_X5 (show jCl[4]? = some (RX5, TX5, 10) from rfl) (by decide) jnf35 (fun _ h => h) dX2_comes_55 (fun v55 h55 => ?_)
  refine J.pu (fun _ _ _ _ k => W.rload_n X.1.1 X.1.2.1 dX2_comes_58 rfl (lv_at hl 1 rfl) k) ?_
  refine J.getIN (k := 0) (ci := 3) X in_X4 (show jCl[3]? = some (RX4, TX4, 9) from rfl) (by decide) jnf17 (fun _ h => h) dX2_comes_59 (fun v59 h59 => ?_)
  refine J.br (fun _ _ _ _ ka kb => lv_icmp_ne (tgt := 69) X.1.1 X.1.2.1 dX2_comes_62 (by decide) kb ka) (fun c62 => ?_) (fun c62 => ?_)
  · refine J.pu (fun _ _ _ _ k => lv_iconst (v := 2) X.1.1 X.1.2.1 dX2_comes_65 (by decide) k) ?_
    refine J.pu (fun _ _ _ _ k => lv_goto (tgt := 70) X.1.1 X.1.2.1 dX2_comes_66 (by decide) k) ?_
    exact j70 v51 2 S47 ls (lv_sub hl [] rfl)
  · refine J.pu (fun _ _ _ _ k => lv_iconst (v := 3) X.1.1 X.1.2.1 dX2_comes_69 (by decide) k) ?_
    exact j70 v51 3 S47 ls (lv_sub hl [] rfl)
noncomputable def X3_clears_h2 (G : jG) (n : Nat) (this : Nat) (rec2 : Int32 × jH → Option (Unit × jH)) (q2 : Int32 × jH) : Option (Unit × jH) :=
  let x1_2 := q2.1; let B2 := q2.2; (gR B2 (some this) 2 0).bind fun v4 => (rc B2 v4 15).bind fun o7 => (lSize 0 B2 o7).bind fun v7 => if v7 ≤ x1_2 then (some ((), B2)) else ((rc B2 (some this) 2).bind fun o18 => bd (X3_lays G n B2 o18 x1_2 none) fun v18 S18 => rec2 ((x1_2 + 1), S18))
noncomputable def X3_clears_b (G : jG) (n : Nat) (σ : jH) (this : Nat) : Option (Unit × jH) :=
  jloop (X3_clears_h2 G n this) n (0, σ)
noncomputable def X3_clears (G : jG) (n : Nat) (σ : jH) (this : Nat) : Option (Unit × jH) := jck σ (X3_clears_b G n σ this)
set_option maxHeartbeats 4000000 in
set_option maxRecDepth 100000 in
theorem ct_X3_clears (l : Launch) (G : jG) (n : Nat) (σ : jH) (this : Nat) : jCt l G yX3_clears (ws_ yX3_clears cX3_clears 2 none) 22 1246 jrV [.ref this] σ (X3_clears G n σ this) := by
  refine jCt.wr (lv := [(0, .ref this)]) (plainFor_of_name (by decide)) (Nat.le_of_ble_eq_true rfl) rfl ?_
  intro t p e s m args below meth c ls X hr hnm hl
  have X : jCx p c cX3_clears 2 s m args RX3 G meth := X
  have L2 : ∀ (n2 : Nat) (x1_2 : Int32) (B2 : jH) (ls : Array Slot), lv_has ls 2 [(0, .ref this), (1, .int x1_2)] → jGo l G 22 1246 σ (Prod.snd : Unit × jH → jH) (fun t => jrV t.1) t p e s m args below meth c (jloop (X3_clears_h2 G n this) n2 (x1_2, B2)) B2 (F0 m 2 ls []) := by
    intro n2
    induction n2 with
    | zero => intro x1_2 B2 ls hl; exact J.nil_
    | succ n2 ih2 =>
      intro x1_2 B2 ls hl
      refine J.eq (jloop_s _ _ _) ?_
      dsimp only [X3_clears_h2]
      refine J.pu (fun _ _ _ _ k => lv_iload_n X.1.1 X.1.2.1 dX3_clears_2 rfl (lv_at hl 1 rfl) k) ?_
      refine J.pu (fun _ _ _ _ k => lv_aload_n X.1.1 X.1.2.1 dX3_clears_3 rfl (lv_at hl 0 rfl) k) ?_
      refine J.getR (k := 0) (ci := 2) X in_X3 (show jCl[2]? = some (RX3, TX3, 1) from rfl) (by decide) q680 (fun _ h => h) dX3_clears_4 (fun v4 h4 => ?_)
      refine J.bind (fun o7 g7 => ?_)
      refine J.bind (fun v7 h7 => ?_)
      refine J.cF (q := (RJ2, TJ2, 3)) (ci := 15) (As := []) (rest := [.int x1_2]) (s2 := [.int v7, .int x1_2]) X ⟨rfl, rfl⟩ (ct_J2_size l G B2 o7) (jrd_of h7) (fun _ _ => va_cwF 0 X.1.2.2.2.2 (lw_F q1032 q832 q834 q142 q836) rfl rfl rfl (jfw2 X.2.1) (by decide +kernel) ⟨(Nat.le_of_ble_eq_true rfl), (Nat.le_of_ble_eq_true rfl)⟩) g7 rfl rfl hl.1 rfl rfl (Nat.le_of_ble_eq_true rfl) dX3_clears_7 ?_
      refine J.br (fun _ _ _ _ ka kb => lv_icmp_ge (tgt := 27) X.1.1 X.1.2.1 dX3_clears_12 (by decide) ka kb) (fun c12 => ?_) (fun c12 => ?_)
      · exact J.vret (vr := fun t : Unit × jH => jrV t.1) (fin := Prod.snd) (t := t) X hr (by rfl) (by rfl) dX3_clears_27
      · refine J.pu (fun _ _ _ _ k => lv_aload_n X.1.1 X.1.2.1 dX3_clears_15 rfl (lv_at hl 0 rfl) k) ?_
        refine J.pu (fun _ _ _ _ k => lv_iload_n X.1.1 X.1.2.1 dX3_clears_16 rfl (lv_at hl 1 rfl) k) ?_
        refine J.pu (fun _ _ _ _ k => lv_null X.1.1 X.1.2.1 dX3_clears_17 k) ?_
        refine J.bind (fun o18 g18 => ?_)
        refine J.bd' (fun v18 S18 h18 => ?_)
        refine J.cV (q := (RX3, TX3, 1)) (ci := 2) (As := [.int x1_2, va_rf none]) (rest := []) (s2 := []) X ⟨rfl, rfl⟩ (ct_X3_lays l G n B2 o18 x1_2 none) h18 (fun _ _ => cwV 2 X.1.2.2.2.2 (lw_V q1033 q1034 q1035 q159 q1036) rfl rfl rfl (by decide +kernel) ⟨(Nat.le_of_ble_eq_true rfl), (Nat.le_of_ble_eq_true rfl)⟩) g18 rfl rfl hl.1 rfl rfl (Nat.le_of_ble_eq_true rfl) dX3_clears_18 ?_
        refine J.iinc (k := 1) (lv' := [(1, .int (x1_2 + 1)), (0, .ref this)]) (w := (x1_2 + 1)) X.1.1 X.1.2.1 dX3_clears_21 hl rfl rfl (by decide) (by first | rfl | simp [va_rf_cat, jcI, jcA, jcJ, jcD, jcF]) (fun ls hl => ?_)
        refine J.pu (fun _ _ _ _ k => lv_goto (tgt := 2) X.1.1 X.1.2.1 dX3_clears_24 (by decide) k) ?_
        exact ih2 (x1_2 + 1) S18 ls (lv_sub hl [1, 0] rfl)
  unfold X3_clears_b
  refine J.pu (fun _ _ _ _ k => lv_iconst (v := 0) X.1.1 X.1.2.1 dX3_clears_0 (by decide) k) ?_
  refine J.istore_n (i := 1) (lv' := [(1, .int 0), (0, .ref this)]) X.1.1 X.1.2.1 dX3_clears_1 rfl hl (by decide) (by first | rfl | simp [va_rf_cat, jcI, jcA, jcJ, jcD, jcF]) (fun ls hl => ?_)
  exact L2 n 0 σ ls (lv_sub hl [1, 0] rfl)
noncomputable def X5_twin_b (G : jG) (n : Nat) (σ : jH) (this : Nat) : Option ((Option Nat) × jH) :=
  bd (nO σ 4 [.int 0, .int 0, .int 0, .int 0, .int 0, .int 0, .int 0, .int 0, .int 0, .int 0] 10) fun v0 S0 => (gI S0 (some this) 4 0).bind fun v5 => (gI S0 (some this) 4 1).bind fun v9 => (gI S0 (some this) 4 2).bind fun v13 => (gI S0 (some this) 4 5).bind fun v17 => bd (X5_init G n S0 v0 v5 v9 v13 v17) fun v20 S20 => (rc S20 (some v0) 4).bind fun o24 => bd (X5_takes G n S20 o24 (some this)) fun v24 S24 => some (v24, S24)
noncomputable def X5_twin (G : jG) (n : Nat) (σ : jH) (this : Nat) : Option ((Option Nat) × jH) := jck σ (X5_twin_b G n σ this)
set_option maxHeartbeats 4000000 in
set_option maxRecDepth 100000 in
theorem ct_X5_twin (l : Launch) (G : jG) (n : Nat) (σ : jH) (this : Nat) : jCt l G yX5_twin (ws_ yX5_twin cX5_twin 1 (some (.object "SortingLoop$Parcel"))) 2 54 jrR [.ref this] σ (X5_twin G n σ this) := by
  refine jCt.wr (lv := [(0, .ref this)]) (plainFor_of_name (by decide)) (Nat.le_of_ble_eq_true rfl) rfl ?_
  intro t p e s m args below meth c ls X hr hnm hl
  have X : jCx p c cX5_twin 1 s m args RX5 G meth := X
  unfold X5_twin_b
  refine J.nO' (fs := [.int 0, .int 0, .int 0, .int 0, .int 0, .int 0, .int 0, .int 0, .int 0, .int 0]) X ⟨rfl, rfl⟩ in_X5 (show jCl[4]? = some (RX5, TX5, 10) from rfl) tyX5 tyX5_ok q951 q952 q167 rfl dX5_twin_0 (fun v0 S0 h0 => ?_)
  refine J.pu (fun _ _ _ _ k => lv_dup X.1.1 X.1.2.1 dX5_twin_3 rfl k) ?_
  refine J.pu (fun _ _ _ _ k => lv_aload_n X.1.1 X.1.2.1 dX5_twin_4 rfl (lv_at hl 0 rfl) k) ?_
  refine J.getI (k := 0) (ci := 4) X in_X5 (show jCl[4]? = some (RX5, TX5, 10) from rfl) (by decide) q957 (fun _ h => h) dX5_twin_5 (fun v5 h5 => ?_)
  refine J.pu (fun _ _ _ _ k => lv_aload_n X.1.1 X.1.2.1 dX5_twin_8 rfl (lv_at hl 0 rfl) k) ?_
  refine J.getI (k := 1) (ci := 4) X in_X5 (show jCl[4]? = some (RX5, TX5, 10) from rfl) (by decide) q960 (fun _ h => h) dX5_twin_9 (fun v9 h9 => ?_)
  refine J.pu (fun _ _ _ _ k => lv_aload_n X.1.1 X.1.2.1 dX5_twin_12 rfl (lv_at hl 0 rfl) k) ?_
  refine J.getI (k := 2) (ci := 4) X in_X5 (show jCl[4]? = some (RX5, TX5, 10) from rfl) (by decide) q964 (fun _ h => h) dX5_twin_13 (fun v13 h13 => ?_)
  refine J.pu (fun _ _ _ _ k => lv_aload_n X.1.1 X.1.2.1 dX5_twin_16 rfl (lv_at hl 0 rfl) k) ?_
  refine J.getI (k := 5) (ci := 4) X in_X5 (show jCl[4]? = some (RX5, TX5, 10) from rfl) (by decide) q973 (fun _ h => h) dX5_twin_17 (fun v17 h17 => ?_)
  refine J.bd' (fun v20 S20 h20 => ?_)
  refine J.cI (a := v0) (As := [.int v5, .int v9, .int v13, .int v17]) (rest := [.ref v0]) (s2 := [.ref v0]) X ⟨rfl, rfl⟩ (ct_X5_init l G n S0 v0 v5 v9 v13 v17) h20 (fun _ _ => jcwI 4 X.1.2.2.2.2 q953 q954 q167 q955 rfl rfl rfl (by decide +kernel) ⟨(Nat.le_of_ble_eq_true rfl), (Nat.le_of_ble_eq_true rfl)⟩) rfl hl.1 rfl rfl (Nat.le_of_ble_eq_true rfl) dX5_twin_20 ?_
  refine J.pu (fun _ _ _ _ k => lv_aload_n X.1.1 X.1.2.1 dX5_twin_23 rfl (lv_at hl 0 rfl) k) ?_
  refine J.bind (fun o24 g24 => ?_)
  refine J.bd' (fun v24 S24 h24 => ?_)
  refine J.cV (q := (RX5, TX5, 10)) (ci := 4) (As := [.ref this]) (rest := []) (s2 := [va_rf v24]) X ⟨rfl, rfl⟩ (ct_X5_takes l G n S20 o24 (some this)) h24 (fun _ _ => cwV 1 X.1.2.2.2.2 (lw_V q1008 q1009 q1010 q167 q1011) rfl rfl rfl (by decide +kernel) ⟨(Nat.le_of_ble_eq_true rfl), (Nat.le_of_ble_eq_true rfl)⟩) g24 rfl rfl hl.1 rfl rfl (Nat.le_of_ble_eq_true rfl) dX5_twin_24 ?_
  exact J.aret (vr := fun t : (Option Nat) × jH => jrR t.1) (fin := Prod.snd) (t := t) X hr (Or.inl ⟨_, rfl⟩) (by rfl) (by rfl) dX5_twin_27
noncomputable def X7_advance_X8_j26 (G : jG) (n : Nat) (this : Nat) (rec0 : jH → Option (Unit × jH)) (B26 : jH) : Option (Unit × jH) :=
  (gI B26 (some this) 6 1).bind fun v28 => (pI G B26 (some this) 6 1 (v28 + 1)).bind fun S33 => rec0 S33
noncomputable def X7_advance_X8_j257 (G : jG) (n : Nat) (this : Nat) (s1_257 : Int32) (B257 : jH) : Option (Unit × jH) :=
  (pI G B257 (some this) 6 2 s1_257).bind fun S257 => (gI S257 (some this) 6 1).bind fun v262 => (pI G S257 (some this) 6 1 (v262 + 1)).bind fun S267 => some ((), S267)
noncomputable def X7_advance_X8_j208 (G : jG) (n : Nat) (this : Nat) (s1_208 : Int32) (B208 : jH) : Option (Unit × jH) :=
  (pI G B208 (some this) 6 2 s1_208).bind fun S208 => (gI S208 (some this) 6 2).bind fun v213 => if v213 = 1 then ((gI S208 (some this) 6 0).bind fun v222 => (gI S208 (some this) 6 1).bind fun v226 => (rc S208 (some this) 6).bind fun o229 => bd (X7_text_X8 G n S208 o229 v222 v226) fun v229 S229 => (stInt G S229 v229).bind fun v232 => (pI G S229 (some this) 6 3 v232).bind fun S239 => some ((), S239)) else ((pI G S208 (some this) 6 3 0).bind fun S239 => some ((), S239))
noncomputable def X7_advance_X8_j125 (G : jG) (n : Nat) (this : Nat) (s1_125 : Int32) (B125 : jH) : Option (Unit × jH) :=
  (pI G B125 (some this) 6 2 s1_125).bind fun S125 => (gI S125 (some this) 6 2).bind fun v130 => if v130 = 0 then ((gI S125 (some this) 6 0).bind fun v138 => (gI S125 (some this) 6 1).bind fun v142 => (rc S125 (some this) 6).bind fun o145 => bd (X7_text_X8 G n S125 o145 v138 v142) fun v145 S145 => (pR G S145 (some this) 6 4 v145).bind fun S153 => some ((), S153)) else ((pR G S125 (some this) 6 4 (G.2.2.2 7)).bind fun S153 => some ((), S153))
noncomputable def X7_advance_X8_h0 (G : jG) (n : Nat) (this : Nat) (rec0 : jH → Option (Unit × jH)) (q0 : jH) : Option (Unit × jH) :=
  let B0 := q0; (gI B0 (some this) 6 1).bind fun v2 => (rc B0 (some this) 6).bind fun o5 => (X7_at_X8 G n B0 o5 v2).bind fun v5 => if v5 = 32 then (X7_advance_X8_j26 G n this rec0 B0) else ((gI B0 (some this) 6 1).bind fun v15 => (rc B0 (some this) 6).bind fun o18 => (X7_at_X8 G n B0 o18 v15).bind fun v18 => if v18 = 10 then (X7_advance_X8_j26 G n this rec0 B0) else ((gI B0 (some this) 6 1).bind fun v41 => (pI G B0 (some this) 6 0 v41).bind fun S44 => (pR G S44 (some this) 6 4 (G.2.2.2 7)).bind fun S50 => (gI S50 (some this) 6 0).bind fun v55 => (rc S50 (some this) 6).bind fun o58 => (X7_at_X8 G n S50 o58 v55).bind fun v58 => if v58 = (-1) then ((pI G S50 (some this) 6 2 3).bind fun S69 => some ((), S69)) else ((X1_isIn G n S50 v58.toInt64 97 122).bind fun v83 => if v83 = 0 then ((X1_isIn G n S50 v58.toInt64 48 57).bind fun v167 => if v167 = 0 then (if v58 = 59 then (X7_advance_X8_j257 G n this 2 S50) else (X7_advance_X8_j257 G n this 4 S50)) else ((gI S50 (some this) 6 0).bind fun v176 => (rc S50 (some this) 6).bind fun o183 => (X7_past_X8 G n S50 o183 v176 48 57).bind fun v183 => (pI G S50 (some this) 6 1 v183).bind fun S186 => (gI S186 (some this) 6 1).bind fun v191 => (gI S186 (some this) 6 0).bind fun v195 => if 3 < (v191 - v195) then (X7_advance_X8_j208 G n this 4 S186) else (X7_advance_X8_j208 G n this 1 S186))) else ((gI S50 (some this) 6 0).bind fun v92 => (rc S50 (some this) 6).bind fun o99 => (X7_past_X8 G n S50 o99 v92 97 122).bind fun v99 => (pI G S50 (some this) 6 1 v99).bind fun S102 => (gI S102 (some this) 6 1).bind fun v107 => (gI S102 (some this) 6 0).bind fun v111 => if 8 < (v107 - v111) then (X7_advance_X8_j125 G n this 4 S102) else (X7_advance_X8_j125 G n this 0 S102)))))
noncomputable def X7_advance_X8_b (G : jG) (n : Nat) (σ : jH) (this : Nat) : Option (Unit × jH) :=
  jloop (X7_advance_X8_h0 G n this) n σ
noncomputable def X7_advance_X8 (G : jG) (n : Nat) (σ : jH) (this : Nat) : Option (Unit × jH) := jck σ (X7_advance_X8_b G n σ this)
set_option maxHeartbeats 4000000 in
set_option maxRecDepth 100000 in
theorem ct_X7_advance_X8 (l : Launch) (G : jG) (n : Nat) (σ : jH) (this : Nat) : jCt l G yX7_advance (ws_ yX7_advance cX7_advance 2 none) 22 1245 jrV [.ref this] σ (X7_advance_X8 G n σ this) := by
  refine jCt.wr (lv := [(0, .ref this)]) (plainFor_of_name (by decide)) (Nat.le_of_ble_eq_true rfl) rfl ?_
  intro t p e s m args below meth c ls X hr hnm hl
  have X : jCx p c cX7_advance 2 s m args RX7 G meth := X
  have j257 : ∀ (s1_257 : Int32) (B257 : jH) (ls : Array Slot), lv_has ls 2 [(0, .ref this)] → jGo l G 22 1245 σ (Prod.snd : Unit × jH → jH) (fun t => jrV t.1) t p e s m args below meth c (X7_advance_X8_j257 G n this s1_257 B257) B257 (F0 m 257 ls [.int s1_257, .ref this]) := by
    intro s1_257 B257 ls hl
    unfold X7_advance_X8_j257
    refine J.putI (k := 2) (ci := 6) X in_X8 (show jCl[6]? = some (RX8, TX8, 8) from rfl) tyX8_ok jap_X8 (by decide) q1521 (fun _ h => h) rfl rfl dX7_advance_257 (fun S257 h257 => ?_)
    refine J.pu (fun _ _ _ _ k => lv_aload_n X.1.1 X.1.2.1 dX7_advance_260 rfl (lv_at hl 0 rfl) k) ?_
    refine J.pu (fun _ _ _ _ k => lv_dup X.1.1 X.1.2.1 dX7_advance_261 rfl k) ?_
    refine J.getI (k := 1) (ci := 6) X in_X8 (show jCl[6]? = some (RX8, TX8, 8) from rfl) (by decide) q1520 (fun _ h => h) dX7_advance_262 (fun v262 h262 => ?_)
    refine J.pu (fun _ _ _ _ k => lv_iconst (v := 1) X.1.1 X.1.2.1 dX7_advance_265 (by decide) k) ?_
    refine J.pu (fun _ _ _ _ k => lv_iadd X.1.1 X.1.2.1 dX7_advance_266 k) ?_
    refine J.putI (k := 1) (ci := 6) X in_X8 (show jCl[6]? = some (RX8, TX8, 8) from rfl) tyX8_ok jap_X8 (by decide) q1520 (fun _ h => h) rfl rfl dX7_advance_267 (fun S267 h267 => ?_)
    exact J.vret (vr := fun t : Unit × jH => jrV t.1) (fin := Prod.snd) (t := t) X hr (by rfl) (by rfl) dX7_advance_270
  have j208 : ∀ (s1_208 : Int32) (B208 : jH) (ls : Array Slot), lv_has ls 2 [(0, .ref this)] → jGo l G 22 1245 σ (Prod.snd : Unit × jH → jH) (fun t => jrV t.1) t p e s m args below meth c (X7_advance_X8_j208 G n this s1_208 B208) B208 (F0 m 208 ls [.int s1_208, .ref this]) := by
    intro s1_208 B208 ls hl
    unfold X7_advance_X8_j208
    refine J.putI (k := 2) (ci := 6) X in_X8 (show jCl[6]? = some (RX8, TX8, 8) from rfl) tyX8_ok jap_X8 (by decide) q1521 (fun _ h => h) rfl rfl dX7_advance_208 (fun S208 h208 => ?_)
    refine J.pu (fun _ _ _ _ k => lv_aload_n X.1.1 X.1.2.1 dX7_advance_211 rfl (lv_at hl 0 rfl) k) ?_
    refine J.pu (fun _ _ _ _ k => lv_aload_n X.1.1 X.1.2.1 dX7_advance_212 rfl (lv_at hl 0 rfl) k) ?_
    refine J.getI (k := 2) (ci := 6) X in_X8 (show jCl[6]? = some (RX8, TX8, 8) from rfl) (by decide) q1521 (fun _ h => h) dX7_advance_213 (fun v213 h213 => ?_)
    refine J.pu (fun _ _ _ _ k => lv_iconst (v := 1) X.1.1 X.1.2.1 dX7_advance_216 (by decide) k) ?_
    refine J.br (fun _ _ _ _ ka kb => lv_icmp_ne (tgt := 238) X.1.1 X.1.2.1 dX7_advance_217 (by decide) kb ka) (fun c217 => ?_) (fun c217 => ?_)
    · refine J.pu (fun _ _ _ _ k => lv_aload_n X.1.1 X.1.2.1 dX7_advance_220 rfl (lv_at hl 0 rfl) k) ?_
      refine J.pu (fun _ _ _ _ k => lv_aload_n X.1.1 X.1.2.1 dX7_advance_221 rfl (lv_at hl 0 rfl) k) ?_
      refine J.getI (k := 0) (ci := 6) X in_X8 (show jCl[6]? = some (RX8, TX8, 8) from rfl) (by decide) q1519 (fun _ h => h) dX7_advance_222 (fun v222 h222 => ?_)
      refine J.pu (fun _ _ _ _ k => lv_aload_n X.1.1 X.1.2.1 dX7_advance_225 rfl (lv_at hl 0 rfl) k) ?_
      refine J.getI (k := 1) (ci := 6) X in_X8 (show jCl[6]? = some (RX8, TX8, 8) from rfl) (by decide) q1520 (fun _ h => h) dX7_advance_226 (fun v226 h226 => ?_)
      refine J.bind (fun o229 g229 => ?_)
      refine J.bd' (fun v229 S229 h229 => ?_)
      refine J.cV (q := (RX8, TX8, 8)) (ci := 6) (As := [.int v222, .int v226]) (rest := [.ref this]) (s2 := [va_rf v229, .ref this]) X ⟨rfl, rfl⟩ (ct_X7_text_X8 l G n S208 o229 v222 v226) h229 (fun _ _ => jcwP (cwV 2 X.1.2.2.2.2 (lw_V q1405 q1407 qs17 q175 q1408) rfl rfl rfl (by decide +kernel) ⟨(Nat.le_of_ble_eq_true rfl), (Nat.le_of_ble_eq_true rfl)⟩) (jsl4 X.2.1)) g229 rfl rfl hl.1 rfl rfl (Nat.le_of_ble_eq_true rfl) dX7_advance_229 ?_
      refine J.bind (fun v232 h232 => ?_)
      refine J.cS (As := [va_rf v229]) (rest := [.ref this]) (s2 := [.int v232, .ref this]) X ⟨rfl, rfl⟩ (ct_J16_parseInt l G S229 v229) (jrd_of h232) (fun _ _ => va_cwS 1 X.1.2.2.2.2 (lw_S q1434 q1435 q158 q1436) rfl rfl rfl (by decide +kernel) ⟨(Nat.le_of_ble_eq_true rfl), (Nat.le_of_ble_eq_true rfl)⟩) rfl hl.1 rfl rfl (Nat.le_of_ble_eq_true rfl) dX7_advance_232 ?_
      refine J.pu (fun _ _ _ _ k => lv_goto (tgt := 239) X.1.1 X.1.2.1 dX7_advance_235 (by decide) k) ?_
      refine J.putI (k := 3) (ci := 6) X in_X8 (show jCl[6]? = some (RX8, TX8, 8) from rfl) tyX8_ok jap_X8 (by decide) q1522 (fun _ h => h) rfl rfl dX7_advance_239 (fun S239 h239 => ?_)
      refine J.pu (fun _ _ _ _ k => lv_goto (tgt := 270) X.1.1 X.1.2.1 dX7_advance_242 (by decide) k) ?_
      exact J.vret (vr := fun t : Unit × jH => jrV t.1) (fin := Prod.snd) (t := t) X hr (by rfl) (by rfl) dX7_advance_270
    · refine J.pu (fun _ _ _ _ k => lv_iconst (v := 0) X.1.1 X.1.2.1 dX7_advance_238 (by decide) k) ?_
      refine J.putI (k := 3) (ci := 6) X in_X8 (show jCl[6]? = some (RX8, TX8, 8) from rfl) tyX8_ok jap_X8 (by decide) q1522 (fun _ h => h) rfl rfl dX7_advance_239 (fun S239 h239 => ?_)
      refine J.pu (fun _ _ _ _ k => lv_goto (tgt := 270) X.1.1 X.1.2.1 dX7_advance_242 (by decide) k) ?_
      exact J.vret (vr := fun t : Unit × jH => jrV t.1) (fin := Prod.snd) (t := t) X hr (by rfl) (by rfl) dX7_advance_270
  have j125 : ∀ (s1_125 : Int32) (B125 : jH) (ls : Array Slot), lv_has ls 2 [(0, .ref this)] → jGo l G 22 1245 σ (Prod.snd : Unit × jH → jH) (fun t => jrV t.1) t p e s m args below meth c (X7_advance_X8_j125 G n this s1_125 B125) B125 (F0 m 125 ls [.int s1_125, .ref this]) := by
    intro s1_125 B125 ls hl
    unfold X7_advance_X8_j125
    refine J.putI (k := 2) (ci := 6) X in_X8 (show jCl[6]? = some (RX8, TX8, 8) from rfl) tyX8_ok jap_X8 (by decide) q1521 (fun _ h => h) rfl rfl dX7_advance_125 (fun S125 h125 => ?_)
    refine J.pu (fun _ _ _ _ k => lv_aload_n X.1.1 X.1.2.1 dX7_advance_128 rfl (lv_at hl 0 rfl) k) ?_
    refine J.pu (fun _ _ _ _ k => lv_aload_n X.1.1 X.1.2.1 dX7_advance_129 rfl (lv_at hl 0 rfl) k) ?_
    refine J.getI (k := 2) (ci := 6) X in_X8 (show jCl[6]? = some (RX8, TX8, 8) from rfl) (by decide) q1521 (fun _ h => h) dX7_advance_130 (fun v130 h130 => ?_)
    refine J.br (fun _ _ _ _ ka kb => lv_if_ne (tgt := 151) X.1.1 X.1.2.1 dX7_advance_133 (by decide) kb ka) (fun c133 => ?_) (fun c133 => ?_)
    · refine J.pu (fun _ _ _ _ k => lv_aload_n X.1.1 X.1.2.1 dX7_advance_136 rfl (lv_at hl 0 rfl) k) ?_
      refine J.pu (fun _ _ _ _ k => lv_aload_n X.1.1 X.1.2.1 dX7_advance_137 rfl (lv_at hl 0 rfl) k) ?_
      refine J.getI (k := 0) (ci := 6) X in_X8 (show jCl[6]? = some (RX8, TX8, 8) from rfl) (by decide) q1519 (fun _ h => h) dX7_advance_138 (fun v138 h138 => ?_)
      refine J.pu (fun _ _ _ _ k => lv_aload_n X.1.1 X.1.2.1 dX7_advance_141 rfl (lv_at hl 0 rfl) k) ?_
      refine J.getI (k := 1) (ci := 6) X in_X8 (show jCl[6]? = some (RX8, TX8, 8) from rfl) (by decide) q1520 (fun _ h => h) dX7_advance_142 (fun v142 h142 => ?_)
      refine J.bind (fun o145 g145 => ?_)
      refine J.bd' (fun v145 S145 h145 => ?_)
      refine J.cV (q := (RX8, TX8, 8)) (ci := 6) (As := [.int v138, .int v142]) (rest := [.ref this]) (s2 := [va_rf v145, .ref this]) X ⟨rfl, rfl⟩ (ct_X7_text_X8 l G n S125 o145 v138 v142) h145 (fun _ _ => jcwP (cwV 2 X.1.2.2.2.2 (lw_V q1405 q1407 qs17 q175 q1408) rfl rfl rfl (by decide +kernel) ⟨(Nat.le_of_ble_eq_true rfl), (Nat.le_of_ble_eq_true rfl)⟩) (jsl4 X.2.1)) g145 rfl rfl hl.1 rfl rfl (Nat.le_of_ble_eq_true rfl) dX7_advance_145 ?_
      refine J.pu (fun _ _ _ _ k => lv_goto (tgt := 153) X.1.1 X.1.2.1 dX7_advance_148 (by decide) k) ?_
      refine J.putR (k := 4) (ci := 6) X in_X8 (show jCl[6]? = some (RX8, TX8, 8) from rfl) tyX8_ok jap_X8 (by decide) q1523 (fun _ h => h) rfl (Or.inl ⟨_, rfl⟩) dX7_advance_153 (fun S153 h153 => ?_)
      refine J.pu (fun _ _ _ _ k => lv_goto (tgt := 270) X.1.1 X.1.2.1 dX7_advance_156 (by decide) k) ?_
      exact J.vret (vr := fun t : Unit × jH => jrV t.1) (fin := Prod.snd) (t := t) X hr (by rfl) (by rfl) dX7_advance_270
    · refine J.pu (fun _ _ _ _ k => W.ldcS (i := 7) X rfl dX7_advance_151 k) ?_
      refine J.putR (k := 4) (ci := 6) X in_X8 (show jCl[6]? = some (RX8, TX8, 8) from rfl) tyX8_ok jap_X8 (by decide) q1523 (fun _ h => h) rfl (Or.inl ⟨_, rfl⟩) dX7_advance_153 (fun S153 h153 => ?_)
      refine J.pu (fun _ _ _ _ k => lv_goto (tgt := 270) X.1.1 X.1.2.1 dX7_advance_156 (by decide) k) ?_
      exact J.vret (vr := fun t : Unit × jH => jrV t.1) (fin := Prod.snd) (t := t) X hr (by rfl) (by rfl) dX7_advance_270
  have L0 : ∀ (n0 : Nat) (B0 : jH) (ls : Array Slot), lv_has ls 2 [(0, .ref this)] → jGo l G 22 1245 σ (Prod.snd : Unit × jH → jH) (fun t => jrV t.1) t p e s m args below meth c (jloop (X7_advance_X8_h0 G n this) n0 B0) B0 (F0 m 0 ls []) := by
    intro n0
    induction n0 with
    | zero => intro B0 ls hl; exact J.nil_
    | succ n0 ih0 =>
      have j26 : ∀ (B26 : jH) (ls : Array Slot), lv_has ls 2 [(0, .ref this)] → jGo l G 22 1245 σ (Prod.snd : Unit × jH → jH) (fun t => jrV t.1) t p e s m args below meth c (X7_advance_X8_j26 G n this (jloop (X7_advance_X8_h0 G n this) n0) B26) B26 (F0 m 26 ls []) := by
        intro B26 ls hl
        unfold X7_advance_X8_j26
        refine J.pu (fun _ _ _ _ k => lv_aload_n X.1.1 X.1.2.1 dX7_advance_26 rfl (lv_at hl 0 rfl) k) ?_
        refine J.pu (fun _ _ _ _ k => lv_dup X.1.1 X.1.2.1 dX7_advance_27 rfl k) ?_
        refine J.getI (k := 1) (ci := 6) X in_X8 (show jCl[6]? = some (RX8, TX8, 8) from rfl) (by decide) q1520 (fun _ h => h) dX7_advance_28 (fun v28 h28 => ?_)
        refine J.pu (fun _ _ _ _ k => lv_iconst (v := 1) X.1.1 X.1.2.1 dX7_advance_31 (by decide) k) ?_
        refine J.pu (fun _ _ _ _ k => lv_iadd X.1.1 X.1.2.1 dX7_advance_32 k) ?_
        refine J.putI (k := 1) (ci := 6) X in_X8 (show jCl[6]? = some (RX8, TX8, 8) from rfl) tyX8_ok jap_X8 (by decide) q1520 (fun _ h => h) rfl rfl dX7_advance_33 (fun S33 h33 => ?_)
        refine J.pu (fun _ _ _ _ k => lv_goto (tgt := 0) X.1.1 X.1.2.1 dX7_advance_36 (by decide) k) ?_
        exact ih0 S33 ls (lv_sub hl [0] rfl)
      intro B0 ls hl
      refine J.eq (jloop_s _ _ _) ?_
      dsimp only [X7_advance_X8_h0]
      refine J.pu (fun _ _ _ _ k => lv_aload_n X.1.1 X.1.2.1 dX7_advance_0 rfl (lv_at hl 0 rfl) k) ?_
      refine J.pu (fun _ _ _ _ k => lv_aload_n X.1.1 X.1.2.1 dX7_advance_1 rfl (lv_at hl 0 rfl) k) ?_
      refine J.getI (k := 1) (ci := 6) X in_X8 (show jCl[6]? = some (RX8, TX8, 8) from rfl) (by decide) q1520 (fun _ h => h) dX7_advance_2 (fun v2 h2 => ?_)
      refine J.bind (fun o5 g5 => ?_)
      refine J.bind (fun v5 h5 => ?_)
      refine J.cV (q := (RX8, TX8, 8)) (ci := 6) (As := [.int v2]) (rest := []) (s2 := [.int v5]) X ⟨rfl, rfl⟩ (ct_X7_at_X8 l G n B0 o5 v2) (jrd_of h5) (fun _ _ => jcwP (cwV 1 X.1.2.2.2.2 (lw_V q1393 q1395 qs15 q175 q1397) rfl rfl rfl (by decide +kernel) ⟨(Nat.le_of_ble_eq_true rfl), (Nat.le_of_ble_eq_true rfl)⟩) (jsl0 X.2.1)) g5 rfl rfl hl.1 rfl rfl (Nat.le_of_ble_eq_true rfl) dX7_advance_5 ?_
      refine J.pu (fun _ _ _ _ k => lv_bipush (v := 32) X.1.1 X.1.2.1 dX7_advance_8 (by decide) k) ?_
      refine J.br (fun _ _ _ _ ka kb => lv_icmp_eq (tgt := 26) X.1.1 X.1.2.1 dX7_advance_10 (by decide) ka kb) (fun c10 => ?_) (fun c10 => ?_)
      · exact j26 B0 ls (lv_sub hl [0] rfl)
      · refine J.pu (fun _ _ _ _ k => lv_aload_n X.1.1 X.1.2.1 dX7_advance_13 rfl (lv_at hl 0 rfl) k) ?_
        refine J.pu (fun _ _ _ _ k => lv_aload_n X.1.1 X.1.2.1 dX7_advance_14 rfl (lv_at hl 0 rfl) k) ?_
        refine J.getI (k := 1) (ci := 6) X in_X8 (show jCl[6]? = some (RX8, TX8, 8) from rfl) (by decide) q1520 (fun _ h => h) dX7_advance_15 (fun v15 h15 => ?_)
        refine J.bind (fun o18 g18 => ?_)
        refine J.bind (fun v18 h18 => ?_)
        refine J.cV (q := (RX8, TX8, 8)) (ci := 6) (As := [.int v15]) (rest := []) (s2 := [.int v18]) X ⟨rfl, rfl⟩ (ct_X7_at_X8 l G n B0 o18 v15) (jrd_of h18) (fun _ _ => jcwP (cwV 1 X.1.2.2.2.2 (lw_V q1393 q1395 qs15 q175 q1397) rfl rfl rfl (by decide +kernel) ⟨(Nat.le_of_ble_eq_true rfl), (Nat.le_of_ble_eq_true rfl)⟩) (jsl0 X.2.1)) g18 rfl rfl hl.1 rfl rfl (Nat.le_of_ble_eq_true rfl) dX7_advance_18 ?_
        refine J.pu (fun _ _ _ _ k => lv_bipush (v := 10) X.1.1 X.1.2.1 dX7_advance_21 (by decide) k) ?_
        refine J.br (fun _ _ _ _ ka kb => lv_icmp_ne (tgt := 39) X.1.1 X.1.2.1 dX7_advance_23 (by decide) kb ka) (fun c23 => ?_) (fun c23 => ?_)
        · exact j26 B0 ls (lv_sub hl [0] rfl)
        · refine J.pu (fun _ _ _ _ k => lv_aload_n X.1.1 X.1.2.1 dX7_advance_39 rfl (lv_at hl 0 rfl) k) ?_
          refine J.pu (fun _ _ _ _ k => lv_aload_n X.1.1 X.1.2.1 dX7_advance_40 rfl (lv_at hl 0 rfl) k) ?_
          refine J.getI (k := 1) (ci := 6) X in_X8 (show jCl[6]? = some (RX8, TX8, 8) from rfl) (by decide) q1520 (fun _ h => h) dX7_advance_41 (fun v41 h41 => ?_)
          refine J.putI (k := 0) (ci := 6) X in_X8 (show jCl[6]? = some (RX8, TX8, 8) from rfl) tyX8_ok jap_X8 (by decide) q1519 (fun _ h => h) rfl rfl dX7_advance_44 (fun S44 h44 => ?_)
          refine J.pu (fun _ _ _ _ k => lv_aload_n X.1.1 X.1.2.1 dX7_advance_47 rfl (lv_at hl 0 rfl) k) ?_
          refine J.pu (fun _ _ _ _ k => W.ldcS (i := 7) X rfl dX7_advance_48 k) ?_
          refine J.putR (k := 4) (ci := 6) X in_X8 (show jCl[6]? = some (RX8, TX8, 8) from rfl) tyX8_ok jap_X8 (by decide) q1523 (fun _ h => h) rfl (Or.inl ⟨_, rfl⟩) dX7_advance_50 (fun S50 h50 => ?_)
          refine J.pu (fun _ _ _ _ k => lv_aload_n X.1.1 X.1.2.1 dX7_advance_53 rfl (lv_at hl 0 rfl) k) ?_
          refine J.pu (fun _ _ _ _ k => lv_aload_n X.1.1 X.1.2.1 dX7_advance_54 rfl (lv_at hl 0 rfl) k) ?_
          refine J.getI (k := 0) (ci := 6) X in_X8 (show jCl[6]? = some (RX8, TX8, 8) from rfl) (by decide) q1519 (fun _ h => h) dX7_advance_55 (fun v55 h55 => ?_)
          refine J.bind (fun o58 g58 => ?_)
          refine J.bind (fun v58 h58 => ?_)
          refine J.cV (q := (RX8, TX8, 8)) (ci := 6) (As := [.int v55]) (rest := []) (s2 := [.int v58]) X ⟨rfl, rfl⟩ (ct_X7_at_X8 l G n S50 o58 v55) (jrd_of h58) (fun _ _ => jcwP (cwV 1 X.1.2.2.2.2 (lw_V q1393 q1395 qs15 q175 q1397) rfl rfl rfl (by decide +kernel) ⟨(Nat.le_of_ble_eq_true rfl), (Nat.le_of_ble_eq_true rfl)⟩) (jsl0 X.2.1)) g58 rfl rfl hl.1 rfl rfl (Nat.le_of_ble_eq_true rfl) dX7_advance_58 ?_
          refine J.istore_n (i := 1) (lv' := [(1, .int v58), (0, .ref this)]) X.1.1 X.1.2.1 dX7_advance_61 rfl hl (by decide) (by first | rfl | simp [va_rf_cat, jcI, jcA, jcJ, jcD, jcF]) (fun ls hl => ?_)
          refine J.pu (fun _ _ _ _ k => lv_iload_n X.1.1 X.1.2.1 dX7_advance_62 rfl (lv_at hl 0 rfl) k) ?_
          refine J.pu (fun _ _ _ _ k => lv_iconst (v := (-1)) X.1.1 X.1.2.1 dX7_advance_63 (by decide) k) ?_
          refine J.br (fun _ _ _ _ ka kb => lv_icmp_ne (tgt := 75) X.1.1 X.1.2.1 dX7_advance_64 (by decide) kb ka) (fun c64 => ?_) (fun c64 => ?_)
          · refine J.pu (fun _ _ _ _ k => lv_aload_n X.1.1 X.1.2.1 dX7_advance_67 rfl (lv_at hl 1 rfl) k) ?_
            refine J.pu (fun _ _ _ _ k => lv_iconst (v := 3) X.1.1 X.1.2.1 dX7_advance_68 (by decide) k) ?_
            refine J.putI (k := 2) (ci := 6) X in_X8 (show jCl[6]? = some (RX8, TX8, 8) from rfl) tyX8_ok jap_X8 (by decide) q1521 (fun _ h => h) rfl rfl dX7_advance_69 (fun S69 h69 => ?_)
            refine J.pu (fun _ _ _ _ k => lv_goto (tgt := 270) X.1.1 X.1.2.1 dX7_advance_72 (by decide) k) ?_
            exact J.vret (vr := fun t : Unit × jH => jrV t.1) (fin := Prod.snd) (t := t) X hr (by rfl) (by rfl) dX7_advance_270
          · refine J.pu (fun _ _ _ _ k => lv_iload_n X.1.1 X.1.2.1 dX7_advance_75 rfl (lv_at hl 0 rfl) k) ?_
            refine J.pu (fun _ _ _ _ k => lv_i2l (v := v58.toInt64) X.1.1 X.1.2.1 dX7_advance_76 rfl k) ?_
            refine J.pu (fun _ _ _ _ k => lv_ldc2 (v := 97) X.1.1 X.1.2.1 X.1.2.2.2.1 (X.1.2.2.2.2 _ q1398) dX7_advance_77 k) ?_
            refine J.pu (fun _ _ _ _ k => lv_ldc2 (v := 122) X.1.1 X.1.2.1 X.1.2.2.2.1 (X.1.2.2.2.2 _ q1399) dX7_advance_80 k) ?_
            refine J.bind (fun v83 h83 => ?_)
            refine J.cSN (As := [.long v58.toInt64, .long 97, .long 122]) (rest := []) (s2 := [.int v83]) X ⟨rfl, rfl⟩ (ct_X1_isIn l G n S50 v58.toInt64 97 122) (jrd_of h83) (fun _ _ => ⟨va_cnB 3 X.1.2.2.2.2 (lw_meth q1367) rfl rfl rfl (jnm1 X.2.1) (X.1.2.2.2.2 _ q138) (by decide +kernel) ⟨(Nat.le_of_ble_eq_true rfl), (Nat.le_of_ble_eq_true rfl)⟩, X.1.2.2.2.2 _ q1366, trivial⟩) rfl hl.1 rfl rfl (Nat.le_of_ble_eq_true rfl) dX7_advance_83 ?_
            refine J.br (fun _ _ _ _ ka kb => lv_if_eq (tgt := 159) X.1.1 X.1.2.1 dX7_advance_86 (by decide) ka kb) (fun c86 => ?_) (fun c86 => ?_)
            · refine J.pu (fun _ _ _ _ k => lv_iload_n X.1.1 X.1.2.1 dX7_advance_159 rfl (lv_at hl 0 rfl) k) ?_
              refine J.pu (fun _ _ _ _ k => lv_i2l (v := v58.toInt64) X.1.1 X.1.2.1 dX7_advance_160 rfl k) ?_
              refine J.pu (fun _ _ _ _ k => lv_ldc2 (v := 48) X.1.1 X.1.2.1 X.1.2.2.2.1 (X.1.2.2.2.2 _ q1432) dX7_advance_161 k) ?_
              refine J.pu (fun _ _ _ _ k => lv_ldc2 (v := 57) X.1.1 X.1.2.1 X.1.2.2.2.1 (X.1.2.2.2.2 _ q1433) dX7_advance_164 k) ?_
              refine J.bind (fun v167 h167 => ?_)
              refine J.cSN (As := [.long v58.toInt64, .long 48, .long 57]) (rest := []) (s2 := [.int v167]) X ⟨rfl, rfl⟩ (ct_X1_isIn l G n S50 v58.toInt64 48 57) (jrd_of h167) (fun _ _ => ⟨va_cnB 3 X.1.2.2.2.2 (lw_meth q1367) rfl rfl rfl (jnm1 X.2.1) (X.1.2.2.2.2 _ q138) (by decide +kernel) ⟨(Nat.le_of_ble_eq_true rfl), (Nat.le_of_ble_eq_true rfl)⟩, X.1.2.2.2.2 _ q1366, trivial⟩) rfl hl.1 rfl rfl (Nat.le_of_ble_eq_true rfl) dX7_advance_167 ?_
              refine J.br (fun _ _ _ _ ka kb => lv_if_eq (tgt := 245) X.1.1 X.1.2.1 dX7_advance_170 (by decide) ka kb) (fun c170 => ?_) (fun c170 => ?_)
              · refine J.pu (fun _ _ _ _ k => lv_aload_n X.1.1 X.1.2.1 dX7_advance_245 rfl (lv_at hl 1 rfl) k) ?_
                refine J.pu (fun _ _ _ _ k => lv_iload_n X.1.1 X.1.2.1 dX7_advance_246 rfl (lv_at hl 0 rfl) k) ?_
                refine J.pu (fun _ _ _ _ k => lv_bipush (v := 59) X.1.1 X.1.2.1 dX7_advance_247 (by decide) k) ?_
                refine J.br (fun _ _ _ _ ka kb => lv_icmp_ne (tgt := 256) X.1.1 X.1.2.1 dX7_advance_249 (by decide) kb ka) (fun c249 => ?_) (fun c249 => ?_)
                · refine J.pu (fun _ _ _ _ k => lv_iconst (v := 2) X.1.1 X.1.2.1 dX7_advance_252 (by decide) k) ?_
                  refine J.pu (fun _ _ _ _ k => lv_goto (tgt := 257) X.1.1 X.1.2.1 dX7_advance_253 (by decide) k) ?_
                  exact j257 2 S50 ls (lv_sub hl [1] rfl)
                · refine J.pu (fun _ _ _ _ k => lv_iconst (v := 4) X.1.1 X.1.2.1 dX7_advance_256 (by decide) k) ?_
                  exact j257 4 S50 ls (lv_sub hl [1] rfl)
              · refine J.pu (fun _ _ _ _ k => lv_aload_n X.1.1 X.1.2.1 dX7_advance_173 rfl (lv_at hl 1 rfl) k) ?_
                refine J.pu (fun _ _ _ _ k => lv_aload_n X.1.1 X.1.2.1 dX7_advance_174 rfl (lv_at hl 1 rfl) k) ?_
                refine J.pu (fun _ _ _ _ k => lv_aload_n X.1.1 X.1.2.1 dX7_advance_175 rfl (lv_at hl 1 rfl) k) ?_
                refine J.getI (k := 0) (ci := 6) X in_X8 (show jCl[6]? = some (RX8, TX8, 8) from rfl) (by decide) q1519 (fun _ h => h) dX7_advance_176 (fun v176 h176 => ?_)
                refine J.pu (fun _ _ _ _ k => lv_bipush (v := 48) X.1.1 X.1.2.1 dX7_advance_179 (by decide) k) ?_
                refine J.pu (fun _ _ _ _ k => lv_bipush (v := 57) X.1.1 X.1.2.1 dX7_advance_181 (by decide) k) ?_
                refine J.bind (fun o183 g183 => ?_)
                refine J.bind (fun v183 h183 => ?_)
                refine J.cV (q := (RX8, TX8, 8)) (ci := 6) (As := [.int v176, .int 48, .int 57]) (rest := [.ref this]) (s2 := [.int v183, .ref this]) X ⟨rfl, rfl⟩ (ct_X7_past_X8 l G n S50 o183 v176 48 57) (jrd_of h183) (fun _ _ => jcwP (cwV 3 X.1.2.2.2.2 (lw_V q1401 q1403 qs16 q175 q1404) rfl rfl rfl (by decide +kernel) ⟨(Nat.le_of_ble_eq_true rfl), (Nat.le_of_ble_eq_true rfl)⟩) (jsl2 X.2.1)) g183 rfl rfl hl.1 rfl rfl (Nat.le_of_ble_eq_true rfl) dX7_advance_183 ?_
                refine J.putI (k := 1) (ci := 6) X in_X8 (show jCl[6]? = some (RX8, TX8, 8) from rfl) tyX8_ok jap_X8 (by decide) q1520 (fun _ h => h) rfl rfl dX7_advance_186 (fun S186 h186 => ?_)
                refine J.pu (fun _ _ _ _ k => lv_aload_n X.1.1 X.1.2.1 dX7_advance_189 rfl (lv_at hl 1 rfl) k) ?_
                refine J.pu (fun _ _ _ _ k => lv_aload_n X.1.1 X.1.2.1 dX7_advance_190 rfl (lv_at hl 1 rfl) k) ?_
                refine J.getI (k := 1) (ci := 6) X in_X8 (show jCl[6]? = some (RX8, TX8, 8) from rfl) (by decide) q1520 (fun _ h => h) dX7_advance_191 (fun v191 h191 => ?_)
                refine J.pu (fun _ _ _ _ k => lv_aload_n X.1.1 X.1.2.1 dX7_advance_194 rfl (lv_at hl 1 rfl) k) ?_
                refine J.getI (k := 0) (ci := 6) X in_X8 (show jCl[6]? = some (RX8, TX8, 8) from rfl) (by decide) q1519 (fun _ h => h) dX7_advance_195 (fun v195 h195 => ?_)
                refine J.pu (fun _ _ _ _ k => lv_isub X.1.1 X.1.2.1 dX7_advance_198 k) ?_
                refine J.pu (fun _ _ _ _ k => lv_iconst (v := 3) X.1.1 X.1.2.1 dX7_advance_199 (by decide) k) ?_
                refine J.br (fun _ _ _ _ ka kb => lv_icmp_gt (tgt := 207) X.1.1 X.1.2.1 dX7_advance_200 (by decide) ka kb) (fun c200 => ?_) (fun c200 => ?_)
                · refine J.pu (fun _ _ _ _ k => lv_iconst (v := 4) X.1.1 X.1.2.1 dX7_advance_207 (by decide) k) ?_
                  exact j208 4 S186 ls (lv_sub hl [1] rfl)
                · refine J.pu (fun _ _ _ _ k => lv_iconst (v := 1) X.1.1 X.1.2.1 dX7_advance_203 (by decide) k) ?_
                  refine J.pu (fun _ _ _ _ k => lv_goto (tgt := 208) X.1.1 X.1.2.1 dX7_advance_204 (by decide) k) ?_
                  exact j208 1 S186 ls (lv_sub hl [1] rfl)
            · refine J.pu (fun _ _ _ _ k => lv_aload_n X.1.1 X.1.2.1 dX7_advance_89 rfl (lv_at hl 1 rfl) k) ?_
              refine J.pu (fun _ _ _ _ k => lv_aload_n X.1.1 X.1.2.1 dX7_advance_90 rfl (lv_at hl 1 rfl) k) ?_
              refine J.pu (fun _ _ _ _ k => lv_aload_n X.1.1 X.1.2.1 dX7_advance_91 rfl (lv_at hl 1 rfl) k) ?_
              refine J.getI (k := 0) (ci := 6) X in_X8 (show jCl[6]? = some (RX8, TX8, 8) from rfl) (by decide) q1519 (fun _ h => h) dX7_advance_92 (fun v92 h92 => ?_)
              refine J.pu (fun _ _ _ _ k => lv_bipush (v := 97) X.1.1 X.1.2.1 dX7_advance_95 (by decide) k) ?_
              refine J.pu (fun _ _ _ _ k => lv_bipush (v := 122) X.1.1 X.1.2.1 dX7_advance_97 (by decide) k) ?_
              refine J.bind (fun o99 g99 => ?_)
              refine J.bind (fun v99 h99 => ?_)
              refine J.cV (q := (RX8, TX8, 8)) (ci := 6) (As := [.int v92, .int 97, .int 122]) (rest := [.ref this]) (s2 := [.int v99, .ref this]) X ⟨rfl, rfl⟩ (ct_X7_past_X8 l G n S50 o99 v92 97 122) (jrd_of h99) (fun _ _ => jcwP (cwV 3 X.1.2.2.2.2 (lw_V q1401 q1403 qs16 q175 q1404) rfl rfl rfl (by decide +kernel) ⟨(Nat.le_of_ble_eq_true rfl), (Nat.le_of_ble_eq_true rfl)⟩) (jsl2 X.2.1)) g99 rfl rfl hl.1 rfl rfl (Nat.le_of_ble_eq_true rfl) dX7_advance_99 ?_
              refine J.putI (k := 1) (ci := 6) X in_X8 (show jCl[6]? = some (RX8, TX8, 8) from rfl) tyX8_ok jap_X8 (by decide) q1520 (fun _ h => h) rfl rfl dX7_advance_102 (fun S102 h102 => ?_)
              refine J.pu (fun _ _ _ _ k => lv_aload_n X.1.1 X.1.2.1 dX7_advance_105 rfl (lv_at hl 1 rfl) k) ?_
              refine J.pu (fun _ _ _ _ k => lv_aload_n X.1.1 X.1.2.1 dX7_advance_106 rfl (lv_at hl 1 rfl) k) ?_
              refine J.getI (k := 1) (ci := 6) X in_X8 (show jCl[6]? = some (RX8, TX8, 8) from rfl) (by decide) q1520 (fun _ h => h) dX7_advance_107 (fun v107 h107 => ?_)
              refine J.pu (fun _ _ _ _ k => lv_aload_n X.1.1 X.1.2.1 dX7_advance_110 rfl (lv_at hl 1 rfl) k) ?_
              refine J.getI (k := 0) (ci := 6) X in_X8 (show jCl[6]? = some (RX8, TX8, 8) from rfl) (by decide) q1519 (fun _ h => h) dX7_advance_111 (fun v111 h111 => ?_)
              refine J.pu (fun _ _ _ _ k => lv_isub X.1.1 X.1.2.1 dX7_advance_114 k) ?_
              refine J.pu (fun _ _ _ _ k => lv_bipush (v := 8) X.1.1 X.1.2.1 dX7_advance_115 (by decide) k) ?_
              refine J.br (fun _ _ _ _ ka kb => lv_icmp_gt (tgt := 124) X.1.1 X.1.2.1 dX7_advance_117 (by decide) ka kb) (fun c117 => ?_) (fun c117 => ?_)
              · refine J.pu (fun _ _ _ _ k => lv_iconst (v := 4) X.1.1 X.1.2.1 dX7_advance_124 (by decide) k) ?_
                exact j125 4 S102 ls (lv_sub hl [1] rfl)
              · refine J.pu (fun _ _ _ _ k => lv_iconst (v := 0) X.1.1 X.1.2.1 dX7_advance_120 (by decide) k) ?_
                refine J.pu (fun _ _ _ _ k => lv_goto (tgt := 125) X.1.1 X.1.2.1 dX7_advance_121 (by decide) k) ?_
                exact j125 0 S102 ls (lv_sub hl [1] rfl)
  unfold X7_advance_X8_b
  exact L0 n σ ls (lv_sub hl [0] rfl)
noncomputable def X7_advance_X10_j26 (G : jG) (n : Nat) (this : Nat) (rec0 : jH → Option (Unit × jH)) (B26 : jH) : Option (Unit × jH) :=
  (gI B26 (some this) 7 1).bind fun v28 => (pI G B26 (some this) 7 1 (v28 + 1)).bind fun S33 => rec0 S33
noncomputable def X7_advance_X10_j257 (G : jG) (n : Nat) (this : Nat) (s1_257 : Int32) (B257 : jH) : Option (Unit × jH) :=
  (pI G B257 (some this) 7 2 s1_257).bind fun S257 => (gI S257 (some this) 7 1).bind fun v262 => (pI G S257 (some this) 7 1 (v262 + 1)).bind fun S267 => some ((), S267)
noncomputable def X7_advance_X10_j208 (G : jG) (n : Nat) (this : Nat) (s1_208 : Int32) (B208 : jH) : Option (Unit × jH) :=
  (pI G B208 (some this) 7 2 s1_208).bind fun S208 => (gI S208 (some this) 7 2).bind fun v213 => if v213 = 1 then ((gI S208 (some this) 7 0).bind fun v222 => (gI S208 (some this) 7 1).bind fun v226 => (rc S208 (some this) 7).bind fun o229 => bd (X7_text_X10 G n S208 o229 v222 v226) fun v229 S229 => (stInt G S229 v229).bind fun v232 => (pI G S229 (some this) 7 3 v232).bind fun S239 => some ((), S239)) else ((pI G S208 (some this) 7 3 0).bind fun S239 => some ((), S239))
noncomputable def X7_advance_X10_j125 (G : jG) (n : Nat) (this : Nat) (s1_125 : Int32) (B125 : jH) : Option (Unit × jH) :=
  (pI G B125 (some this) 7 2 s1_125).bind fun S125 => (gI S125 (some this) 7 2).bind fun v130 => if v130 = 0 then ((gI S125 (some this) 7 0).bind fun v138 => (gI S125 (some this) 7 1).bind fun v142 => (rc S125 (some this) 7).bind fun o145 => bd (X7_text_X10 G n S125 o145 v138 v142) fun v145 S145 => (pR G S145 (some this) 7 4 v145).bind fun S153 => some ((), S153)) else ((pR G S125 (some this) 7 4 (G.2.2.2 7)).bind fun S153 => some ((), S153))
noncomputable def X7_advance_X10_h0 (G : jG) (n : Nat) (this : Nat) (rec0 : jH → Option (Unit × jH)) (q0 : jH) : Option (Unit × jH) :=
  let B0 := q0; (gI B0 (some this) 7 1).bind fun v2 => (rc B0 (some this) 7).bind fun o5 => (X7_at_X10 G n B0 o5 v2).bind fun v5 => if v5 = 32 then (X7_advance_X10_j26 G n this rec0 B0) else ((gI B0 (some this) 7 1).bind fun v15 => (rc B0 (some this) 7).bind fun o18 => (X7_at_X10 G n B0 o18 v15).bind fun v18 => if v18 = 10 then (X7_advance_X10_j26 G n this rec0 B0) else ((gI B0 (some this) 7 1).bind fun v41 => (pI G B0 (some this) 7 0 v41).bind fun S44 => (pR G S44 (some this) 7 4 (G.2.2.2 7)).bind fun S50 => (gI S50 (some this) 7 0).bind fun v55 => (rc S50 (some this) 7).bind fun o58 => (X7_at_X10 G n S50 o58 v55).bind fun v58 => if v58 = (-1) then ((pI G S50 (some this) 7 2 3).bind fun S69 => some ((), S69)) else ((X1_isIn G n S50 v58.toInt64 97 122).bind fun v83 => if v83 = 0 then ((X1_isIn G n S50 v58.toInt64 48 57).bind fun v167 => if v167 = 0 then (if v58 = 59 then (X7_advance_X10_j257 G n this 2 S50) else (X7_advance_X10_j257 G n this 4 S50)) else ((gI S50 (some this) 7 0).bind fun v176 => (rc S50 (some this) 7).bind fun o183 => (X7_past_X10 G n S50 o183 v176 48 57).bind fun v183 => (pI G S50 (some this) 7 1 v183).bind fun S186 => (gI S186 (some this) 7 1).bind fun v191 => (gI S186 (some this) 7 0).bind fun v195 => if 3 < (v191 - v195) then (X7_advance_X10_j208 G n this 4 S186) else (X7_advance_X10_j208 G n this 1 S186))) else ((gI S50 (some this) 7 0).bind fun v92 => (rc S50 (some this) 7).bind fun o99 => (X7_past_X10 G n S50 o99 v92 97 122).bind fun v99 => (pI G S50 (some this) 7 1 v99).bind fun S102 => (gI S102 (some this) 7 1).bind fun v107 => (gI S102 (some this) 7 0).bind fun v111 => if 8 < (v107 - v111) then (X7_advance_X10_j125 G n this 4 S102) else (X7_advance_X10_j125 G n this 0 S102)))))
noncomputable def X7_advance_X10_b (G : jG) (n : Nat) (σ : jH) (this : Nat) : Option (Unit × jH) :=
  jloop (X7_advance_X10_h0 G n this) n σ
noncomputable def X7_advance_X10 (G : jG) (n : Nat) (σ : jH) (this : Nat) : Option (Unit × jH) := jck σ (X7_advance_X10_b G n σ this)
set_option maxHeartbeats 4000000 in
set_option maxRecDepth 100000 in
theorem ct_X7_advance_X10 (l : Launch) (G : jG) (n : Nat) (σ : jH) (this : Nat) : jCt l G yX7_advance (ws_ yX7_advance cX7_advance 2 none) 22 1245 jrV [.ref this] σ (X7_advance_X10 G n σ this) := by
  refine jCt.wr (lv := [(0, .ref this)]) (plainFor_of_name (by decide)) (Nat.le_of_ble_eq_true rfl) rfl ?_
  intro t p e s m args below meth c ls X hr hnm hl
  have X : jCx p c cX7_advance 2 s m args RX7 G meth := X
  have j257 : ∀ (s1_257 : Int32) (B257 : jH) (ls : Array Slot), lv_has ls 2 [(0, .ref this)] → jGo l G 22 1245 σ (Prod.snd : Unit × jH → jH) (fun t => jrV t.1) t p e s m args below meth c (X7_advance_X10_j257 G n this s1_257 B257) B257 (F0 m 257 ls [.int s1_257, .ref this]) := by
    intro s1_257 B257 ls hl
    unfold X7_advance_X10_j257
    refine J.putI (k := 2) (ci := 7) X in_X10 (show jCl[7]? = some (RX10, TX10, 8) from rfl) tyX10_ok jap_X10 (by decide) q1521 (fun _ h => h) rfl rfl dX7_advance_257 (fun S257 h257 => ?_)
    refine J.pu (fun _ _ _ _ k => lv_aload_n X.1.1 X.1.2.1 dX7_advance_260 rfl (lv_at hl 0 rfl) k) ?_
    refine J.pu (fun _ _ _ _ k => lv_dup X.1.1 X.1.2.1 dX7_advance_261 rfl k) ?_
    refine J.getI (k := 1) (ci := 7) X in_X10 (show jCl[7]? = some (RX10, TX10, 8) from rfl) (by decide) q1520 (fun _ h => h) dX7_advance_262 (fun v262 h262 => ?_)
    refine J.pu (fun _ _ _ _ k => lv_iconst (v := 1) X.1.1 X.1.2.1 dX7_advance_265 (by decide) k) ?_
    refine J.pu (fun _ _ _ _ k => lv_iadd X.1.1 X.1.2.1 dX7_advance_266 k) ?_
    refine J.putI (k := 1) (ci := 7) X in_X10 (show jCl[7]? = some (RX10, TX10, 8) from rfl) tyX10_ok jap_X10 (by decide) q1520 (fun _ h => h) rfl rfl dX7_advance_267 (fun S267 h267 => ?_)
    exact J.vret (vr := fun t : Unit × jH => jrV t.1) (fin := Prod.snd) (t := t) X hr (by rfl) (by rfl) dX7_advance_270
  have j208 : ∀ (s1_208 : Int32) (B208 : jH) (ls : Array Slot), lv_has ls 2 [(0, .ref this)] → jGo l G 22 1245 σ (Prod.snd : Unit × jH → jH) (fun t => jrV t.1) t p e s m args below meth c (X7_advance_X10_j208 G n this s1_208 B208) B208 (F0 m 208 ls [.int s1_208, .ref this]) := by
    intro s1_208 B208 ls hl
    unfold X7_advance_X10_j208
    refine J.putI (k := 2) (ci := 7) X in_X10 (show jCl[7]? = some (RX10, TX10, 8) from rfl) tyX10_ok jap_X10 (by decide) q1521 (fun _ h => h) rfl rfl dX7_advance_208 (fun S208 h208 => ?_)
    refine J.pu (fun _ _ _ _ k => lv_aload_n X.1.1 X.1.2.1 dX7_advance_211 rfl (lv_at hl 0 rfl) k) ?_
    refine J.pu (fun _ _ _ _ k => lv_aload_n X.1.1 X.1.2.1 dX7_advance_212 rfl (lv_at hl 0 rfl) k) ?_
    refine J.getI (k := 2) (ci := 7) X in_X10 (show jCl[7]? = some (RX10, TX10, 8) from rfl) (by decide) q1521 (fun _ h => h) dX7_advance_213 (fun v213 h213 => ?_)
    refine J.pu (fun _ _ _ _ k => lv_iconst (v := 1) X.1.1 X.1.2.1 dX7_advance_216 (by decide) k) ?_
    refine J.br (fun _ _ _ _ ka kb => lv_icmp_ne (tgt := 238) X.1.1 X.1.2.1 dX7_advance_217 (by decide) kb ka) (fun c217 => ?_) (fun c217 => ?_)
    · refine J.pu (fun _ _ _ _ k => lv_aload_n X.1.1 X.1.2.1 dX7_advance_220 rfl (lv_at hl 0 rfl) k) ?_
      refine J.pu (fun _ _ _ _ k => lv_aload_n X.1.1 X.1.2.1 dX7_advance_221 rfl (lv_at hl 0 rfl) k) ?_
      refine J.getI (k := 0) (ci := 7) X in_X10 (show jCl[7]? = some (RX10, TX10, 8) from rfl) (by decide) q1519 (fun _ h => h) dX7_advance_222 (fun v222 h222 => ?_)
      refine J.pu (fun _ _ _ _ k => lv_aload_n X.1.1 X.1.2.1 dX7_advance_225 rfl (lv_at hl 0 rfl) k) ?_
      refine J.getI (k := 1) (ci := 7) X in_X10 (show jCl[7]? = some (RX10, TX10, 8) from rfl) (by decide) q1520 (fun _ h => h) dX7_advance_226 (fun v226 h226 => ?_)
      refine J.bind (fun o229 g229 => ?_)
      refine J.bd' (fun v229 S229 h229 => ?_)
      refine J.cV (q := (RX10, TX10, 8)) (ci := 7) (As := [.int v222, .int v226]) (rest := [.ref this]) (s2 := [va_rf v229, .ref this]) X ⟨rfl, rfl⟩ (ct_X7_text_X10 l G n S208 o229 v222 v226) h229 (fun _ _ => jcwP (cwV 2 X.1.2.2.2.2 (lw_V q1405 q1407 qs17 q175 q1408) rfl rfl rfl (by decide +kernel) ⟨(Nat.le_of_ble_eq_true rfl), (Nat.le_of_ble_eq_true rfl)⟩) (jsl5 X.2.1)) g229 rfl rfl hl.1 rfl rfl (Nat.le_of_ble_eq_true rfl) dX7_advance_229 ?_
      refine J.bind (fun v232 h232 => ?_)
      refine J.cS (As := [va_rf v229]) (rest := [.ref this]) (s2 := [.int v232, .ref this]) X ⟨rfl, rfl⟩ (ct_J16_parseInt l G S229 v229) (jrd_of h232) (fun _ _ => va_cwS 1 X.1.2.2.2.2 (lw_S q1434 q1435 q158 q1436) rfl rfl rfl (by decide +kernel) ⟨(Nat.le_of_ble_eq_true rfl), (Nat.le_of_ble_eq_true rfl)⟩) rfl hl.1 rfl rfl (Nat.le_of_ble_eq_true rfl) dX7_advance_232 ?_
      refine J.pu (fun _ _ _ _ k => lv_goto (tgt := 239) X.1.1 X.1.2.1 dX7_advance_235 (by decide) k) ?_
      refine J.putI (k := 3) (ci := 7) X in_X10 (show jCl[7]? = some (RX10, TX10, 8) from rfl) tyX10_ok jap_X10 (by decide) q1522 (fun _ h => h) rfl rfl dX7_advance_239 (fun S239 h239 => ?_)
      refine J.pu (fun _ _ _ _ k => lv_goto (tgt := 270) X.1.1 X.1.2.1 dX7_advance_242 (by decide) k) ?_
      exact J.vret (vr := fun t : Unit × jH => jrV t.1) (fin := Prod.snd) (t := t) X hr (by rfl) (by rfl) dX7_advance_270
    · refine J.pu (fun _ _ _ _ k => lv_iconst (v := 0) X.1.1 X.1.2.1 dX7_advance_238 (by decide) k) ?_
      refine J.putI (k := 3) (ci := 7) X in_X10 (show jCl[7]? = some (RX10, TX10, 8) from rfl) tyX10_ok jap_X10 (by decide) q1522 (fun _ h => h) rfl rfl dX7_advance_239 (fun S239 h239 => ?_)
      refine J.pu (fun _ _ _ _ k => lv_goto (tgt := 270) X.1.1 X.1.2.1 dX7_advance_242 (by decide) k) ?_
      exact J.vret (vr := fun t : Unit × jH => jrV t.1) (fin := Prod.snd) (t := t) X hr (by rfl) (by rfl) dX7_advance_270
  have j125 : ∀ (s1_125 : Int32) (B125 : jH) (ls : Array Slot), lv_has ls 2 [(0, .ref this)] → jGo l G 22 1245 σ (Prod.snd : Unit × jH → jH) (fun t => jrV t.1) t p e s m args below meth c (X7_advance_X10_j125 G n this s1_125 B125) B125 (F0 m 125 ls [.int s1_125, .ref this]) := by
    intro s1_125 B125 ls hl
    unfold X7_advance_X10_j125
    refine J.putI (k := 2) (ci := 7) X in_X10 (show jCl[7]? = some (RX10, TX10, 8) from rfl) tyX10_ok jap_X10 (by decide) q1521 (fun _ h => h) rfl rfl dX7_advance_125 (fun S125 h125 => ?_)
    refine J.pu (fun _ _ _ _ k => lv_aload_n X.1.1 X.1.2.1 dX7_advance_128 rfl (lv_at hl 0 rfl) k) ?_
    refine J.pu (fun _ _ _ _ k => lv_aload_n X.1.1 X.1.2.1 dX7_advance_129 rfl (lv_at hl 0 rfl) k) ?_
    refine J.getI (k := 2) (ci := 7) X in_X10 (show jCl[7]? = some (RX10, TX10, 8) from rfl) (by decide) q1521 (fun _ h => h) dX7_advance_130 (fun v130 h130 => ?_)
    refine J.br (fun _ _ _ _ ka kb => lv_if_ne (tgt := 151) X.1.1 X.1.2.1 dX7_advance_133 (by decide) kb ka) (fun c133 => ?_) (fun c133 => ?_)
    · refine J.pu (fun _ _ _ _ k => lv_aload_n X.1.1 X.1.2.1 dX7_advance_136 rfl (lv_at hl 0 rfl) k) ?_
      refine J.pu (fun _ _ _ _ k => lv_aload_n X.1.1 X.1.2.1 dX7_advance_137 rfl (lv_at hl 0 rfl) k) ?_
      refine J.getI (k := 0) (ci := 7) X in_X10 (show jCl[7]? = some (RX10, TX10, 8) from rfl) (by decide) q1519 (fun _ h => h) dX7_advance_138 (fun v138 h138 => ?_)
      refine J.pu (fun _ _ _ _ k => lv_aload_n X.1.1 X.1.2.1 dX7_advance_141 rfl (lv_at hl 0 rfl) k) ?_
      refine J.getI (k := 1) (ci := 7) X in_X10 (show jCl[7]? = some (RX10, TX10, 8) from rfl) (by decide) q1520 (fun _ h => h) dX7_advance_142 (fun v142 h142 => ?_)
      refine J.bind (fun o145 g145 => ?_)
      refine J.bd' (fun v145 S145 h145 => ?_)
      refine J.cV (q := (RX10, TX10, 8)) (ci := 7) (As := [.int v138, .int v142]) (rest := [.ref this]) (s2 := [va_rf v145, .ref this]) X ⟨rfl, rfl⟩ (ct_X7_text_X10 l G n S125 o145 v138 v142) h145 (fun _ _ => jcwP (cwV 2 X.1.2.2.2.2 (lw_V q1405 q1407 qs17 q175 q1408) rfl rfl rfl (by decide +kernel) ⟨(Nat.le_of_ble_eq_true rfl), (Nat.le_of_ble_eq_true rfl)⟩) (jsl5 X.2.1)) g145 rfl rfl hl.1 rfl rfl (Nat.le_of_ble_eq_true rfl) dX7_advance_145 ?_
      refine J.pu (fun _ _ _ _ k => lv_goto (tgt := 153) X.1.1 X.1.2.1 dX7_advance_148 (by decide) k) ?_
      refine J.putR (k := 4) (ci := 7) X in_X10 (show jCl[7]? = some (RX10, TX10, 8) from rfl) tyX10_ok jap_X10 (by decide) q1523 (fun _ h => h) rfl (Or.inl ⟨_, rfl⟩) dX7_advance_153 (fun S153 h153 => ?_)
      refine J.pu (fun _ _ _ _ k => lv_goto (tgt := 270) X.1.1 X.1.2.1 dX7_advance_156 (by decide) k) ?_
      exact J.vret (vr := fun t : Unit × jH => jrV t.1) (fin := Prod.snd) (t := t) X hr (by rfl) (by rfl) dX7_advance_270
    · refine J.pu (fun _ _ _ _ k => W.ldcS (i := 7) X rfl dX7_advance_151 k) ?_
      refine J.putR (k := 4) (ci := 7) X in_X10 (show jCl[7]? = some (RX10, TX10, 8) from rfl) tyX10_ok jap_X10 (by decide) q1523 (fun _ h => h) rfl (Or.inl ⟨_, rfl⟩) dX7_advance_153 (fun S153 h153 => ?_)
      refine J.pu (fun _ _ _ _ k => lv_goto (tgt := 270) X.1.1 X.1.2.1 dX7_advance_156 (by decide) k) ?_
      exact J.vret (vr := fun t : Unit × jH => jrV t.1) (fin := Prod.snd) (t := t) X hr (by rfl) (by rfl) dX7_advance_270
  have L0 : ∀ (n0 : Nat) (B0 : jH) (ls : Array Slot), lv_has ls 2 [(0, .ref this)] → jGo l G 22 1245 σ (Prod.snd : Unit × jH → jH) (fun t => jrV t.1) t p e s m args below meth c (jloop (X7_advance_X10_h0 G n this) n0 B0) B0 (F0 m 0 ls []) := by
    intro n0
    induction n0 with
    | zero => intro B0 ls hl; exact J.nil_
    | succ n0 ih0 =>
      have j26 : ∀ (B26 : jH) (ls : Array Slot), lv_has ls 2 [(0, .ref this)] → jGo l G 22 1245 σ (Prod.snd : Unit × jH → jH) (fun t => jrV t.1) t p e s m args below meth c (X7_advance_X10_j26 G n this (jloop (X7_advance_X10_h0 G n this) n0) B26) B26 (F0 m 26 ls []) := by
        intro B26 ls hl
        unfold X7_advance_X10_j26
        refine J.pu (fun _ _ _ _ k => lv_aload_n X.1.1 X.1.2.1 dX7_advance_26 rfl (lv_at hl 0 rfl) k) ?_
        refine J.pu (fun _ _ _ _ k => lv_dup X.1.1 X.1.2.1 dX7_advance_27 rfl k) ?_
        refine J.getI (k := 1) (ci := 7) X in_X10 (show jCl[7]? = some (RX10, TX10, 8) from rfl) (by decide) q1520 (fun _ h => h) dX7_advance_28 (fun v28 h28 => ?_)
        refine J.pu (fun _ _ _ _ k => lv_iconst (v := 1) X.1.1 X.1.2.1 dX7_advance_31 (by decide) k) ?_
        refine J.pu (fun _ _ _ _ k => lv_iadd X.1.1 X.1.2.1 dX7_advance_32 k) ?_
        refine J.putI (k := 1) (ci := 7) X in_X10 (show jCl[7]? = some (RX10, TX10, 8) from rfl) tyX10_ok jap_X10 (by decide) q1520 (fun _ h => h) rfl rfl dX7_advance_33 (fun S33 h33 => ?_)
        refine J.pu (fun _ _ _ _ k => lv_goto (tgt := 0) X.1.1 X.1.2.1 dX7_advance_36 (by decide) k) ?_
        exact ih0 S33 ls (lv_sub hl [0] rfl)
      intro B0 ls hl
      refine J.eq (jloop_s _ _ _) ?_
      dsimp only [X7_advance_X10_h0]
      refine J.pu (fun _ _ _ _ k => lv_aload_n X.1.1 X.1.2.1 dX7_advance_0 rfl (lv_at hl 0 rfl) k) ?_
      refine J.pu (fun _ _ _ _ k => lv_aload_n X.1.1 X.1.2.1 dX7_advance_1 rfl (lv_at hl 0 rfl) k) ?_
      refine J.getI (k := 1) (ci := 7) X in_X10 (show jCl[7]? = some (RX10, TX10, 8) from rfl) (by decide) q1520 (fun _ h => h) dX7_advance_2 (fun v2 h2 => ?_)
      refine J.bind (fun o5 g5 => ?_)
      refine J.bind (fun v5 h5 => ?_)
      refine J.cV (q := (RX10, TX10, 8)) (ci := 7) (As := [.int v2]) (rest := []) (s2 := [.int v5]) X ⟨rfl, rfl⟩ (ct_X7_at_X10 l G n B0 o5 v2) (jrd_of h5) (fun _ _ => jcwP (cwV 1 X.1.2.2.2.2 (lw_V q1393 q1395 qs15 q175 q1397) rfl rfl rfl (by decide +kernel) ⟨(Nat.le_of_ble_eq_true rfl), (Nat.le_of_ble_eq_true rfl)⟩) (jsl1 X.2.1)) g5 rfl rfl hl.1 rfl rfl (Nat.le_of_ble_eq_true rfl) dX7_advance_5 ?_
      refine J.pu (fun _ _ _ _ k => lv_bipush (v := 32) X.1.1 X.1.2.1 dX7_advance_8 (by decide) k) ?_
      refine J.br (fun _ _ _ _ ka kb => lv_icmp_eq (tgt := 26) X.1.1 X.1.2.1 dX7_advance_10 (by decide) ka kb) (fun c10 => ?_) (fun c10 => ?_)
      · exact j26 B0 ls (lv_sub hl [0] rfl)
      · refine J.pu (fun _ _ _ _ k => lv_aload_n X.1.1 X.1.2.1 dX7_advance_13 rfl (lv_at hl 0 rfl) k) ?_
        refine J.pu (fun _ _ _ _ k => lv_aload_n X.1.1 X.1.2.1 dX7_advance_14 rfl (lv_at hl 0 rfl) k) ?_
        refine J.getI (k := 1) (ci := 7) X in_X10 (show jCl[7]? = some (RX10, TX10, 8) from rfl) (by decide) q1520 (fun _ h => h) dX7_advance_15 (fun v15 h15 => ?_)
        refine J.bind (fun o18 g18 => ?_)
        refine J.bind (fun v18 h18 => ?_)
        refine J.cV (q := (RX10, TX10, 8)) (ci := 7) (As := [.int v15]) (rest := []) (s2 := [.int v18]) X ⟨rfl, rfl⟩ (ct_X7_at_X10 l G n B0 o18 v15) (jrd_of h18) (fun _ _ => jcwP (cwV 1 X.1.2.2.2.2 (lw_V q1393 q1395 qs15 q175 q1397) rfl rfl rfl (by decide +kernel) ⟨(Nat.le_of_ble_eq_true rfl), (Nat.le_of_ble_eq_true rfl)⟩) (jsl1 X.2.1)) g18 rfl rfl hl.1 rfl rfl (Nat.le_of_ble_eq_true rfl) dX7_advance_18 ?_
        refine J.pu (fun _ _ _ _ k => lv_bipush (v := 10) X.1.1 X.1.2.1 dX7_advance_21 (by decide) k) ?_
        refine J.br (fun _ _ _ _ ka kb => lv_icmp_ne (tgt := 39) X.1.1 X.1.2.1 dX7_advance_23 (by decide) kb ka) (fun c23 => ?_) (fun c23 => ?_)
        · exact j26 B0 ls (lv_sub hl [0] rfl)
        · refine J.pu (fun _ _ _ _ k => lv_aload_n X.1.1 X.1.2.1 dX7_advance_39 rfl (lv_at hl 0 rfl) k) ?_
          refine J.pu (fun _ _ _ _ k => lv_aload_n X.1.1 X.1.2.1 dX7_advance_40 rfl (lv_at hl 0 rfl) k) ?_
          refine J.getI (k := 1) (ci := 7) X in_X10 (show jCl[7]? = some (RX10, TX10, 8) from rfl) (by decide) q1520 (fun _ h => h) dX7_advance_41 (fun v41 h41 => ?_)
          refine J.putI (k := 0) (ci := 7) X in_X10 (show jCl[7]? = some (RX10, TX10, 8) from rfl) tyX10_ok jap_X10 (by decide) q1519 (fun _ h => h) rfl rfl dX7_advance_44 (fun S44 h44 => ?_)
          refine J.pu (fun _ _ _ _ k => lv_aload_n X.1.1 X.1.2.1 dX7_advance_47 rfl (lv_at hl 0 rfl) k) ?_
          refine J.pu (fun _ _ _ _ k => W.ldcS (i := 7) X rfl dX7_advance_48 k) ?_
          refine J.putR (k := 4) (ci := 7) X in_X10 (show jCl[7]? = some (RX10, TX10, 8) from rfl) tyX10_ok jap_X10 (by decide) q1523 (fun _ h => h) rfl (Or.inl ⟨_, rfl⟩) dX7_advance_50 (fun S50 h50 => ?_)
          refine J.pu (fun _ _ _ _ k => lv_aload_n X.1.1 X.1.2.1 dX7_advance_53 rfl (lv_at hl 0 rfl) k) ?_
          refine J.pu (fun _ _ _ _ k => lv_aload_n X.1.1 X.1.2.1 dX7_advance_54 rfl (lv_at hl 0 rfl) k) ?_
          refine J.getI (k := 0) (ci := 7) X in_X10 (show jCl[7]? = some (RX10, TX10, 8) from rfl) (by decide) q1519 (fun _ h => h) dX7_advance_55 (fun v55 h55 => ?_)
          refine J.bind (fun o58 g58 => ?_)
          refine J.bind (fun v58 h58 => ?_)
          refine J.cV (q := (RX10, TX10, 8)) (ci := 7) (As := [.int v55]) (rest := []) (s2 := [.int v58]) X ⟨rfl, rfl⟩ (ct_X7_at_X10 l G n S50 o58 v55) (jrd_of h58) (fun _ _ => jcwP (cwV 1 X.1.2.2.2.2 (lw_V q1393 q1395 qs15 q175 q1397) rfl rfl rfl (by decide +kernel) ⟨(Nat.le_of_ble_eq_true rfl), (Nat.le_of_ble_eq_true rfl)⟩) (jsl1 X.2.1)) g58 rfl rfl hl.1 rfl rfl (Nat.le_of_ble_eq_true rfl) dX7_advance_58 ?_
          refine J.istore_n (i := 1) (lv' := [(1, .int v58), (0, .ref this)]) X.1.1 X.1.2.1 dX7_advance_61 rfl hl (by decide) (by first | rfl | simp [va_rf_cat, jcI, jcA, jcJ, jcD, jcF]) (fun ls hl => ?_)
          refine J.pu (fun _ _ _ _ k => lv_iload_n X.1.1 X.1.2.1 dX7_advance_62 rfl (lv_at hl 0 rfl) k) ?_
          refine J.pu (fun _ _ _ _ k => lv_iconst (v := (-1)) X.1.1 X.1.2.1 dX7_advance_63 (by decide) k) ?_
          refine J.br (fun _ _ _ _ ka kb => lv_icmp_ne (tgt := 75) X.1.1 X.1.2.1 dX7_advance_64 (by decide) kb ka) (fun c64 => ?_) (fun c64 => ?_)
          · refine J.pu (fun _ _ _ _ k => lv_aload_n X.1.1 X.1.2.1 dX7_advance_67 rfl (lv_at hl 1 rfl) k) ?_
            refine J.pu (fun _ _ _ _ k => lv_iconst (v := 3) X.1.1 X.1.2.1 dX7_advance_68 (by decide) k) ?_
            refine J.putI (k := 2) (ci := 7) X in_X10 (show jCl[7]? = some (RX10, TX10, 8) from rfl) tyX10_ok jap_X10 (by decide) q1521 (fun _ h => h) rfl rfl dX7_advance_69 (fun S69 h69 => ?_)
            refine J.pu (fun _ _ _ _ k => lv_goto (tgt := 270) X.1.1 X.1.2.1 dX7_advance_72 (by decide) k) ?_
            exact J.vret (vr := fun t : Unit × jH => jrV t.1) (fin := Prod.snd) (t := t) X hr (by rfl) (by rfl) dX7_advance_270
          · refine J.pu (fun _ _ _ _ k => lv_iload_n X.1.1 X.1.2.1 dX7_advance_75 rfl (lv_at hl 0 rfl) k) ?_
            refine J.pu (fun _ _ _ _ k => lv_i2l (v := v58.toInt64) X.1.1 X.1.2.1 dX7_advance_76 rfl k) ?_
            refine J.pu (fun _ _ _ _ k => lv_ldc2 (v := 97) X.1.1 X.1.2.1 X.1.2.2.2.1 (X.1.2.2.2.2 _ q1398) dX7_advance_77 k) ?_
            refine J.pu (fun _ _ _ _ k => lv_ldc2 (v := 122) X.1.1 X.1.2.1 X.1.2.2.2.1 (X.1.2.2.2.2 _ q1399) dX7_advance_80 k) ?_
            refine J.bind (fun v83 h83 => ?_)
            refine J.cSN (As := [.long v58.toInt64, .long 97, .long 122]) (rest := []) (s2 := [.int v83]) X ⟨rfl, rfl⟩ (ct_X1_isIn l G n S50 v58.toInt64 97 122) (jrd_of h83) (fun _ _ => ⟨va_cnB 3 X.1.2.2.2.2 (lw_meth q1367) rfl rfl rfl (jnm1 X.2.1) (X.1.2.2.2.2 _ q138) (by decide +kernel) ⟨(Nat.le_of_ble_eq_true rfl), (Nat.le_of_ble_eq_true rfl)⟩, X.1.2.2.2.2 _ q1366, trivial⟩) rfl hl.1 rfl rfl (Nat.le_of_ble_eq_true rfl) dX7_advance_83 ?_
            refine J.br (fun _ _ _ _ ka kb => lv_if_eq (tgt := 159) X.1.1 X.1.2.1 dX7_advance_86 (by decide) ka kb) (fun c86 => ?_) (fun c86 => ?_)
            · refine J.pu (fun _ _ _ _ k => lv_iload_n X.1.1 X.1.2.1 dX7_advance_159 rfl (lv_at hl 0 rfl) k) ?_
              refine J.pu (fun _ _ _ _ k => lv_i2l (v := v58.toInt64) X.1.1 X.1.2.1 dX7_advance_160 rfl k) ?_
              refine J.pu (fun _ _ _ _ k => lv_ldc2 (v := 48) X.1.1 X.1.2.1 X.1.2.2.2.1 (X.1.2.2.2.2 _ q1432) dX7_advance_161 k) ?_
              refine J.pu (fun _ _ _ _ k => lv_ldc2 (v := 57) X.1.1 X.1.2.1 X.1.2.2.2.1 (X.1.2.2.2.2 _ q1433) dX7_advance_164 k) ?_
              refine J.bind (fun v167 h167 => ?_)
              refine J.cSN (As := [.long v58.toInt64, .long 48, .long 57]) (rest := []) (s2 := [.int v167]) X ⟨rfl, rfl⟩ (ct_X1_isIn l G n S50 v58.toInt64 48 57) (jrd_of h167) (fun _ _ => ⟨va_cnB 3 X.1.2.2.2.2 (lw_meth q1367) rfl rfl rfl (jnm1 X.2.1) (X.1.2.2.2.2 _ q138) (by decide +kernel) ⟨(Nat.le_of_ble_eq_true rfl), (Nat.le_of_ble_eq_true rfl)⟩, X.1.2.2.2.2 _ q1366, trivial⟩) rfl hl.1 rfl rfl (Nat.le_of_ble_eq_true rfl) dX7_advance_167 ?_
              refine J.br (fun _ _ _ _ ka kb => lv_if_eq (tgt := 245) X.1.1 X.1.2.1 dX7_advance_170 (by decide) ka kb) (fun c170 => ?_) (fun c170 => ?_)
              · refine J.pu (fun _ _ _ _ k => lv_aload_n X.1.1 X.1.2.1 dX7_advance_245 rfl (lv_at hl 1 rfl) k) ?_
                refine J.pu (fun _ _ _ _ k => lv_iload_n X.1.1 X.1.2.1 dX7_advance_246 rfl (lv_at hl 0 rfl) k) ?_
                refine J.pu (fun _ _ _ _ k => lv_bipush (v := 59) X.1.1 X.1.2.1 dX7_advance_247 (by decide) k) ?_
                refine J.br (fun _ _ _ _ ka kb => lv_icmp_ne (tgt := 256) X.1.1 X.1.2.1 dX7_advance_249 (by decide) kb ka) (fun c249 => ?_) (fun c249 => ?_)
                · refine J.pu (fun _ _ _ _ k => lv_iconst (v := 2) X.1.1 X.1.2.1 dX7_advance_252 (by decide) k) ?_
                  refine J.pu (fun _ _ _ _ k => lv_goto (tgt := 257) X.1.1 X.1.2.1 dX7_advance_253 (by decide) k) ?_
                  exact j257 2 S50 ls (lv_sub hl [1] rfl)
                · refine J.pu (fun _ _ _ _ k => lv_iconst (v := 4) X.1.1 X.1.2.1 dX7_advance_256 (by decide) k) ?_
                  exact j257 4 S50 ls (lv_sub hl [1] rfl)
              · refine J.pu (fun _ _ _ _ k => lv_aload_n X.1.1 X.1.2.1 dX7_advance_173 rfl (lv_at hl 1 rfl) k) ?_
                refine J.pu (fun _ _ _ _ k => lv_aload_n X.1.1 X.1.2.1 dX7_advance_174 rfl (lv_at hl 1 rfl) k) ?_
                refine J.pu (fun _ _ _ _ k => lv_aload_n X.1.1 X.1.2.1 dX7_advance_175 rfl (lv_at hl 1 rfl) k) ?_
                refine J.getI (k := 0) (ci := 7) X in_X10 (show jCl[7]? = some (RX10, TX10, 8) from rfl) (by decide) q1519 (fun _ h => h) dX7_advance_176 (fun v176 h176 => ?_)
                refine J.pu (fun _ _ _ _ k => lv_bipush (v := 48) X.1.1 X.1.2.1 dX7_advance_179 (by decide) k) ?_
                refine J.pu (fun _ _ _ _ k => lv_bipush (v := 57) X.1.1 X.1.2.1 dX7_advance_181 (by decide) k) ?_
                refine J.bind (fun o183 g183 => ?_)
                refine J.bind (fun v183 h183 => ?_)
                refine J.cV (q := (RX10, TX10, 8)) (ci := 7) (As := [.int v176, .int 48, .int 57]) (rest := [.ref this]) (s2 := [.int v183, .ref this]) X ⟨rfl, rfl⟩ (ct_X7_past_X10 l G n S50 o183 v176 48 57) (jrd_of h183) (fun _ _ => jcwP (cwV 3 X.1.2.2.2.2 (lw_V q1401 q1403 qs16 q175 q1404) rfl rfl rfl (by decide +kernel) ⟨(Nat.le_of_ble_eq_true rfl), (Nat.le_of_ble_eq_true rfl)⟩) (jsl3 X.2.1)) g183 rfl rfl hl.1 rfl rfl (Nat.le_of_ble_eq_true rfl) dX7_advance_183 ?_
                refine J.putI (k := 1) (ci := 7) X in_X10 (show jCl[7]? = some (RX10, TX10, 8) from rfl) tyX10_ok jap_X10 (by decide) q1520 (fun _ h => h) rfl rfl dX7_advance_186 (fun S186 h186 => ?_)
                refine J.pu (fun _ _ _ _ k => lv_aload_n X.1.1 X.1.2.1 dX7_advance_189 rfl (lv_at hl 1 rfl) k) ?_
                refine J.pu (fun _ _ _ _ k => lv_aload_n X.1.1 X.1.2.1 dX7_advance_190 rfl (lv_at hl 1 rfl) k) ?_
                refine J.getI (k := 1) (ci := 7) X in_X10 (show jCl[7]? = some (RX10, TX10, 8) from rfl) (by decide) q1520 (fun _ h => h) dX7_advance_191 (fun v191 h191 => ?_)
                refine J.pu (fun _ _ _ _ k => lv_aload_n X.1.1 X.1.2.1 dX7_advance_194 rfl (lv_at hl 1 rfl) k) ?_
                refine J.getI (k := 0) (ci := 7) X in_X10 (show jCl[7]? = some (RX10, TX10, 8) from rfl) (by decide) q1519 (fun _ h => h) dX7_advance_195 (fun v195 h195 => ?_)
                refine J.pu (fun _ _ _ _ k => lv_isub X.1.1 X.1.2.1 dX7_advance_198 k) ?_
                refine J.pu (fun _ _ _ _ k => lv_iconst (v := 3) X.1.1 X.1.2.1 dX7_advance_199 (by decide) k) ?_
                refine J.br (fun _ _ _ _ ka kb => lv_icmp_gt (tgt := 207) X.1.1 X.1.2.1 dX7_advance_200 (by decide) ka kb) (fun c200 => ?_) (fun c200 => ?_)
                · refine J.pu (fun _ _ _ _ k => lv_iconst (v := 4) X.1.1 X.1.2.1 dX7_advance_207 (by decide) k) ?_
                  exact j208 4 S186 ls (lv_sub hl [1] rfl)
                · refine J.pu (fun _ _ _ _ k => lv_iconst (v := 1) X.1.1 X.1.2.1 dX7_advance_203 (by decide) k) ?_
                  refine J.pu (fun _ _ _ _ k => lv_goto (tgt := 208) X.1.1 X.1.2.1 dX7_advance_204 (by decide) k) ?_
                  exact j208 1 S186 ls (lv_sub hl [1] rfl)
            · refine J.pu (fun _ _ _ _ k => lv_aload_n X.1.1 X.1.2.1 dX7_advance_89 rfl (lv_at hl 1 rfl) k) ?_
              refine J.pu (fun _ _ _ _ k => lv_aload_n X.1.1 X.1.2.1 dX7_advance_90 rfl (lv_at hl 1 rfl) k) ?_
              refine J.pu (fun _ _ _ _ k => lv_aload_n X.1.1 X.1.2.1 dX7_advance_91 rfl (lv_at hl 1 rfl) k) ?_
              refine J.getI (k := 0) (ci := 7) X in_X10 (show jCl[7]? = some (RX10, TX10, 8) from rfl) (by decide) q1519 (fun _ h => h) dX7_advance_92 (fun v92 h92 => ?_)
              refine J.pu (fun _ _ _ _ k => lv_bipush (v := 97) X.1.1 X.1.2.1 dX7_advance_95 (by decide) k) ?_
              refine J.pu (fun _ _ _ _ k => lv_bipush (v := 122) X.1.1 X.1.2.1 dX7_advance_97 (by decide) k) ?_
              refine J.bind (fun o99 g99 => ?_)
              refine J.bind (fun v99 h99 => ?_)
              refine J.cV (q := (RX10, TX10, 8)) (ci := 7) (As := [.int v92, .int 97, .int 122]) (rest := [.ref this]) (s2 := [.int v99, .ref this]) X ⟨rfl, rfl⟩ (ct_X7_past_X10 l G n S50 o99 v92 97 122) (jrd_of h99) (fun _ _ => jcwP (cwV 3 X.1.2.2.2.2 (lw_V q1401 q1403 qs16 q175 q1404) rfl rfl rfl (by decide +kernel) ⟨(Nat.le_of_ble_eq_true rfl), (Nat.le_of_ble_eq_true rfl)⟩) (jsl3 X.2.1)) g99 rfl rfl hl.1 rfl rfl (Nat.le_of_ble_eq_true rfl) dX7_advance_99 ?_
              refine J.putI (k := 1) (ci := 7) X in_X10 (show jCl[7]? = some (RX10, TX10, 8) from rfl) tyX10_ok jap_X10 (by decide) q1520 (fun _ h => h) rfl rfl dX7_advance_102 (fun S102 h102 => ?_)
              refine J.pu (fun _ _ _ _ k => lv_aload_n X.1.1 X.1.2.1 dX7_advance_105 rfl (lv_at hl 1 rfl) k) ?_
              refine J.pu (fun _ _ _ _ k => lv_aload_n X.1.1 X.1.2.1 dX7_advance_106 rfl (lv_at hl 1 rfl) k) ?_
              refine J.getI (k := 1) (ci := 7) X in_X10 (show jCl[7]? = some (RX10, TX10, 8) from rfl) (by decide) q1520 (fun _ h => h) dX7_advance_107 (fun v107 h107 => ?_)
              refine J.pu (fun _ _ _ _ k => lv_aload_n X.1.1 X.1.2.1 dX7_advance_110 rfl (lv_at hl 1 rfl) k) ?_
              refine J.getI (k := 0) (ci := 7) X in_X10 (show jCl[7]? = some (RX10, TX10, 8) from rfl) (by decide) q1519 (fun _ h => h) dX7_advance_111 (fun v111 h111 => ?_)
              refine J.pu (fun _ _ _ _ k => lv_isub X.1.1 X.1.2.1 dX7_advance_114 k) ?_
              refine J.pu (fun _ _ _ _ k => lv_bipush (v := 8) X.1.1 X.1.2.1 dX7_advance_115 (by decide) k) ?_
              refine J.br (fun _ _ _ _ ka kb => lv_icmp_gt (tgt := 124) X.1.1 X.1.2.1 dX7_advance_117 (by decide) ka kb) (fun c117 => ?_) (fun c117 => ?_)
              · refine J.pu (fun _ _ _ _ k => lv_iconst (v := 4) X.1.1 X.1.2.1 dX7_advance_124 (by decide) k) ?_
                exact j125 4 S102 ls (lv_sub hl [1] rfl)
              · refine J.pu (fun _ _ _ _ k => lv_iconst (v := 0) X.1.1 X.1.2.1 dX7_advance_120 (by decide) k) ?_
                refine J.pu (fun _ _ _ _ k => lv_goto (tgt := 125) X.1.1 X.1.2.1 dX7_advance_121 (by decide) k) ?_
                exact j125 0 S102 ls (lv_sub hl [1] rfl)
  unfold X7_advance_X10_b
  exact L0 n σ ls (lv_sub hl [0] rfl)
