/-! the component, walked: printed by wip gen/comp.py -/
set_option maxRecDepth 100000
noncomputable def X8_loop_b (G : jG) (n : Nat) (σ : jH) (this : Nat) : Option (jTh Unit × jH) :=
  (rc σ (some this) 6).bind fun o2 => (X7_word_X8 G n σ o2).bind fun v2 => (rc σ v2 21).bind fun o7 => (stEq σ o7 (G.2.2.2 16)).bind fun v7 => (rc σ (some this) 6).bind fun o11 => tb (X7_expect_X8 G n σ o11 v7 1) fun v11 S11 => (rc S11 (some this) 6).bind fun o15 => bd (X7_advance_X8 G n S11 o15) fun v15 S15 => (rc S15 (some this) 6).bind fun o23 => tb (X7_number_X8 G n S15 o23 6 40) fun v23 S23 => bd (nO S23 1 [.int 0, .int 0, .null, .null, .null, .null, .null, .int 0, .int 0] 9) fun v28 S28 => (rc S28 (some this) 6).bind fun o38 => tb (X7_number_X8 G n S28 o38 0 (v23 - 1)) fun v38 S38 => bd (X2_init G n S38 v28 v23 v38) fun v41 S41 => (pR G S41 (some this) 6 6 (some v28)).bind fun S44 => (rc S44 (some this) 6).bind fun o48 => tb (X7_end_X8 G n S44 o48) fun v48 S48 => some (.inl (), S48)
noncomputable def X8_loop (G : jG) (n : Nat) (σ : jH) (this : Nat) : Option (jTh Unit × jH) := jck σ (X8_loop_b G n σ this)
set_option maxHeartbeats 4000000 in
set_option maxRecDepth 100000 in
theorem ct_X8_loop (l : Launch) (hfl : l.stackTraces = false) (G : jG) (n : Nat) (σ : jH) (this : Nat) : jTt l G yX8_loop (ws_ yX8_loop cX8_loop 2 none) 24 1289 jrV [.ref this] σ (X8_loop G n σ this) := by
  refine jTt.wr (lv := [(0, .ref this)]) rfl (Nat.le_of_ble_eq_true rfl) rfl ?_
  intro t p e s m args below meth c ls X hr hnm hout hl
  have X : jCx p c cX8_loop 2 s m args RX8 G meth := X
  unfold X8_loop_b
  refine J.pu (fun _ _ _ _ k => lv_aload_n X.1.1 X.1.2.1 dX8_loop_0 rfl (lv_at hl 0 rfl) k) ?_
  refine J.pu (fun _ _ _ _ k => lv_aload_n X.1.1 X.1.2.1 dX8_loop_1 rfl (lv_at hl 0 rfl) k) ?_
  refine J.bind (fun o2 g2 => ?_)
  refine J.bind (fun v2 h2 => ?_)
  refine J.cU (q := (RX8, TX8, 8)) (ci := 6) (As := []) (rest := [.ref this]) (s2 := [va_rf v2, .ref this]) X ⟨rfl, rfl⟩ (ct_X7_word_X8 l G n σ o2) (jrd_of h2) (fun _ _ => va_cwU 0 X.1.2.2.2.2 (lw_U q1550 q1551 q1553 q1554 q175 q1555) rfl rfl rfl rfl (by decide +kernel) ⟨(Nat.le_of_ble_eq_true rfl), (Nat.le_of_ble_eq_true rfl)⟩) g2 rfl rfl hl.1 rfl rfl (Nat.le_of_ble_eq_true rfl) dX8_loop_2 ?_
  refine J.pu (fun _ _ _ _ k => W.ldcS (i := 16) X rfl dX8_loop_5 k) ?_
  refine J.bind (fun o7 g7 => ?_)
  refine J.bind (fun v7 h7 => ?_)
  refine J.cV (q := (RJ9, TJ9, 4)) (ci := 21) (As := [va_rf (G.2.2.2 16)]) (rest := [.ref this]) (s2 := [.int v7, .ref this]) X ⟨rfl, rfl⟩ (ct_J9_equals l G σ o7 (G.2.2.2 16)) (jrd_of h7) (fun _ _ => cwV 1 X.1.2.2.2.2 (lw_V q1557 q1558 q1559 q149 q1560) rfl rfl rfl (by decide +kernel) ⟨(Nat.le_of_ble_eq_true rfl), (Nat.le_of_ble_eq_true rfl)⟩) g7 rfl rfl hl.1 rfl rfl (Nat.le_of_ble_eq_true rfl) dX8_loop_7 ?_
  refine J.pu (fun _ _ _ _ k => lv_iconst (v := 1) X.1.1 X.1.2.1 dX8_loop_10 (by decide) k) ?_
  refine J.bind (fun o11 g11 => ?_)
  refine J.tU (q := (RX8, TX8, 8)) (ci := 6) (As := [.int v7, .int 1]) (rest := []) X hout ⟨rfl, rfl⟩ (ct_X7_expect_X8 l hfl G n σ o11 v7 1) (fun _ _ => va_cwU 2 X.1.2.2.2.2 (lw_U q1565 q1566 q1568 q1569 q175 q1570) rfl rfl rfl rfl (by decide +kernel) ⟨(Nat.le_of_ble_eq_true rfl), (Nat.le_of_ble_eq_true rfl)⟩) g11 rfl rfl hl.1 rfl (Nat.le_of_ble_eq_true rfl) dX8_loop_11 (fun v11 S11 h11 => ?_)
  refine J.geq (g2 := F0 m 14 ls []) rfl ?_
  refine J.pu (fun _ _ _ _ k => lv_aload_n X.1.1 X.1.2.1 dX8_loop_14 rfl (lv_at hl 0 rfl) k) ?_
  refine J.bind (fun o15 g15 => ?_)
  refine J.bd' (fun v15 S15 h15 => ?_)
  refine J.cU (q := (RX8, TX8, 8)) (ci := 6) (As := []) (rest := []) (s2 := []) X ⟨rfl, rfl⟩ (ct_X7_advance_X8 l G n S11 o15) h15 (fun _ _ => va_cwU 0 X.1.2.2.2.2 (lw_U q1599 q1600 q1602 q1388 q175 q1392) rfl rfl rfl rfl (by decide +kernel) ⟨(Nat.le_of_ble_eq_true rfl), (Nat.le_of_ble_eq_true rfl)⟩) g15 rfl rfl hl.1 rfl rfl (Nat.le_of_ble_eq_true rfl) dX8_loop_15 ?_
  refine J.pu (fun _ _ _ _ k => lv_aload_n X.1.1 X.1.2.1 dX8_loop_18 rfl (lv_at hl 0 rfl) k) ?_
  refine J.pu (fun _ _ _ _ k => lv_bipush (v := 6) X.1.1 X.1.2.1 dX8_loop_19 (by decide) k) ?_
  refine J.pu (fun _ _ _ _ k => lv_bipush (v := 40) X.1.1 X.1.2.1 dX8_loop_21 (by decide) k) ?_
  refine J.bind (fun o23 g23 => ?_)
  refine J.tU (q := (RX8, TX8, 8)) (ci := 6) (As := [.int 6, .int 40]) (rest := []) X hout ⟨rfl, rfl⟩ (ct_X7_number_X8 l hfl G n S15 o23 6 40) (fun _ _ => va_cwU 2 X.1.2.2.2.2 (lw_U q1603 q1604 q1606 q1607 q175 q1608) rfl rfl rfl rfl (by decide +kernel) ⟨(Nat.le_of_ble_eq_true rfl), (Nat.le_of_ble_eq_true rfl)⟩) g23 rfl rfl hl.1 rfl (Nat.le_of_ble_eq_true rfl) dX8_loop_23 (fun v23 S23 h23 => ?_)
  refine J.geq (g2 := F0 m 26 ls [.int v23]) rfl ?_
  refine J.istore_n (i := 1) (lv' := [(1, .int v23), (0, .ref this)]) X.1.1 X.1.2.1 dX8_loop_26 rfl hl (by decide) (by first | rfl | simp [va_rf_cat, jcI, jcA, jcJ, jcD, jcF]) (fun ls hl => ?_)
  refine J.pu (fun _ _ _ _ k => lv_aload_n X.1.1 X.1.2.1 dX8_loop_27 rfl (lv_at hl 1 rfl) k) ?_
  refine J.nO' (fs := [.int 0, .int 0, .null, .null, .null, .null, .null, .int 0, .int 0]) X ⟨rfl, rfl⟩ in_X2 (show jCl[1]? = some (RX2, TX2, 9) from rfl) tyX2 tyX2_ok q1616 q203 q139 rfl dX8_loop_28 (fun v28 S28 h28 => ?_)
  refine J.pu (fun _ _ _ _ k => lv_dup X.1.1 X.1.2.1 dX8_loop_31 rfl k) ?_
  refine J.pu (fun _ _ _ _ k => lv_iload_n X.1.1 X.1.2.1 dX8_loop_32 rfl (lv_at hl 0 rfl) k) ?_
  refine J.pu (fun _ _ _ _ k => lv_aload_n X.1.1 X.1.2.1 dX8_loop_33 rfl (lv_at hl 1 rfl) k) ?_
  refine J.pu (fun _ _ _ _ k => lv_iconst (v := 0) X.1.1 X.1.2.1 dX8_loop_34 (by decide) k) ?_
  refine J.pu (fun _ _ _ _ k => lv_iload_n X.1.1 X.1.2.1 dX8_loop_35 rfl (lv_at hl 0 rfl) k) ?_
  refine J.pu (fun _ _ _ _ k => lv_iconst (v := 1) X.1.1 X.1.2.1 dX8_loop_36 (by decide) k) ?_
  refine J.pu (fun _ _ _ _ k => lv_isub X.1.1 X.1.2.1 dX8_loop_37 k) ?_
  refine J.bind (fun o38 g38 => ?_)
  refine J.tU (q := (RX8, TX8, 8)) (ci := 6) (As := [.int 0, .int (v23 - 1)]) (rest := [.int v23, .ref v28, .ref v28, .ref this]) X hout ⟨rfl, rfl⟩ (ct_X7_number_X8 l hfl G n S28 o38 0 (v23 - 1)) (fun _ _ => va_cwU 2 X.1.2.2.2.2 (lw_U q1603 q1604 q1606 q1607 q175 q1608) rfl rfl rfl rfl (by decide +kernel) ⟨(Nat.le_of_ble_eq_true rfl), (Nat.le_of_ble_eq_true rfl)⟩) g38 rfl rfl hl.1 rfl (Nat.le_of_ble_eq_true rfl) dX8_loop_38 (fun v38 S38 h38 => ?_)
  refine J.geq (g2 := F0 m 41 ls [.int v38, .int v23, .ref v28, .ref v28, .ref this]) rfl ?_
  refine J.bd' (fun v41 S41 h41 => ?_)
  refine J.cI (a := v28) (As := [.int v23, .int v38]) (rest := [.ref v28, .ref this]) (s2 := [.ref v28, .ref this]) X ⟨rfl, rfl⟩ (ct_X2_init l G n S38 v28 v23 v38) h41 (fun _ _ => jcwI 2 X.1.2.2.2.2 q1617 q205 q139 q206 rfl rfl rfl (by decide +kernel) ⟨(Nat.le_of_ble_eq_true rfl), (Nat.le_of_ble_eq_true rfl)⟩) rfl hl.1 rfl rfl (Nat.le_of_ble_eq_true rfl) dX8_loop_41 ?_
  refine J.putR (k := 6) (ci := 6) X in_X8 (show jCl[6]? = some (RX8, TX8, 8) from rfl) tyX8_ok jap_X8 (by decide) q1517 (fun _ h => h) rfl (Or.inl ⟨_, rfl⟩) dX8_loop_44 (fun S44 h44 => ?_)
  refine J.pu (fun _ _ _ _ k => lv_aload_n X.1.1 X.1.2.1 dX8_loop_47 rfl (lv_at hl 1 rfl) k) ?_
  refine J.bind (fun o48 g48 => ?_)
  refine J.tU (q := (RX8, TX8, 8)) (ci := 6) (As := []) (rest := []) X hout ⟨rfl, rfl⟩ (ct_X7_end_X8 l hfl G n S44 o48) (fun _ _ => va_cwU 0 X.1.2.2.2.2 (lw_U q1618 q1619 q1621 q1622 q175 q1623) rfl rfl rfl rfl (by decide +kernel) ⟨(Nat.le_of_ble_eq_true rfl), (Nat.le_of_ble_eq_true rfl)⟩) g48 rfl rfl hl.1 rfl (Nat.le_of_ble_eq_true rfl) dX8_loop_48 (fun v48 S48 h48 => ?_)
  refine J.geq (g2 := F0 m 51 ls []) rfl ?_
  exact J.tret (J.vret (vr := fun t : Unit × jH => jrV t.1) (fin := (Prod.snd : Unit × jH → jH)) (t := ((), S48)) X hr (by rfl) (by rfl) dX8_loop_51)
noncomputable def X8_chute_j64 (G : jG) (n : Nat) (this : Nat) (x1_64 : Int32) (s1_64 : Int32) (B64 : jH) : Option (jTh Unit × jH) :=
  (rc B64 (some this) 6).bind fun o65 => tb (X7_expect_X8 G n B64 o65 s1_64 3) fun v65 S65 => (rc S65 (some this) 6).bind fun o69 => bd (X7_advance_X8 G n S65 o69) fun v69 S69 => (rc S69 (some this) 6).bind fun o76 => tb (X7_number_X8 G n S69 o76 1 9) fun v76 S76 => (rc S76 (some this) 6).bind fun o83 => tb (X7_number_X8 G n S76 o83 0 3) fun v83 S83 => (gR S83 (some this) 6 6).bind fun v88 => (gR S83 v88 1 3).bind fun v91 => bd (nO S83 3 [.int 0, .int 0, .int 0, .int 0, .null, .int 0, .int 0, .int 0, .int 0] 9) fun v94 S94 => (gR S94 (some this) 6 6).bind fun v99 => (gR S94 v99 1 3).bind fun v102 => (rc S94 v102 15).bind fun o105 => (lSize 0 S94 o105).bind fun v105 => (rc S94 (some this) 6).bind fun o117 => tb (X7_number_X8 G n S94 o117 0 9) fun v117 S117 => bd (X4_init G n S117 v94 v105 x1_64 v76 v83 v117) fun v120 S120 => (rc S120 v91 15).bind fun o123 => bd (jck S120 (alAdd G S120 o123 (some v94))) fun v123 S123 => some (.inl (), S123)
noncomputable def X8_chute_j23 (G : jG) (n : Nat) (this : Nat) (s1_23 : Int32) (B23 : jH) : Option (jTh Unit × jH) :=
  (rc B23 (some this) 6).bind fun o24 => tb (X7_expect_X8 G n B23 o24 s1_23 4) fun v24 S24 => (rc S24 (some this) 6).bind fun o28 => bd (X7_advance_X8 G n S24 o28) fun v28 S28 => (gR S28 (some this) 6 6).bind fun v34 => (gI S28 v34 1 0).bind fun v37 => (rc S28 (some this) 6).bind fun o42 => tb (X7_numberHere_X8 G n S28 o42 0 (v37 - 1)) fun v42 S42 => (gR S42 (some this) 6 6).bind fun v48 => (rc S42 v48 1).bind fun o52 => (X2_chuteAt G n S42 o52 v42).bind fun v52 => if v52 = (-1) then (X8_chute_j64 G n this v42 1 S42) else (X8_chute_j64 G n this v42 0 S42)
noncomputable def X8_chute_b (G : jG) (n : Nat) (σ : jH) (this : Nat) : Option (jTh Unit × jH) :=
  (gR σ (some this) 6 6).bind fun v2 => (gR σ v2 1 3).bind fun v5 => (rc σ v5 15).bind fun o8 => (lSize 0 σ o8).bind fun v8 => if 6 ≤ v8 then (X8_chute_j23 G n this 0 σ) else (X8_chute_j23 G n this 1 σ)
noncomputable def X8_chute (G : jG) (n : Nat) (σ : jH) (this : Nat) : Option (jTh Unit × jH) := jck σ (X8_chute_b G n σ this)
set_option maxHeartbeats 4000000 in
set_option maxRecDepth 100000 in
theorem ct_X8_chute (l : Launch) (hfl : l.stackTraces = false) (G : jG) (n : Nat) (σ : jH) (this : Nat) : jTt l G yX8_chute (ws_ yX8_chute cX8_chute 4 none) 24 1289 jrV [.ref this] σ (X8_chute G n σ this) := by
  refine jTt.wr (lv := [(0, .ref this)]) rfl (Nat.le_of_ble_eq_true rfl) rfl ?_
  intro t p e s m args below meth c ls X hr hnm hout hl
  have X : jCx p c cX8_chute 4 s m args RX8 G meth := X
  have j64 : ∀ (x1_64 : Int32) (s1_64 : Int32) (B64 : jH) (ls : Array Slot), lv_has ls 4 [(0, .ref this), (1, .int x1_64)] → jGoT l G 24 1289 σ jrV t p e s m args below meth c (X8_chute_j64 G n this x1_64 s1_64 B64) B64 (F0 m 64 ls [.int s1_64, .ref this]) := by
    intro x1_64 s1_64 B64 ls hl
    unfold X8_chute_j64
    refine J.pu (fun _ _ _ _ k => lv_iconst (v := 3) X.1.1 X.1.2.1 dX8_chute_64 (by decide) k) ?_
    refine J.bind (fun o65 g65 => ?_)
    refine J.tU (q := (RX8, TX8, 8)) (ci := 6) (As := [.int s1_64, .int 3]) (rest := []) X hout ⟨rfl, rfl⟩ (ct_X7_expect_X8 l hfl G n B64 o65 s1_64 3) (fun _ _ => va_cwU 2 X.1.2.2.2.2 (lw_U q1565 q1566 q1568 q1569 q175 q1570) rfl rfl rfl rfl (by decide +kernel) ⟨(Nat.le_of_ble_eq_true rfl), (Nat.le_of_ble_eq_true rfl)⟩) g65 rfl rfl hl.1 rfl (Nat.le_of_ble_eq_true rfl) dX8_chute_65 (fun v65 S65 h65 => ?_)
    refine J.geq (g2 := F0 m 68 ls []) rfl ?_
    refine J.pu (fun _ _ _ _ k => lv_aload_n X.1.1 X.1.2.1 dX8_chute_68 rfl (lv_at hl 0 rfl) k) ?_
    refine J.bind (fun o69 g69 => ?_)
    refine J.bd' (fun v69 S69 h69 => ?_)
    refine J.cU (q := (RX8, TX8, 8)) (ci := 6) (As := []) (rest := []) (s2 := []) X ⟨rfl, rfl⟩ (ct_X7_advance_X8 l G n S65 o69) h69 (fun _ _ => va_cwU 0 X.1.2.2.2.2 (lw_U q1599 q1600 q1602 q1388 q175 q1392) rfl rfl rfl rfl (by decide +kernel) ⟨(Nat.le_of_ble_eq_true rfl), (Nat.le_of_ble_eq_true rfl)⟩) g69 rfl rfl hl.1 rfl rfl (Nat.le_of_ble_eq_true rfl) dX8_chute_69 ?_
    refine J.pu (fun _ _ _ _ k => lv_aload_n X.1.1 X.1.2.1 dX8_chute_72 rfl (lv_at hl 0 rfl) k) ?_
    refine J.pu (fun _ _ _ _ k => lv_iconst (v := 1) X.1.1 X.1.2.1 dX8_chute_73 (by decide) k) ?_
    refine J.pu (fun _ _ _ _ k => lv_bipush (v := 9) X.1.1 X.1.2.1 dX8_chute_74 (by decide) k) ?_
    refine J.bind (fun o76 g76 => ?_)
    refine J.tU (q := (RX8, TX8, 8)) (ci := 6) (As := [.int 1, .int 9]) (rest := []) X hout ⟨rfl, rfl⟩ (ct_X7_number_X8 l hfl G n S69 o76 1 9) (fun _ _ => va_cwU 2 X.1.2.2.2.2 (lw_U q1603 q1604 q1606 q1607 q175 q1608) rfl rfl rfl rfl (by decide +kernel) ⟨(Nat.le_of_ble_eq_true rfl), (Nat.le_of_ble_eq_true rfl)⟩) g76 rfl rfl hl.1 rfl (Nat.le_of_ble_eq_true rfl) dX8_chute_76 (fun v76 S76 h76 => ?_)
    refine J.geq (g2 := F0 m 79 ls [.int v76]) rfl ?_
    refine J.istore_n (i := 2) (lv' := [(2, .int v76), (0, .ref this), (1, .int x1_64)]) X.1.1 X.1.2.1 dX8_chute_79 rfl hl (by decide) (by first | rfl | simp [va_rf_cat, jcI, jcA, jcJ, jcD, jcF]) (fun ls hl => ?_)
    refine J.pu (fun _ _ _ _ k => lv_aload_n X.1.1 X.1.2.1 dX8_chute_80 rfl (lv_at hl 1 rfl) k) ?_
    refine J.pu (fun _ _ _ _ k => lv_iconst (v := 0) X.1.1 X.1.2.1 dX8_chute_81 (by decide) k) ?_
    refine J.pu (fun _ _ _ _ k => lv_iconst (v := 3) X.1.1 X.1.2.1 dX8_chute_82 (by decide) k) ?_
    refine J.bind (fun o83 g83 => ?_)
    refine J.tU (q := (RX8, TX8, 8)) (ci := 6) (As := [.int 0, .int 3]) (rest := []) X hout ⟨rfl, rfl⟩ (ct_X7_number_X8 l hfl G n S76 o83 0 3) (fun _ _ => va_cwU 2 X.1.2.2.2.2 (lw_U q1603 q1604 q1606 q1607 q175 q1608) rfl rfl rfl rfl (by decide +kernel) ⟨(Nat.le_of_ble_eq_true rfl), (Nat.le_of_ble_eq_true rfl)⟩) g83 rfl rfl hl.1 rfl (Nat.le_of_ble_eq_true rfl) dX8_chute_83 (fun v83 S83 h83 => ?_)
    refine J.geq (g2 := F0 m 86 ls [.int v83]) rfl ?_
    refine J.istore_n (i := 3) (lv' := [(3, .int v83), (2, .int v76), (0, .ref this), (1, .int x1_64)]) X.1.1 X.1.2.1 dX8_chute_86 rfl hl (by decide) (by first | rfl | simp [va_rf_cat, jcI, jcA, jcJ, jcD, jcF]) (fun ls hl => ?_)
    refine J.pu (fun _ _ _ _ k => lv_aload_n X.1.1 X.1.2.1 dX8_chute_87 rfl (lv_at hl 2 rfl) k) ?_
    refine J.getR (k := 6) (ci := 6) X in_X8 (show jCl[6]? = some (RX8, TX8, 8) from rfl) (by decide) q1517 (fun _ h => h) dX8_chute_88 (fun v88 h88 => ?_)
    refine J.getRN (k := 3) (ci := 1) X in_X2 (show jCl[1]? = some (RX2, TX2, 9) from rfl) (by decide) jnf7 (fun _ h => h) dX8_chute_91 (fun v91 h91 => ?_)
    refine J.nO' (fs := [.int 0, .int 0, .int 0, .int 0, .null, .int 0, .int 0, .int 0, .int 0]) X ⟨rfl, rfl⟩ in_X4 (show jCl[3]? = some (RX4, TX4, 9) from rfl) tyX4 tyX4_ok q1719 q729 q161 rfl dX8_chute_94 (fun v94 S94 h94 => ?_)
    refine J.pu (fun _ _ _ _ k => lv_dup X.1.1 X.1.2.1 dX8_chute_97 rfl k) ?_
    refine J.pu (fun _ _ _ _ k => lv_aload_n X.1.1 X.1.2.1 dX8_chute_98 rfl (lv_at hl 2 rfl) k) ?_
    refine J.getR (k := 6) (ci := 6) X in_X8 (show jCl[6]? = some (RX8, TX8, 8) from rfl) (by decide) q1517 (fun _ h => h) dX8_chute_99 (fun v99 h99 => ?_)
    refine J.getRN (k := 3) (ci := 1) X in_X2 (show jCl[1]? = some (RX2, TX2, 9) from rfl) (by decide) jnf7 (fun _ h => h) dX8_chute_102 (fun v102 h102 => ?_)
    refine J.bind (fun o105 g105 => ?_)
    refine J.bind (fun v105 h105 => ?_)
    refine J.cF (q := (RJ2, TJ2, 3)) (ci := 15) (As := []) (rest := [.ref v94, .ref v94, va_rf v91]) (s2 := [.int v105, .ref v94, .ref v94, va_rf v91]) X ⟨rfl, rfl⟩ (ct_J2_size l G S94 o105) (jrd_of h105) (fun _ _ => va_cwF 0 X.1.2.2.2.2 (lw_F q1714 q832 q834 q142 q836) rfl rfl rfl (jfw2 X.2.1) (by decide +kernel) ⟨(Nat.le_of_ble_eq_true rfl), (Nat.le_of_ble_eq_true rfl)⟩) g105 rfl rfl hl.1 rfl rfl (by simp [va_rf_cat, jcI, jcA, jcJ, jcD, jcF]) dX8_chute_105 ?_
    refine J.pu (fun _ _ _ _ k => lv_iload_n X.1.1 X.1.2.1 dX8_chute_110 rfl (lv_at hl 3 rfl) k) ?_
    refine J.pu (fun _ _ _ _ k => lv_iload_n X.1.1 X.1.2.1 dX8_chute_111 rfl (lv_at hl 1 rfl) k) ?_
    refine J.pu (fun _ _ _ _ k => lv_iload_n X.1.1 X.1.2.1 dX8_chute_112 rfl (lv_at hl 0 rfl) k) ?_
    refine J.pu (fun _ _ _ _ k => lv_aload_n X.1.1 X.1.2.1 dX8_chute_113 rfl (lv_at hl 2 rfl) k) ?_
    refine J.pu (fun _ _ _ _ k => lv_iconst (v := 0) X.1.1 X.1.2.1 dX8_chute_114 (by decide) k) ?_
    refine J.pu (fun _ _ _ _ k => lv_bipush (v := 9) X.1.1 X.1.2.1 dX8_chute_115 (by decide) k) ?_
    refine J.bind (fun o117 g117 => ?_)
    refine J.tU (q := (RX8, TX8, 8)) (ci := 6) (As := [.int 0, .int 9]) (rest := [.int v83, .int v76, .int x1_64, .int v105, .ref v94, .ref v94, va_rf v91]) X hout ⟨rfl, rfl⟩ (ct_X7_number_X8 l hfl G n S94 o117 0 9) (fun _ _ => va_cwU 2 X.1.2.2.2.2 (lw_U q1603 q1604 q1606 q1607 q175 q1608) rfl rfl rfl rfl (by decide +kernel) ⟨(Nat.le_of_ble_eq_true rfl), (Nat.le_of_ble_eq_true rfl)⟩) g117 rfl rfl hl.1 rfl (by simp [va_rf_cat, jcI, jcA, jcJ, jcD, jcF]) dX8_chute_117 (fun v117 S117 h117 => ?_)
    refine J.geq (g2 := F0 m 120 ls [.int v117, .int v83, .int v76, .int x1_64, .int v105, .ref v94, .ref v94, va_rf v91]) rfl ?_
    refine J.bd' (fun v120 S120 h120 => ?_)
    refine J.cI (a := v94) (As := [.int v105, .int x1_64, .int v76, .int v83, .int v117]) (rest := [.ref v94, va_rf v91]) (s2 := [.ref v94, va_rf v91]) X ⟨rfl, rfl⟩ (ct_X4_init l G n S117 v94 v105 x1_64 v76 v83 v117) h120 (fun _ _ => jcwI 5 X.1.2.2.2.2 q1720 q731 q161 q732 rfl rfl rfl (by decide +kernel) ⟨(Nat.le_of_ble_eq_true rfl), (Nat.le_of_ble_eq_true rfl)⟩) rfl hl.1 rfl rfl (by simp [va_rf_cat, jcI, jcA, jcJ, jcD, jcF]) dX8_chute_120 ?_
    refine J.bind (fun o123 g123 => ?_)
    refine J.bd' (fun v123 S123 h123 => ?_)
    refine J.cF (q := (RJ2, TJ2, 3)) (ci := 15) (As := [.ref v94]) (rest := []) (s2 := [.int v123]) X ⟨rfl, rfl⟩ (ct_J2_add l G S120 o123 (some v94)) h123 (fun _ _ => va_cwF 1 X.1.2.2.2.2 (lw_F q1722 q582 q584 q142 q586) rfl rfl rfl (jfw0 X.2.1) (by decide +kernel) ⟨(Nat.le_of_ble_eq_true rfl), (Nat.le_of_ble_eq_true rfl)⟩) g123 rfl rfl hl.1 rfl rfl (Nat.le_of_ble_eq_true rfl) dX8_chute_123 ?_
    refine J.pu (fun _ _ _ _ k => lv_pop X.1.1 X.1.2.1 dX8_chute_128 rfl k) ?_
    exact J.tret (J.vret (vr := fun t : Unit × jH => jrV t.1) (fin := (Prod.snd : Unit × jH → jH)) (t := ((), S123)) X hr (by rfl) (by rfl) dX8_chute_129)
  have j23 : ∀ (s1_23 : Int32) (B23 : jH) (ls : Array Slot), lv_has ls 4 [(0, .ref this)] → jGoT l G 24 1289 σ jrV t p e s m args below meth c (X8_chute_j23 G n this s1_23 B23) B23 (F0 m 23 ls [.int s1_23, .ref this]) := by
    intro s1_23 B23 ls hl
    unfold X8_chute_j23
    refine J.pu (fun _ _ _ _ k => lv_iconst (v := 4) X.1.1 X.1.2.1 dX8_chute_23 (by decide) k) ?_
    refine J.bind (fun o24 g24 => ?_)
    refine J.tU (q := (RX8, TX8, 8)) (ci := 6) (As := [.int s1_23, .int 4]) (rest := []) X hout ⟨rfl, rfl⟩ (ct_X7_expect_X8 l hfl G n B23 o24 s1_23 4) (fun _ _ => va_cwU 2 X.1.2.2.2.2 (lw_U q1565 q1566 q1568 q1569 q175 q1570) rfl rfl rfl rfl (by decide +kernel) ⟨(Nat.le_of_ble_eq_true rfl), (Nat.le_of_ble_eq_true rfl)⟩) g24 rfl rfl hl.1 rfl (Nat.le_of_ble_eq_true rfl) dX8_chute_24 (fun v24 S24 h24 => ?_)
    refine J.geq (g2 := F0 m 27 ls []) rfl ?_
    refine J.pu (fun _ _ _ _ k => lv_aload_n X.1.1 X.1.2.1 dX8_chute_27 rfl (lv_at hl 0 rfl) k) ?_
    refine J.bind (fun o28 g28 => ?_)
    refine J.bd' (fun v28 S28 h28 => ?_)
    refine J.cU (q := (RX8, TX8, 8)) (ci := 6) (As := []) (rest := []) (s2 := []) X ⟨rfl, rfl⟩ (ct_X7_advance_X8 l G n S24 o28) h28 (fun _ _ => va_cwU 0 X.1.2.2.2.2 (lw_U q1599 q1600 q1602 q1388 q175 q1392) rfl rfl rfl rfl (by decide +kernel) ⟨(Nat.le_of_ble_eq_true rfl), (Nat.le_of_ble_eq_true rfl)⟩) g28 rfl rfl hl.1 rfl rfl (Nat.le_of_ble_eq_true rfl) dX8_chute_28 ?_
    refine J.pu (fun _ _ _ _ k => lv_aload_n X.1.1 X.1.2.1 dX8_chute_31 rfl (lv_at hl 0 rfl) k) ?_
    refine J.pu (fun _ _ _ _ k => lv_iconst (v := 0) X.1.1 X.1.2.1 dX8_chute_32 (by decide) k) ?_
    refine J.pu (fun _ _ _ _ k => lv_aload_n X.1.1 X.1.2.1 dX8_chute_33 rfl (lv_at hl 0 rfl) k) ?_
    refine J.getR (k := 6) (ci := 6) X in_X8 (show jCl[6]? = some (RX8, TX8, 8) from rfl) (by decide) q1517 (fun _ h => h) dX8_chute_34 (fun v34 h34 => ?_)
    refine J.getIN (k := 0) (ci := 1) X in_X2 (show jCl[1]? = some (RX2, TX2, 9) from rfl) (by decide) jnf1 (fun _ h => h) dX8_chute_37 (fun v37 h37 => ?_)
    refine J.pu (fun _ _ _ _ k => lv_iconst (v := 1) X.1.1 X.1.2.1 dX8_chute_40 (by decide) k) ?_
    refine J.pu (fun _ _ _ _ k => lv_isub X.1.1 X.1.2.1 dX8_chute_41 k) ?_
    refine J.bind (fun o42 g42 => ?_)
    refine J.tU (q := (RX8, TX8, 8)) (ci := 6) (As := [.int 0, .int (v37 - 1)]) (rest := []) X hout ⟨rfl, rfl⟩ (ct_X7_numberHere_X8 l hfl G n S28 o42 0 (v37 - 1)) (fun _ _ => va_cwU 2 X.1.2.2.2.2 (lw_U q1705 q1706 q1708 q1610 q175 q1614) rfl rfl rfl rfl (by decide +kernel) ⟨(Nat.le_of_ble_eq_true rfl), (Nat.le_of_ble_eq_true rfl)⟩) g42 rfl rfl hl.1 rfl (Nat.le_of_ble_eq_true rfl) dX8_chute_42 (fun v42 S42 h42 => ?_)
    refine J.geq (g2 := F0 m 45 ls [.int v42]) rfl ?_
    refine J.istore_n (i := 1) (lv' := [(1, .int v42), (0, .ref this)]) X.1.1 X.1.2.1 dX8_chute_45 rfl hl (by decide) (by first | rfl | simp [va_rf_cat, jcI, jcA, jcJ, jcD, jcF]) (fun ls hl => ?_)
    refine J.pu (fun _ _ _ _ k => lv_aload_n X.1.1 X.1.2.1 dX8_chute_46 rfl (lv_at hl 1 rfl) k) ?_
    refine J.pu (fun _ _ _ _ k => lv_aload_n X.1.1 X.1.2.1 dX8_chute_47 rfl (lv_at hl 1 rfl) k) ?_
    refine J.getR (k := 6) (ci := 6) X in_X8 (show jCl[6]? = some (RX8, TX8, 8) from rfl) (by decide) q1517 (fun _ h => h) dX8_chute_48 (fun v48 h48 => ?_)
    refine J.pu (fun _ _ _ _ k => lv_iload_n X.1.1 X.1.2.1 dX8_chute_51 rfl (lv_at hl 0 rfl) k) ?_
    refine J.bind (fun o52 g52 => ?_)
    refine J.bind (fun v52 h52 => ?_)
    refine J.cV (q := (RX2, TX2, 9)) (ci := 1) (As := [.int v42]) (rest := [.ref this]) (s2 := [.int v52, .ref this]) X ⟨rfl, rfl⟩ (ct_X2_chuteAt l G n S42 o52 v42) (jrd_of h52) (fun _ _ => cwV 1 X.1.2.2.2.2 (lw_V q1715 q1716 q1717 q139 q1718) rfl rfl rfl (by decide +kernel) ⟨(Nat.le_of_ble_eq_true rfl), (Nat.le_of_ble_eq_true rfl)⟩) g52 rfl rfl hl.1 rfl rfl (Nat.le_of_ble_eq_true rfl) dX8_chute_52 ?_
    refine J.pu (fun _ _ _ _ k => lv_iconst (v := (-1)) X.1.1 X.1.2.1 dX8_chute_55 (by decide) k) ?_
    refine J.br (fun _ _ _ _ ka kb => lv_icmp_ne (tgt := 63) X.1.1 X.1.2.1 dX8_chute_56 (by decide) kb ka) (fun c56 => ?_) (fun c56 => ?_)
    · refine J.pu (fun _ _ _ _ k => lv_iconst (v := 1) X.1.1 X.1.2.1 dX8_chute_59 (by decide) k) ?_
      refine J.pu (fun _ _ _ _ k => lv_goto (tgt := 64) X.1.1 X.1.2.1 dX8_chute_60 (by decide) k) ?_
      exact j64 v42 1 S42 ls (lv_sub hl [1, 0] rfl)
    · refine J.pu (fun _ _ _ _ k => lv_iconst (v := 0) X.1.1 X.1.2.1 dX8_chute_63 (by decide) k) ?_
      exact j64 v42 0 S42 ls (lv_sub hl [1, 0] rfl)
  unfold X8_chute_b
  refine J.pu (fun _ _ _ _ k => lv_aload_n X.1.1 X.1.2.1 dX8_chute_0 rfl (lv_at hl 0 rfl) k) ?_
  refine J.pu (fun _ _ _ _ k => lv_aload_n X.1.1 X.1.2.1 dX8_chute_1 rfl (lv_at hl 0 rfl) k) ?_
  refine J.getR (k := 6) (ci := 6) X in_X8 (show jCl[6]? = some (RX8, TX8, 8) from rfl) (by decide) q1517 (fun _ h => h) dX8_chute_2 (fun v2 h2 => ?_)
  refine J.getRN (k := 3) (ci := 1) X in_X2 (show jCl[1]? = some (RX2, TX2, 9) from rfl) (by decide) jnf7 (fun _ h => h) dX8_chute_5 (fun v5 h5 => ?_)
  refine J.bind (fun o8 g8 => ?_)
  refine J.bind (fun v8 h8 => ?_)
  refine J.cF (q := (RJ2, TJ2, 3)) (ci := 15) (As := []) (rest := [.ref this]) (s2 := [.int v8, .ref this]) X ⟨rfl, rfl⟩ (ct_J2_size l G σ o8) (jrd_of h8) (fun _ _ => va_cwF 0 X.1.2.2.2.2 (lw_F q1714 q832 q834 q142 q836) rfl rfl rfl (jfw2 X.2.1) (by decide +kernel) ⟨(Nat.le_of_ble_eq_true rfl), (Nat.le_of_ble_eq_true rfl)⟩) g8 rfl rfl hl.1 rfl rfl (Nat.le_of_ble_eq_true rfl) dX8_chute_8 ?_
  refine J.pu (fun _ _ _ _ k => lv_bipush (v := 6) X.1.1 X.1.2.1 dX8_chute_13 (by decide) k) ?_
  refine J.br (fun _ _ _ _ ka kb => lv_icmp_ge (tgt := 22) X.1.1 X.1.2.1 dX8_chute_15 (by decide) ka kb) (fun c15 => ?_) (fun c15 => ?_)
  · refine J.pu (fun _ _ _ _ k => lv_iconst (v := 0) X.1.1 X.1.2.1 dX8_chute_22 (by decide) k) ?_
    exact j23 0 σ ls (lv_sub hl [0] rfl)
  · refine J.pu (fun _ _ _ _ k => lv_iconst (v := 1) X.1.1 X.1.2.1 dX8_chute_18 (by decide) k) ?_
    refine J.pu (fun _ _ _ _ k => lv_goto (tgt := 23) X.1.1 X.1.2.1 dX8_chute_19 (by decide) k) ?_
    exact j23 1 σ ls (lv_sub hl [0] rfl)
noncomputable def X0_cell_b (G : jG) (n : Nat) (σ : jH) (a0 : Option Nat) (a1 : Int32) (a2 : Int32) (a3 : Option Nat) : Option (Int32 × jH) :=
  (rc σ a0 0).bind fun o5 => tc (X1_cell G n σ o5 a1 a2) (fun v5 S5 => (sJ G S5 a3 0 v5.toInt64).bind fun S9 => some (0, S9)) (fun k5 q5 S5 => if k5 = 0 then (some (2, S5)) else if k5 = 2 then (some (1, S5)) else none)
noncomputable def X0_cell (G : jG) (n : Nat) (σ : jH) (a0 : Option Nat) (a1 : Int32) (a2 : Int32) (a3 : Option Nat) : Option (Int32 × jH) := jck σ (X0_cell_b G n σ a0 a1 a2 a3)
set_option maxHeartbeats 4000000 in
set_option maxRecDepth 100000 in
theorem ct_X0_cell (l : Launch) (hfl : l.stackTraces = false) (G : jG) (n : Nat) (σ : jH) (a0 : Option Nat) (a1 : Int32) (a2 : Int32) (a3 : Option Nat) : jCt l G yX0_cell (wsW_ yX0_cell cX0_cell 5 (some .int) [(0, 10, 13, 22), (0, 10, 17, 13)]) 24 1287 jrI [va_rf a0, .int a1, .int a2, va_rf a3] σ (X0_cell G n σ a0 a1 a2 a3) := by
  refine jCt.wrH (hh := [(0, 10, 13, 22), (0, 10, 17, 13)]) (lv := [(0, va_rf a0), (1, .int a1), (2, .int a2), (3, va_rf a3)]) (plainFor_of_name (by decide)) (by simp [lg_sl, va_rf_cat, jcI, jcA, jcJ, jcD, jcF]) (by simp [lv_args, va_rf_cat, jcI, jcA, jcJ, jcD, jcF]) ?_
  intro t p e s m args below meth c ls X hr hnm htab hl
  have X : jCx p c cX0_cell 5 s m args RX0 G meth := X
  unfold X0_cell_b
  refine J.pu (fun _ _ _ _ k => W.rload_n X.1.1 X.1.2.1 dX0_cell_0 rfl (lv_at hl 3 rfl) k) ?_
  refine J.pu (fun _ _ _ _ k => lv_iconst (v := 0) X.1.1 X.1.2.1 dX0_cell_1 (by decide) k) ?_
  refine J.pu (fun _ _ _ _ k => W.rload_n X.1.1 X.1.2.1 dX0_cell_2 rfl (lv_at hl 0 rfl) k) ?_
  refine J.pu (fun _ _ _ _ k => lv_iload_n X.1.1 X.1.2.1 dX0_cell_3 rfl (lv_at hl 1 rfl) k) ?_
  refine J.pu (fun _ _ _ _ k => lv_iload_n X.1.1 X.1.2.1 dX0_cell_4 rfl (lv_at hl 2 rfl) k) ?_
  refine J.bind (fun o5 g5 => ?_)
  refine J.hV (q := (RX1, TX1, 9)) (ci := 0) (As := [.int a1, .int a2]) (rest := [.int 0, va_rf a3]) X ⟨rfl, rfl⟩ (ct_X1_cell l hfl G n σ o5 a1 a2) (fun _ _ => cwV 2 X.1.2.2.2.2 (lw_V q2423 q2424 q2425 q138 q2426) rfl rfl rfl (by decide +kernel) ⟨(Nat.le_of_ble_eq_true rfl), (Nat.le_of_ble_eq_true rfl)⟩) g5 rfl rfl hl.1 rfl (by simp [va_rf_cat, jcI, jcA, jcJ, jcD, jcF]) dX0_cell_5 (fun v5 S5 h5 => ?_) (fun k5 q5 S5 h5 => ?_)
  · refine J.geq (g2 := F0 m 8 ls [.int v5, .int 0, va_rf a3]) rfl ?_
    refine J.pu (fun _ _ _ _ k => lv_i2l (v := v5.toInt64) X.1.1 X.1.2.1 dX0_cell_8 rfl k) ?_
    refine J.sJ' X dX0_cell_9 (fun S9 h9 => ?_)
    refine J.pu (fun _ _ _ _ k => lv_goto (tgt := 21) X.1.1 X.1.2.1 dX0_cell_10 (by decide) k) ?_
    refine J.pu (fun _ _ _ _ k => lv_iconst (v := 0) X.1.1 X.1.2.1 dX0_cell_21 (by decide) k) ?_
    exact J.iret (vr := fun t : Int32 × jH => jrI t.1) (fin := Prod.snd) (t := t) X hr (by rfl) (by rfl) dX0_cell_22
  · refine Jx.ite (fun k5_0 => ?_) (fun k5_0 => ?_)
    · refine Jx.catch_ (E := "java/lang/IllegalArgumentException") (nm := "java/lang/IllegalArgumentException") X k5_0 rfl [(⟨0, 10, 13, 22⟩ : ExceptionTableEntry)] (⟨0, 10, 17, 13⟩ : ExceptionTableEntry) [] (htab.trans rfl) (List.forall_mem_cons.mpr ⟨(Or.inr ⟨by decide, "java/lang/IndexOutOfBoundsException", q2420, List.mem_of_getElem? (i := 0) rfl⟩), jnil_all⟩) rfl (by decide) q2385 jnc0 ?_
      refine J.astore (r := (some q5)) (lv' := [(4, va_rf (some q5)), (0, va_rf a0), (1, .int a1), (2, .int a2), (3, va_rf a3)]) X.1.1 X.1.2.1 dX0_cell_17 hl (by decide) (by first | rfl | simp [va_rf_cat, jcI, jcA, jcJ, jcD, jcF]) (fun ls hl => ?_)
      refine J.pu (fun _ _ _ _ k => lv_iconst (v := 2) X.1.1 X.1.2.1 dX0_cell_19 (by decide) k) ?_
      exact J.iret (vr := fun t : Int32 × jH => jrI t.1) (fin := Prod.snd) (t := t) X hr (by rfl) (by rfl) dX0_cell_20
    refine Jx.ite (fun k5_2 => ?_) (fun k5_2 => ?_)
    · refine Jx.catch_ (E := "java/lang/IndexOutOfBoundsException") (nm := "java/lang/IndexOutOfBoundsException") X k5_2 rfl [] (⟨0, 10, 13, 22⟩ : ExceptionTableEntry) [(⟨0, 10, 17, 13⟩ : ExceptionTableEntry)] (htab.trans rfl) jnil_all rfl (by decide) q2420 jnc4 ?_
      refine J.astore (r := (some q5)) (lv' := [(4, va_rf (some q5)), (0, va_rf a0), (1, .int a1), (2, .int a2), (3, va_rf a3)]) X.1.1 X.1.2.1 dX0_cell_13 hl (by decide) (by first | rfl | simp [va_rf_cat, jcI, jcA, jcJ, jcD, jcF]) (fun ls hl => ?_)
      refine J.pu (fun _ _ _ _ k => lv_iconst (v := 1) X.1.1 X.1.2.1 dX0_cell_15 (by decide) k) ?_
      exact J.iret (vr := fun t : Int32 × jH => jrI t.1) (fin := Prod.snd) (t := t) X hr (by rfl) (by rfl) dX0_cell_16
    exact Jx.nil_
noncomputable def X0_parcel_b (G : jG) (n : Nat) (σ : jH) (a0 : Option Nat) (a1 : Int32) (a2 : Int32) (a3 : Option Nat) : Option (Int32 × jH) :=
  (rc σ a0 0).bind fun o5 => tc (X1_parcel G n σ o5 a1 a2) (fun v5 S5 => (sJ G S5 a3 0 v5.toInt64).bind fun S9 => some (0, S9)) (fun k5 q5 S5 => if k5 = 0 then (some (2, S5)) else if k5 = 2 then (some (1, S5)) else none)
noncomputable def X0_parcel (G : jG) (n : Nat) (σ : jH) (a0 : Option Nat) (a1 : Int32) (a2 : Int32) (a3 : Option Nat) : Option (Int32 × jH) := jck σ (X0_parcel_b G n σ a0 a1 a2 a3)
set_option maxHeartbeats 4000000 in
set_option maxRecDepth 100000 in
theorem ct_X0_parcel (l : Launch) (hfl : l.stackTraces = false) (G : jG) (n : Nat) (σ : jH) (a0 : Option Nat) (a1 : Int32) (a2 : Int32) (a3 : Option Nat) : jCt l G yX0_parcel (wsW_ yX0_parcel cX0_parcel 5 (some .int) [(0, 10, 13, 22), (0, 10, 17, 13)]) 24 1286 jrI [va_rf a0, .int a1, .int a2, va_rf a3] σ (X0_parcel G n σ a0 a1 a2 a3) := by
  refine jCt.wrH (hh := [(0, 10, 13, 22), (0, 10, 17, 13)]) (lv := [(0, va_rf a0), (1, .int a1), (2, .int a2), (3, va_rf a3)]) (plainFor_of_name (by decide)) (by simp [lg_sl, va_rf_cat, jcI, jcA, jcJ, jcD, jcF]) (by simp [lv_args, va_rf_cat, jcI, jcA, jcJ, jcD, jcF]) ?_
  intro t p e s m args below meth c ls X hr hnm htab hl
  have X : jCx p c cX0_parcel 5 s m args RX0 G meth := X
  unfold X0_parcel_b
  refine J.pu (fun _ _ _ _ k => W.rload_n X.1.1 X.1.2.1 dX0_parcel_0 rfl (lv_at hl 3 rfl) k) ?_
  refine J.pu (fun _ _ _ _ k => lv_iconst (v := 0) X.1.1 X.1.2.1 dX0_parcel_1 (by decide) k) ?_
  refine J.pu (fun _ _ _ _ k => W.rload_n X.1.1 X.1.2.1 dX0_parcel_2 rfl (lv_at hl 0 rfl) k) ?_
  refine J.pu (fun _ _ _ _ k => lv_iload_n X.1.1 X.1.2.1 dX0_parcel_3 rfl (lv_at hl 1 rfl) k) ?_
  refine J.pu (fun _ _ _ _ k => lv_iload_n X.1.1 X.1.2.1 dX0_parcel_4 rfl (lv_at hl 2 rfl) k) ?_
  refine J.bind (fun o5 g5 => ?_)
  refine J.hV (q := (RX1, TX1, 9)) (ci := 0) (As := [.int a1, .int a2]) (rest := [.int 0, va_rf a3]) X ⟨rfl, rfl⟩ (ct_X1_parcel l hfl G n σ o5 a1 a2) (fun _ _ => cwV 2 X.1.2.2.2.2 (lw_V q2450 q2451 q2452 q138 q2453) rfl rfl rfl (by decide +kernel) ⟨(Nat.le_of_ble_eq_true rfl), (Nat.le_of_ble_eq_true rfl)⟩) g5 rfl rfl hl.1 rfl (by simp [va_rf_cat, jcI, jcA, jcJ, jcD, jcF]) dX0_parcel_5 (fun v5 S5 h5 => ?_) (fun k5 q5 S5 h5 => ?_)
  · refine J.geq (g2 := F0 m 8 ls [.int v5, .int 0, va_rf a3]) rfl ?_
    refine J.pu (fun _ _ _ _ k => lv_i2l (v := v5.toInt64) X.1.1 X.1.2.1 dX0_parcel_8 rfl k) ?_
    refine J.sJ' X dX0_parcel_9 (fun S9 h9 => ?_)
    refine J.pu (fun _ _ _ _ k => lv_goto (tgt := 21) X.1.1 X.1.2.1 dX0_parcel_10 (by decide) k) ?_
    refine J.pu (fun _ _ _ _ k => lv_iconst (v := 0) X.1.1 X.1.2.1 dX0_parcel_21 (by decide) k) ?_
    exact J.iret (vr := fun t : Int32 × jH => jrI t.1) (fin := Prod.snd) (t := t) X hr (by rfl) (by rfl) dX0_parcel_22
  · refine Jx.ite (fun k5_0 => ?_) (fun k5_0 => ?_)
    · refine Jx.catch_ (E := "java/lang/IllegalArgumentException") (nm := "java/lang/IllegalArgumentException") X k5_0 rfl [(⟨0, 10, 13, 22⟩ : ExceptionTableEntry)] (⟨0, 10, 17, 13⟩ : ExceptionTableEntry) [] (htab.trans rfl) (List.forall_mem_cons.mpr ⟨(Or.inr ⟨by decide, "java/lang/IndexOutOfBoundsException", q2420, List.mem_of_getElem? (i := 0) rfl⟩), jnil_all⟩) rfl (by decide) q2385 jnc0 ?_
      refine J.astore (r := (some q5)) (lv' := [(4, va_rf (some q5)), (0, va_rf a0), (1, .int a1), (2, .int a2), (3, va_rf a3)]) X.1.1 X.1.2.1 dX0_parcel_17 hl (by decide) (by first | rfl | simp [va_rf_cat, jcI, jcA, jcJ, jcD, jcF]) (fun ls hl => ?_)
      refine J.pu (fun _ _ _ _ k => lv_iconst (v := 2) X.1.1 X.1.2.1 dX0_parcel_19 (by decide) k) ?_
      exact J.iret (vr := fun t : Int32 × jH => jrI t.1) (fin := Prod.snd) (t := t) X hr (by rfl) (by rfl) dX0_parcel_20
    refine Jx.ite (fun k5_2 => ?_) (fun k5_2 => ?_)
    · refine Jx.catch_ (E := "java/lang/IndexOutOfBoundsException") (nm := "java/lang/IndexOutOfBoundsException") X k5_2 rfl [] (⟨0, 10, 13, 22⟩ : ExceptionTableEntry) [(⟨0, 10, 17, 13⟩ : ExceptionTableEntry)] (htab.trans rfl) jnil_all rfl (by decide) q2420 jnc4 ?_
      refine J.astore (r := (some q5)) (lv' := [(4, va_rf (some q5)), (0, va_rf a0), (1, .int a1), (2, .int a2), (3, va_rf a3)]) X.1.1 X.1.2.1 dX0_parcel_13 hl (by decide) (by first | rfl | simp [va_rf_cat, jcI, jcA, jcJ, jcD, jcF]) (fun ls hl => ?_)
      refine J.pu (fun _ _ _ _ k => lv_iconst (v := 1) X.1.1 X.1.2.1 dX0_parcel_15 (by decide) k) ?_
      exact J.iret (vr := fun t : Int32 × jH => jrI t.1) (fin := Prod.snd) (t := t) X hr (by rfl) (by rfl) dX0_parcel_16
    exact Jx.nil_
noncomputable def X0_chute_b (G : jG) (n : Nat) (σ : jH) (a0 : Option Nat) (a1 : Int32) (a2 : Int32) (a3 : Option Nat) : Option (Int32 × jH) :=
  (rc σ a0 0).bind fun o5 => tc (X1_chute G n σ o5 a1 a2) (fun v5 S5 => (sJ G S5 a3 0 v5.toInt64).bind fun S9 => some (0, S9)) (fun k5 q5 S5 => if k5 = 0 then (some (2, S5)) else if k5 = 2 then (some (1, S5)) else none)
noncomputable def X0_chute (G : jG) (n : Nat) (σ : jH) (a0 : Option Nat) (a1 : Int32) (a2 : Int32) (a3 : Option Nat) : Option (Int32 × jH) := jck σ (X0_chute_b G n σ a0 a1 a2 a3)
set_option maxHeartbeats 4000000 in
set_option maxRecDepth 100000 in
theorem ct_X0_chute (l : Launch) (hfl : l.stackTraces = false) (G : jG) (n : Nat) (σ : jH) (a0 : Option Nat) (a1 : Int32) (a2 : Int32) (a3 : Option Nat) : jCt l G yX0_chute (wsW_ yX0_chute cX0_chute 5 (some .int) [(0, 10, 13, 22), (0, 10, 17, 13)]) 24 1288 jrI [va_rf a0, .int a1, .int a2, va_rf a3] σ (X0_chute G n σ a0 a1 a2 a3) := by
  refine jCt.wrH (hh := [(0, 10, 13, 22), (0, 10, 17, 13)]) (lv := [(0, va_rf a0), (1, .int a1), (2, .int a2), (3, va_rf a3)]) (plainFor_of_name (by decide)) (by simp [lg_sl, va_rf_cat, jcI, jcA, jcJ, jcD, jcF]) (by simp [lv_args, va_rf_cat, jcI, jcA, jcJ, jcD, jcF]) ?_
  intro t p e s m args below meth c ls X hr hnm htab hl
  have X : jCx p c cX0_chute 5 s m args RX0 G meth := X
  unfold X0_chute_b
  refine J.pu (fun _ _ _ _ k => W.rload_n X.1.1 X.1.2.1 dX0_chute_0 rfl (lv_at hl 3 rfl) k) ?_
  refine J.pu (fun _ _ _ _ k => lv_iconst (v := 0) X.1.1 X.1.2.1 dX0_chute_1 (by decide) k) ?_
  refine J.pu (fun _ _ _ _ k => W.rload_n X.1.1 X.1.2.1 dX0_chute_2 rfl (lv_at hl 0 rfl) k) ?_
  refine J.pu (fun _ _ _ _ k => lv_iload_n X.1.1 X.1.2.1 dX0_chute_3 rfl (lv_at hl 1 rfl) k) ?_
  refine J.pu (fun _ _ _ _ k => lv_iload_n X.1.1 X.1.2.1 dX0_chute_4 rfl (lv_at hl 2 rfl) k) ?_
  refine J.bind (fun o5 g5 => ?_)
  refine J.hV (q := (RX1, TX1, 9)) (ci := 0) (As := [.int a1, .int a2]) (rest := [.int 0, va_rf a3]) X ⟨rfl, rfl⟩ (ct_X1_chute l hfl G n σ o5 a1 a2) (fun _ _ => cwV 2 X.1.2.2.2.2 (lw_V q2461 q2462 q2463 q138 q2464) rfl rfl rfl (by decide +kernel) ⟨(Nat.le_of_ble_eq_true rfl), (Nat.le_of_ble_eq_true rfl)⟩) g5 rfl rfl hl.1 rfl (by simp [va_rf_cat, jcI, jcA, jcJ, jcD, jcF]) dX0_chute_5 (fun v5 S5 h5 => ?_) (fun k5 q5 S5 h5 => ?_)
  · refine J.geq (g2 := F0 m 8 ls [.int v5, .int 0, va_rf a3]) rfl ?_
    refine J.pu (fun _ _ _ _ k => lv_i2l (v := v5.toInt64) X.1.1 X.1.2.1 dX0_chute_8 rfl k) ?_
    refine J.sJ' X dX0_chute_9 (fun S9 h9 => ?_)
    refine J.pu (fun _ _ _ _ k => lv_goto (tgt := 21) X.1.1 X.1.2.1 dX0_chute_10 (by decide) k) ?_
    refine J.pu (fun _ _ _ _ k => lv_iconst (v := 0) X.1.1 X.1.2.1 dX0_chute_21 (by decide) k) ?_
    exact J.iret (vr := fun t : Int32 × jH => jrI t.1) (fin := Prod.snd) (t := t) X hr (by rfl) (by rfl) dX0_chute_22
  · refine Jx.ite (fun k5_0 => ?_) (fun k5_0 => ?_)
    · refine Jx.catch_ (E := "java/lang/IllegalArgumentException") (nm := "java/lang/IllegalArgumentException") X k5_0 rfl [(⟨0, 10, 13, 22⟩ : ExceptionTableEntry)] (⟨0, 10, 17, 13⟩ : ExceptionTableEntry) [] (htab.trans rfl) (List.forall_mem_cons.mpr ⟨(Or.inr ⟨by decide, "java/lang/IndexOutOfBoundsException", q2420, List.mem_of_getElem? (i := 0) rfl⟩), jnil_all⟩) rfl (by decide) q2385 jnc0 ?_
      refine J.astore (r := (some q5)) (lv' := [(4, va_rf (some q5)), (0, va_rf a0), (1, .int a1), (2, .int a2), (3, va_rf a3)]) X.1.1 X.1.2.1 dX0_chute_17 hl (by decide) (by first | rfl | simp [va_rf_cat, jcI, jcA, jcJ, jcD, jcF]) (fun ls hl => ?_)
      refine J.pu (fun _ _ _ _ k => lv_iconst (v := 2) X.1.1 X.1.2.1 dX0_chute_19 (by decide) k) ?_
      exact J.iret (vr := fun t : Int32 × jH => jrI t.1) (fin := Prod.snd) (t := t) X hr (by rfl) (by rfl) dX0_chute_20
    refine Jx.ite (fun k5_2 => ?_) (fun k5_2 => ?_)
    · refine Jx.catch_ (E := "java/lang/IndexOutOfBoundsException") (nm := "java/lang/IndexOutOfBoundsException") X k5_2 rfl [] (⟨0, 10, 13, 22⟩ : ExceptionTableEntry) [(⟨0, 10, 17, 13⟩ : ExceptionTableEntry)] (htab.trans rfl) jnil_all rfl (by decide) q2420 jnc4 ?_
      refine J.astore (r := (some q5)) (lv' := [(4, va_rf (some q5)), (0, va_rf a0), (1, .int a1), (2, .int a2), (3, va_rf a3)]) X.1.1 X.1.2.1 dX0_chute_13 hl (by decide) (by first | rfl | simp [va_rf_cat, jcI, jcA, jcJ, jcD, jcF]) (fun ls hl => ?_)
      refine J.pu (fun _ _ _ _ k => lv_iconst (v := 1) X.1.1 X.1.2.1 dX0_chute_15 (by decide) k) ?_
      exact J.iret (vr := fun t : Int32 × jH => jrI t.1) (fin := Prod.snd) (t := t) X hr (by rfl) (by rfl) dX0_chute_16
    exact Jx.nil_
noncomputable def X0_toScanner_b (G : jG) (n : Nat) (σ : jH) (a0 : Option Nat) (a1 : Int32) (a2 : Option Nat) : Option (Int32 × jH) :=
  (rc σ a0 0).bind fun o4 => tc (X1_toScanner G n σ o4 a1) (fun v4 S4 => (sJ G S4 a2 0 v4.toInt64).bind fun S8 => some (0, S8)) (fun k4 q4 S4 => if k4 = 2 then (some (1, S4)) else none)
noncomputable def X0_toScanner (G : jG) (n : Nat) (σ : jH) (a0 : Option Nat) (a1 : Int32) (a2 : Option Nat) : Option (Int32 × jH) := jck σ (X0_toScanner_b G n σ a0 a1 a2)
set_option maxHeartbeats 4000000 in
set_option maxRecDepth 100000 in
theorem ct_X0_toScanner (l : Launch) (hfl : l.stackTraces = false) (G : jG) (n : Nat) (σ : jH) (a0 : Option Nat) (a1 : Int32) (a2 : Option Nat) : jCt l G yX0_toScanner (wsW_ yX0_toScanner cX0_toScanner 4 (some .int) [(0, 9, 12, 22)]) 24 1284 jrI [va_rf a0, .int a1, va_rf a2] σ (X0_toScanner G n σ a0 a1 a2) := by
  refine jCt.wrH (hh := [(0, 9, 12, 22)]) (lv := [(0, va_rf a0), (1, .int a1), (2, va_rf a2)]) (plainFor_of_name (by decide)) (by simp [lg_sl, va_rf_cat, jcI, jcA, jcJ, jcD, jcF]) (by simp [lv_args, va_rf_cat, jcI, jcA, jcJ, jcD, jcF]) ?_
  intro t p e s m args below meth c ls X hr hnm htab hl
  have X : jCx p c cX0_toScanner 4 s m args RX0 G meth := X
  unfold X0_toScanner_b
  refine J.pu (fun _ _ _ _ k => W.rload_n X.1.1 X.1.2.1 dX0_toScanner_0 rfl (lv_at hl 2 rfl) k) ?_
  refine J.pu (fun _ _ _ _ k => lv_iconst (v := 0) X.1.1 X.1.2.1 dX0_toScanner_1 (by decide) k) ?_
  refine J.pu (fun _ _ _ _ k => W.rload_n X.1.1 X.1.2.1 dX0_toScanner_2 rfl (lv_at hl 0 rfl) k) ?_
  refine J.pu (fun _ _ _ _ k => lv_iload_n X.1.1 X.1.2.1 dX0_toScanner_3 rfl (lv_at hl 1 rfl) k) ?_
  refine J.bind (fun o4 g4 => ?_)
  refine J.hV (q := (RX1, TX1, 9)) (ci := 0) (As := [.int a1]) (rest := [.int 0, va_rf a2]) X ⟨rfl, rfl⟩ (ct_X1_toScanner l hfl G n σ o4 a1) (fun _ _ => cwV 1 X.1.2.2.2.2 (lw_V q2503 q2504 q2505 q138 q2506) rfl rfl rfl (by decide +kernel) ⟨(Nat.le_of_ble_eq_true rfl), (Nat.le_of_ble_eq_true rfl)⟩) g4 rfl rfl hl.1 rfl (by simp [va_rf_cat, jcI, jcA, jcJ, jcD, jcF]) dX0_toScanner_4 (fun v4 S4 h4 => ?_) (fun k4 q4 S4 h4 => ?_)
  · refine J.geq (g2 := F0 m 7 ls [.int v4, .int 0, va_rf a2]) rfl ?_
    refine J.pu (fun _ _ _ _ k => lv_i2l (v := v4.toInt64) X.1.1 X.1.2.1 dX0_toScanner_7 rfl k) ?_
    refine J.sJ' X dX0_toScanner_8 (fun S8 h8 => ?_)
    refine J.pu (fun _ _ _ _ k => lv_goto (tgt := 15) X.1.1 X.1.2.1 dX0_toScanner_9 (by decide) k) ?_
    refine J.pu (fun _ _ _ _ k => lv_iconst (v := 0) X.1.1 X.1.2.1 dX0_toScanner_15 (by decide) k) ?_
    exact J.iret (vr := fun t : Int32 × jH => jrI t.1) (fin := Prod.snd) (t := t) X hr (by rfl) (by rfl) dX0_toScanner_16
  · refine Jx.ite (fun k4_2 => ?_) (fun k4_2 => ?_)
    · refine Jx.catch_ (E := "java/lang/IndexOutOfBoundsException") (nm := "java/lang/IndexOutOfBoundsException") X k4_2 rfl [] (⟨0, 9, 12, 22⟩ : ExceptionTableEntry) [] (htab.trans rfl) jnil_all rfl (by decide) q2420 jnc4 ?_
      refine J.astore_n (r := (some q4)) (i := 3) (lv' := [(3, va_rf (some q4)), (0, va_rf a0), (1, .int a1), (2, va_rf a2)]) X.1.1 X.1.2.1 dX0_toScanner_12 rfl hl (by decide) (by first | rfl | simp [va_rf_cat, jcI, jcA, jcJ, jcD, jcF]) (fun ls hl => ?_)
      refine J.pu (fun _ _ _ _ k => lv_iconst (v := 1) X.1.1 X.1.2.1 dX0_toScanner_13 (by decide) k) ?_
      exact J.iret (vr := fun t : Int32 × jH => jrI t.1) (fin := Prod.snd) (t := t) X hr (by rfl) (by rfl) dX0_toScanner_14
    exact Jx.nil_
noncomputable def X0_toChute_b (G : jG) (n : Nat) (σ : jH) (a0 : Option Nat) (a1 : Int32) (a2 : Option Nat) : Option (Int32 × jH) :=
  (rc σ a0 0).bind fun o4 => tc (X1_toChute G n σ o4 a1) (fun v4 S4 => (sJ G S4 a2 0 v4.toInt64).bind fun S8 => some (0, S8)) (fun k4 q4 S4 => if k4 = 2 then (some (1, S4)) else none)
noncomputable def X0_toChute (G : jG) (n : Nat) (σ : jH) (a0 : Option Nat) (a1 : Int32) (a2 : Option Nat) : Option (Int32 × jH) := jck σ (X0_toChute_b G n σ a0 a1 a2)
set_option maxHeartbeats 4000000 in
set_option maxRecDepth 100000 in
theorem ct_X0_toChute (l : Launch) (hfl : l.stackTraces = false) (G : jG) (n : Nat) (σ : jH) (a0 : Option Nat) (a1 : Int32) (a2 : Option Nat) : jCt l G yX0_toChute (wsW_ yX0_toChute cX0_toChute 4 (some .int) [(0, 9, 12, 22)]) 24 1285 jrI [va_rf a0, .int a1, va_rf a2] σ (X0_toChute G n σ a0 a1 a2) := by
  refine jCt.wrH (hh := [(0, 9, 12, 22)]) (lv := [(0, va_rf a0), (1, .int a1), (2, va_rf a2)]) (plainFor_of_name (by decide)) (by simp [lg_sl, va_rf_cat, jcI, jcA, jcJ, jcD, jcF]) (by simp [lv_args, va_rf_cat, jcI, jcA, jcJ, jcD, jcF]) ?_
  intro t p e s m args below meth c ls X hr hnm htab hl
  have X : jCx p c cX0_toChute 4 s m args RX0 G meth := X
  unfold X0_toChute_b
  refine J.pu (fun _ _ _ _ k => W.rload_n X.1.1 X.1.2.1 dX0_toChute_0 rfl (lv_at hl 2 rfl) k) ?_
  refine J.pu (fun _ _ _ _ k => lv_iconst (v := 0) X.1.1 X.1.2.1 dX0_toChute_1 (by decide) k) ?_
  refine J.pu (fun _ _ _ _ k => W.rload_n X.1.1 X.1.2.1 dX0_toChute_2 rfl (lv_at hl 0 rfl) k) ?_
  refine J.pu (fun _ _ _ _ k => lv_iload_n X.1.1 X.1.2.1 dX0_toChute_3 rfl (lv_at hl 1 rfl) k) ?_
  refine J.bind (fun o4 g4 => ?_)
  refine J.hV (q := (RX1, TX1, 9)) (ci := 0) (As := [.int a1]) (rest := [.int 0, va_rf a2]) X ⟨rfl, rfl⟩ (ct_X1_toChute l hfl G n σ o4 a1) (fun _ _ => cwV 1 X.1.2.2.2.2 (lw_V q2514 q2515 q2516 q138 q2517) rfl rfl rfl (by decide +kernel) ⟨(Nat.le_of_ble_eq_true rfl), (Nat.le_of_ble_eq_true rfl)⟩) g4 rfl rfl hl.1 rfl (by simp [va_rf_cat, jcI, jcA, jcJ, jcD, jcF]) dX0_toChute_4 (fun v4 S4 h4 => ?_) (fun k4 q4 S4 h4 => ?_)
  · refine J.geq (g2 := F0 m 7 ls [.int v4, .int 0, va_rf a2]) rfl ?_
    refine J.pu (fun _ _ _ _ k => lv_i2l (v := v4.toInt64) X.1.1 X.1.2.1 dX0_toChute_7 rfl k) ?_
    refine J.sJ' X dX0_toChute_8 (fun S8 h8 => ?_)
    refine J.pu (fun _ _ _ _ k => lv_goto (tgt := 15) X.1.1 X.1.2.1 dX0_toChute_9 (by decide) k) ?_
    refine J.pu (fun _ _ _ _ k => lv_iconst (v := 0) X.1.1 X.1.2.1 dX0_toChute_15 (by decide) k) ?_
    exact J.iret (vr := fun t : Int32 × jH => jrI t.1) (fin := Prod.snd) (t := t) X hr (by rfl) (by rfl) dX0_toChute_16
  · refine Jx.ite (fun k4_2 => ?_) (fun k4_2 => ?_)
    · refine Jx.catch_ (E := "java/lang/IndexOutOfBoundsException") (nm := "java/lang/IndexOutOfBoundsException") X k4_2 rfl [] (⟨0, 9, 12, 22⟩ : ExceptionTableEntry) [] (htab.trans rfl) jnil_all rfl (by decide) q2420 jnc4 ?_
      refine J.astore_n (r := (some q4)) (i := 3) (lv' := [(3, va_rf (some q4)), (0, va_rf a0), (1, .int a1), (2, va_rf a2)]) X.1.1 X.1.2.1 dX0_toChute_12 rfl hl (by decide) (by first | rfl | simp [va_rf_cat, jcI, jcA, jcJ, jcD, jcF]) (fun ls hl => ?_)
      refine J.pu (fun _ _ _ _ k => lv_iconst (v := 1) X.1.1 X.1.2.1 dX0_toChute_13 (by decide) k) ?_
      exact J.iret (vr := fun t : Int32 × jH => jrI t.1) (fin := Prod.snd) (t := t) X hr (by rfl) (by rfl) dX0_toChute_14
    exact Jx.nil_
noncomputable def X0_whyNoSlip_b (G : jG) (n : Nat) (σ : jH) (a0 : Option Nat) (a1 : Int32) (a2 : Option Nat) : Option (Int32 × jH) :=
  (rc σ a0 0).bind fun o4 => tc (X1_whyNoSlip G n σ o4 a1) (fun v4 S4 => (sJ G S4 a2 0 v4.toInt64).bind fun S8 => some (0, S8)) (fun k4 q4 S4 => if k4 = 2 then (some (1, S4)) else none)
noncomputable def X0_whyNoSlip (G : jG) (n : Nat) (σ : jH) (a0 : Option Nat) (a1 : Int32) (a2 : Option Nat) : Option (Int32 × jH) := jck σ (X0_whyNoSlip_b G n σ a0 a1 a2)
set_option maxHeartbeats 4000000 in
set_option maxRecDepth 100000 in
theorem ct_X0_whyNoSlip (l : Launch) (hfl : l.stackTraces = false) (G : jG) (n : Nat) (σ : jH) (a0 : Option Nat) (a1 : Int32) (a2 : Option Nat) : jCt l G yX0_whyNoSlip (wsW_ yX0_whyNoSlip cX0_whyNoSlip 4 (some .int) [(0, 9, 12, 22)]) 24 1284 jrI [va_rf a0, .int a1, va_rf a2] σ (X0_whyNoSlip G n σ a0 a1 a2) := by
  refine jCt.wrH (hh := [(0, 9, 12, 22)]) (lv := [(0, va_rf a0), (1, .int a1), (2, va_rf a2)]) (plainFor_of_name (by decide)) (by simp [lg_sl, va_rf_cat, jcI, jcA, jcJ, jcD, jcF]) (by simp [lv_args, va_rf_cat, jcI, jcA, jcJ, jcD, jcF]) ?_
  intro t p e s m args below meth c ls X hr hnm htab hl
  have X : jCx p c cX0_whyNoSlip 4 s m args RX0 G meth := X
  unfold X0_whyNoSlip_b
  refine J.pu (fun _ _ _ _ k => W.rload_n X.1.1 X.1.2.1 dX0_whyNoSlip_0 rfl (lv_at hl 2 rfl) k) ?_
  refine J.pu (fun _ _ _ _ k => lv_iconst (v := 0) X.1.1 X.1.2.1 dX0_whyNoSlip_1 (by decide) k) ?_
  refine J.pu (fun _ _ _ _ k => W.rload_n X.1.1 X.1.2.1 dX0_whyNoSlip_2 rfl (lv_at hl 0 rfl) k) ?_
  refine J.pu (fun _ _ _ _ k => lv_iload_n X.1.1 X.1.2.1 dX0_whyNoSlip_3 rfl (lv_at hl 1 rfl) k) ?_
  refine J.bind (fun o4 g4 => ?_)
  refine J.hV (q := (RX1, TX1, 9)) (ci := 0) (As := [.int a1]) (rest := [.int 0, va_rf a2]) X ⟨rfl, rfl⟩ (ct_X1_whyNoSlip l hfl G n σ o4 a1) (fun _ _ => cwV 1 X.1.2.2.2.2 (lw_V q2551 q2552 q2553 q138 q2554) rfl rfl rfl (by decide +kernel) ⟨(Nat.le_of_ble_eq_true rfl), (Nat.le_of_ble_eq_true rfl)⟩) g4 rfl rfl hl.1 rfl (by simp [va_rf_cat, jcI, jcA, jcJ, jcD, jcF]) dX0_whyNoSlip_4 (fun v4 S4 h4 => ?_) (fun k4 q4 S4 h4 => ?_)
  · refine J.geq (g2 := F0 m 7 ls [.int v4, .int 0, va_rf a2]) rfl ?_
    refine J.pu (fun _ _ _ _ k => lv_i2l (v := v4.toInt64) X.1.1 X.1.2.1 dX0_whyNoSlip_7 rfl k) ?_
    refine J.sJ' X dX0_whyNoSlip_8 (fun S8 h8 => ?_)
    refine J.pu (fun _ _ _ _ k => lv_goto (tgt := 15) X.1.1 X.1.2.1 dX0_whyNoSlip_9 (by decide) k) ?_
    refine J.pu (fun _ _ _ _ k => lv_iconst (v := 0) X.1.1 X.1.2.1 dX0_whyNoSlip_15 (by decide) k) ?_
    exact J.iret (vr := fun t : Int32 × jH => jrI t.1) (fin := Prod.snd) (t := t) X hr (by rfl) (by rfl) dX0_whyNoSlip_16
  · refine Jx.ite (fun k4_2 => ?_) (fun k4_2 => ?_)
    · refine Jx.catch_ (E := "java/lang/IndexOutOfBoundsException") (nm := "java/lang/IndexOutOfBoundsException") X k4_2 rfl [] (⟨0, 9, 12, 22⟩ : ExceptionTableEntry) [] (htab.trans rfl) jnil_all rfl (by decide) q2420 jnc4 ?_
      refine J.astore_n (r := (some q4)) (i := 3) (lv' := [(3, va_rf (some q4)), (0, va_rf a0), (1, .int a1), (2, va_rf a2)]) X.1.1 X.1.2.1 dX0_whyNoSlip_12 rfl hl (by decide) (by first | rfl | simp [va_rf_cat, jcI, jcA, jcJ, jcD, jcF]) (fun ls hl => ?_)
      refine J.pu (fun _ _ _ _ k => lv_iconst (v := 1) X.1.1 X.1.2.1 dX0_whyNoSlip_13 (by decide) k) ?_
      exact J.iret (vr := fun t : Int32 × jH => jrI t.1) (fin := Prod.snd) (t := t) X hr (by rfl) (by rfl) dX0_whyNoSlip_14
    exact Jx.nil_
noncomputable def X1_think_b (G : jG) (n : Nat) (σ : jH) (this : Nat) : Option ((Option Nat) × jH) :=
  (gR σ (some this) 0 6).bind fun v1 => (gR σ (some this) 0 4).bind fun v5 => (rc σ v1 1).bind fun o8 => bd (X2_takes G n σ o8 v5) fun v8 S8 => some (v8, S8)
noncomputable def X1_think (G : jG) (n : Nat) (σ : jH) (this : Nat) : Option ((Option Nat) × jH) := jck σ (X1_think_b G n σ this)
set_option maxHeartbeats 4000000 in
set_option maxRecDepth 100000 in
theorem ct_X1_think (l : Launch) (G : jG) (n : Nat) (σ : jH) (this : Nat) : jCt l G yX1_think (ws_ yX1_think cX1_think 1 (some (.object "SortingLoop$Loop"))) 24 1290 jrR [.ref this] σ (X1_think G n σ this) := by
  refine jCt.wr (lv := [(0, .ref this)]) (plainFor_of_name (by decide)) (Nat.le_of_ble_eq_true rfl) rfl ?_
  intro t p e s m args below meth c ls X hr hnm hl
  have X : jCx p c cX1_think 1 s m args RX1 G meth := X
  unfold X1_think_b
  refine J.pu (fun _ _ _ _ k => lv_aload_n X.1.1 X.1.2.1 dX1_think_0 rfl (lv_at hl 0 rfl) k) ?_
  refine J.getR (k := 6) (ci := 0) X in_X1 (show jCl[0]? = some (RX1, TX1, 9) from rfl) (by decide) q1331 (fun _ h => h) dX1_think_1 (fun v1 h1 => ?_)
  refine J.pu (fun _ _ _ _ k => lv_aload_n X.1.1 X.1.2.1 dX1_think_4 rfl (lv_at hl 0 rfl) k) ?_
  refine J.getR (k := 4) (ci := 0) X in_X1 (show jCl[0]? = some (RX1, TX1, 9) from rfl) (by decide) q1329 (fun _ h => h) dX1_think_5 (fun v5 h5 => ?_)
  refine J.bind (fun o8 g8 => ?_)
  refine J.bd' (fun v8 S8 h8 => ?_)
  refine J.cV (q := (RX2, TX2, 9)) (ci := 1) (As := [va_rf v5]) (rest := []) (s2 := [va_rf v8]) X ⟨rfl, rfl⟩ (ct_X2_takes l G n σ o8 v5) h8 (fun _ _ => cwV 1 X.1.2.2.2.2 (lw_V q2166 q916 q917 q139 q918) rfl rfl rfl (by decide +kernel) ⟨(Nat.le_of_ble_eq_true rfl), (Nat.le_of_ble_eq_true rfl)⟩) g8 rfl rfl hl.1 rfl rfl (Nat.le_of_ble_eq_true rfl) dX1_think_8 ?_
  exact J.aret (vr := fun t : (Option Nat) × jH => jrR t.1) (fin := Prod.snd) (t := t) X hr (Or.inl ⟨_, rfl⟩) (by rfl) (by rfl) dX1_think_11
noncomputable def X1_agree_j109 (G : jG) (n : Nat) (σ : jH) (this : Nat) (rec48 : Int32 → Option (Int32)) (x1_48 : Int32) (x2_109 : Int32) : Option (Int32) :=
  rec48 (x2_109 + 1)
noncomputable def X1_agree_h48 (G : jG) (n : Nat) (σ : jH) (this : Nat) (x1_48 : Int32) (rec48 : Int32 → Option (Int32)) (q48 : Int32) : Option (Int32) :=
  let x2_48 := q48; (gR σ (some this) 0 4).bind fun v50 => (gR σ v50 1 4).bind fun v53 => (rc σ v53 15).bind fun o56 => (lSize 0 σ o56).bind fun v56 => if v56 ≤ x2_48 then ((gR σ (some this) 0 4).bind fun v116 => (gR σ v116 1 6).bind fun v119 => (gR σ (some this) 0 4).bind fun v125 => (rc σ v125 1).bind fun o129 => (X2_those G n σ o129 0).bind fun v129 => if x1_48 = v129 then ((rc σ (some this) 0).bind fun o136 => (X1_areChutes G n σ o136).bind fun v136 => if v136 = 0 then (some 0) else ((aI σ v119 0 1).bind fun v144 => (gR σ (some this) 0 4).bind fun v146 => (gR σ v146 1 4).bind fun v149 => (rc σ v149 15).bind fun o152 => (lSize 0 σ o152).bind fun v152 => if v144 = v152 then ((aI σ v119 0 7).bind fun v163 => (gR σ (some this) 0 4).bind fun v165 => (rc σ v165 1).bind fun o169 => (X2_those G n σ o169 3).bind fun v169 => if v163 = v169 then (some 1) else (some 0)) else (some 0))) else (some 0)) else ((gR σ (some this) 0 4).bind fun v66 => (rc σ v66 1).bind fun o70 => (X2_parcel G n σ o70 x2_48).bind fun v70 => (rc σ (some this) 0).bind fun o73 => (X1_isInPlace G n σ o73 v70).bind fun v73 => if v73 = 0 then (some 0) else (if x2_48 ≤ 0 then (X1_agree_j109 G n σ this rec48 x1_48 x2_48) else ((gR σ (some this) 0 4).bind fun v84 => (rc σ v84 1).bind fun o90 => (X2_parcel G n σ o90 (x2_48 - 1)).bind fun v90 => (gR σ (some this) 0 4).bind fun v94 => (rc σ v94 1).bind fun o98 => (X2_parcel G n σ o98 x2_48).bind fun v98 => (rc σ v90 4).bind fun o101 => (X18_isAhead_X5 G n σ o101 v98).bind fun v101 => if v101 = 0 then (some 0) else (X1_agree_j109 G n σ this rec48 x1_48 x2_48))))
noncomputable def X1_agree_j35 (G : jG) (n : Nat) (σ : jH) (this : Nat) (rec4 : Int32 × Int32 → Option (Int32)) (x2_35 : Int32) (s0_35 : Int32) (s1_35 : Int32) : Option (Int32) :=
  (X1_bit G n σ s1_35).bind fun v35 => rec4 ((s0_35 + v35), (x2_35 + 1))
noncomputable def X1_agree_h4 (G : jG) (n : Nat) (σ : jH) (this : Nat) (rec4 : Int32 × Int32 → Option (Int32)) (q4 : Int32 × Int32) : Option (Int32) :=
  let x1_4 := q4.1; let x2_4 := q4.2; (gR σ (some this) 0 4).bind fun v6 => (gI σ v6 1 0).bind fun v9 => if v9 ≤ x2_4 then (jloop (X1_agree_h48 G n σ this x1_4) n 0) else ((gR σ (some this) 0 4).bind fun v17 => (gR σ v17 1 5).bind fun v20 => (rc σ v20 2).bind fun o24 => (X3_isFree G n σ o24 x2_4).bind fun v24 => if v24 = 0 then (X1_agree_j35 G n σ this rec4 x2_4 x1_4 1) else (X1_agree_j35 G n σ this rec4 x2_4 x1_4 0))
noncomputable def X1_agree (G : jG) (n : Nat) (σ : jH) (this : Nat) : Option (Int32) :=
  jloop (X1_agree_h4 G n σ this) n (0, 0)
set_option maxHeartbeats 4000000 in
set_option maxRecDepth 100000 in
theorem ct_X1_agree (l : Launch) (G : jG) (n : Nat) (σ : jH) (this : Nat) : jCt l G yX1_agree (ws_ yX1_agree cX1_agree 3 (some .boolean)) 24 1289 jrI [.ref this] σ (jrd σ (X1_agree G n σ this)) := by
  refine jCt.rd (lv := [(0, .ref this)]) (plainFor_of_name (by decide)) (Nat.le_of_ble_eq_true rfl) rfl ?_
  intro t p e s m args below meth c ls X hr hnm hl
  have X : jCx p c cX1_agree 3 s m args RX1 G meth := X
  have L48 : ∀ (x1_48 : Int32) (n48 : Nat) (x2_48 : Int32) (ls : Array Slot), lv_has ls 3 [(0, .ref this), (1, .int x1_48), (2, .int x2_48)] → jGo l G 24 1289 σ (fun _ : Int32 => σ) jrI t p e s m args below meth c (jloop (X1_agree_h48 G n σ this x1_48) n48 x2_48) σ (F0 m 48 ls []) := by
    intro x1_48
    intro n48
    induction n48 with
    | zero => intro x2_48 ls hl; exact J.nil_
    | succ n48 ih48 =>
      have j109 : ∀ (x2_109 : Int32) (ls : Array Slot), lv_has ls 3 [(0, .ref this), (1, .int x1_48), (2, .int x2_109)] → jGo l G 24 1289 σ (fun _ : Int32 => σ) jrI t p e s m args below meth c (X1_agree_j109 G n σ this (jloop (X1_agree_h48 G n σ this x1_48) n48) x1_48 x2_109) σ (F0 m 109 ls []) := by
        intro x2_109 ls hl
        unfold X1_agree_j109
        refine J.iinc (k := 2) (lv' := [(2, .int (x2_109 + 1)), (0, .ref this), (1, .int x1_48)]) (w := (x2_109 + 1)) X.1.1 X.1.2.1 dX1_agree_109 hl rfl rfl (by decide) (by first | rfl | simp [va_rf_cat, jcI, jcA, jcJ, jcD, jcF]) (fun ls hl => ?_)
        refine J.pu (fun _ _ _ _ k => lv_goto (tgt := 48) X.1.1 X.1.2.1 dX1_agree_112 (by decide) k) ?_
        exact ih48 (x2_109 + 1) ls (lv_sub hl [1, 2, 0] rfl)
      intro x2_48 ls hl
      refine J.eq (jloop_s _ _ _) ?_
      dsimp only [X1_agree_h48]
      refine J.pu (fun _ _ _ _ k => lv_iload_n X.1.1 X.1.2.1 dX1_agree_48 rfl (lv_at hl 2 rfl) k) ?_
      refine J.pu (fun _ _ _ _ k => lv_aload_n X.1.1 X.1.2.1 dX1_agree_49 rfl (lv_at hl 0 rfl) k) ?_
      refine J.getR (k := 4) (ci := 0) X in_X1 (show jCl[0]? = some (RX1, TX1, 9) from rfl) (by decide) q1329 (fun _ h => h) dX1_agree_50 (fun v50 h50 => ?_)
      refine J.getRN (k := 4) (ci := 1) X in_X2 (show jCl[1]? = some (RX2, TX2, 9) from rfl) (by decide) jnf10 (fun _ h => h) dX1_agree_53 (fun v53 h53 => ?_)
      refine J.bind (fun o56 g56 => ?_)
      refine J.bind (fun v56 h56 => ?_)
      refine J.cF (q := (RJ2, TJ2, 3)) (ci := 15) (As := []) (rest := [.int x2_48]) (s2 := [.int v56, .int x2_48]) X ⟨rfl, rfl⟩ (ct_J2_size l G σ o56) (jrd_of h56) (fun _ _ => va_cwF 0 X.1.2.2.2.2 (lw_F q1751 q832 q834 q142 q836) rfl rfl rfl (jfw2 X.2.1) (by decide +kernel) ⟨(Nat.le_of_ble_eq_true rfl), (Nat.le_of_ble_eq_true rfl)⟩) g56 rfl rfl hl.1 rfl rfl (Nat.le_of_ble_eq_true rfl) dX1_agree_56 ?_
      refine J.br (fun _ _ _ _ ka kb => lv_icmp_ge (tgt := 115) X.1.1 X.1.2.1 dX1_agree_61 (by decide) ka kb) (fun c61 => ?_) (fun c61 => ?_)
      · refine J.pu (fun _ _ _ _ k => lv_aload_n X.1.1 X.1.2.1 dX1_agree_115 rfl (lv_at hl 0 rfl) k) ?_
        refine J.getR (k := 4) (ci := 0) X in_X1 (show jCl[0]? = some (RX1, TX1, 9) from rfl) (by decide) q1329 (fun _ h => h) dX1_agree_116 (fun v116 h116 => ?_)
        refine J.getRN (k := 6) (ci := 1) X in_X2 (show jCl[1]? = some (RX2, TX2, 9) from rfl) (by decide) jnf12 (fun _ h => h) dX1_agree_119 (fun v119 h119 => ?_)
        refine J.astore_n (r := v119) (i := 2) (lv' := [(2, va_rf v119), (0, .ref this), (1, .int x1_48)]) X.1.1 X.1.2.1 dX1_agree_122 rfl hl (by decide) (by first | rfl | simp [va_rf_cat, jcI, jcA, jcJ, jcD, jcF]) (fun ls hl => ?_)
        refine J.pu (fun _ _ _ _ k => lv_iload_n X.1.1 X.1.2.1 dX1_agree_123 rfl (lv_at hl 2 rfl) k) ?_
        refine J.pu (fun _ _ _ _ k => lv_aload_n X.1.1 X.1.2.1 dX1_agree_124 rfl (lv_at hl 1 rfl) k) ?_
        refine J.getR (k := 4) (ci := 0) X in_X1 (show jCl[0]? = some (RX1, TX1, 9) from rfl) (by decide) q1329 (fun _ h => h) dX1_agree_125 (fun v125 h125 => ?_)
        refine J.pu (fun _ _ _ _ k => lv_iconst (v := 0) X.1.1 X.1.2.1 dX1_agree_128 (by decide) k) ?_
        refine J.bind (fun o129 g129 => ?_)
        refine J.bind (fun v129 h129 => ?_)
        refine J.cV (q := (RX2, TX2, 9)) (ci := 1) (As := [.int 0]) (rest := [.int x1_48]) (s2 := [.int v129, .int x1_48]) X ⟨rfl, rfl⟩ (ct_X2_those l G n σ o129 0) (jrd_of h129) (fun _ _ => cwV 1 X.1.2.2.2.2 (lw_V q2167 q2061 q2062 q139 q2063) rfl rfl rfl (by decide +kernel) ⟨(Nat.le_of_ble_eq_true rfl), (Nat.le_of_ble_eq_true rfl)⟩) g129 rfl rfl hl.1 rfl rfl (Nat.le_of_ble_eq_true rfl) dX1_agree_129 ?_
        refine J.br (fun _ _ _ _ ka kb => lv_icmp_ne (tgt := 179) X.1.1 X.1.2.1 dX1_agree_132 (by decide) kb ka) (fun c132 => ?_) (fun c132 => ?_)
        · refine J.pu (fun _ _ _ _ k => lv_aload_n X.1.1 X.1.2.1 dX1_agree_135 rfl (lv_at hl 1 rfl) k) ?_
          refine J.bind (fun o136 g136 => ?_)
          refine J.bind (fun v136 h136 => ?_)
          refine J.cV (q := (RX1, TX1, 9)) (ci := 0) (As := []) (rest := []) (s2 := [.int v136]) X ⟨rfl, rfl⟩ (ct_X1_areChutes l G n σ o136) (jrd_of h136) (fun _ _ => cwV 0 X.1.2.2.2.2 (lw_V q2265 q2267 qs41 q138 q2268) rfl rfl rfl (by decide +kernel) ⟨(Nat.le_of_ble_eq_true rfl), (Nat.le_of_ble_eq_true rfl)⟩) g136 rfl rfl hl.1 rfl rfl (Nat.le_of_ble_eq_true rfl) dX1_agree_136 ?_
          refine J.br (fun _ _ _ _ ka kb => lv_if_eq (tgt := 179) X.1.1 X.1.2.1 dX1_agree_139 (by decide) ka kb) (fun c139 => ?_) (fun c139 => ?_)
          · refine J.pu (fun _ _ _ _ k => lv_iconst (v := 0) X.1.1 X.1.2.1 dX1_agree_179 (by decide) k) ?_
            exact J.zret (vr := jrI) (fin := fun _ : Int32 => σ) (t := t) X hr (by decide) (by rfl) (by rfl) dX1_agree_180
          · refine J.pu (fun _ _ _ _ k => W.rload_n X.1.1 X.1.2.1 dX1_agree_142 rfl (lv_at hl 0 rfl) k) ?_
            refine J.pu (fun _ _ _ _ k => lv_iconst (v := 1) X.1.1 X.1.2.1 dX1_agree_143 (by decide) k) ?_
            refine J.aI0 X dX1_agree_144 (fun v144 h144 => ?_)
            refine J.pu (fun _ _ _ _ k => lv_aload_n X.1.1 X.1.2.1 dX1_agree_145 rfl (lv_at hl 1 rfl) k) ?_
            refine J.getR (k := 4) (ci := 0) X in_X1 (show jCl[0]? = some (RX1, TX1, 9) from rfl) (by decide) q1329 (fun _ h => h) dX1_agree_146 (fun v146 h146 => ?_)
            refine J.getRN (k := 4) (ci := 1) X in_X2 (show jCl[1]? = some (RX2, TX2, 9) from rfl) (by decide) jnf10 (fun _ h => h) dX1_agree_149 (fun v149 h149 => ?_)
            refine J.bind (fun o152 g152 => ?_)
            refine J.bind (fun v152 h152 => ?_)
            refine J.cF (q := (RJ2, TJ2, 3)) (ci := 15) (As := []) (rest := [.int v144]) (s2 := [.int v152, .int v144]) X ⟨rfl, rfl⟩ (ct_J2_size l G σ o152) (jrd_of h152) (fun _ _ => va_cwF 0 X.1.2.2.2.2 (lw_F q1751 q832 q834 q142 q836) rfl rfl rfl (jfw2 X.2.1) (by decide +kernel) ⟨(Nat.le_of_ble_eq_true rfl), (Nat.le_of_ble_eq_true rfl)⟩) g152 rfl rfl hl.1 rfl rfl (Nat.le_of_ble_eq_true rfl) dX1_agree_152 ?_
            refine J.br (fun _ _ _ _ ka kb => lv_icmp_ne (tgt := 179) X.1.1 X.1.2.1 dX1_agree_157 (by decide) kb ka) (fun c157 => ?_) (fun c157 => ?_)
            · refine J.pu (fun _ _ _ _ k => W.rload_n X.1.1 X.1.2.1 dX1_agree_160 rfl (lv_at hl 0 rfl) k) ?_
              refine J.pu (fun _ _ _ _ k => lv_bipush (v := 7) X.1.1 X.1.2.1 dX1_agree_161 (by decide) k) ?_
              refine J.aI0 X dX1_agree_163 (fun v163 h163 => ?_)
              refine J.pu (fun _ _ _ _ k => lv_aload_n X.1.1 X.1.2.1 dX1_agree_164 rfl (lv_at hl 1 rfl) k) ?_
              refine J.getR (k := 4) (ci := 0) X in_X1 (show jCl[0]? = some (RX1, TX1, 9) from rfl) (by decide) q1329 (fun _ h => h) dX1_agree_165 (fun v165 h165 => ?_)
              refine J.pu (fun _ _ _ _ k => lv_iconst (v := 3) X.1.1 X.1.2.1 dX1_agree_168 (by decide) k) ?_
              refine J.bind (fun o169 g169 => ?_)
              refine J.bind (fun v169 h169 => ?_)
              refine J.cV (q := (RX2, TX2, 9)) (ci := 1) (As := [.int 3]) (rest := [.int v163]) (s2 := [.int v169, .int v163]) X ⟨rfl, rfl⟩ (ct_X2_those l G n σ o169 3) (jrd_of h169) (fun _ _ => cwV 1 X.1.2.2.2.2 (lw_V q2167 q2061 q2062 q139 q2063) rfl rfl rfl (by decide +kernel) ⟨(Nat.le_of_ble_eq_true rfl), (Nat.le_of_ble_eq_true rfl)⟩) g169 rfl rfl hl.1 rfl rfl (Nat.le_of_ble_eq_true rfl) dX1_agree_169 ?_
              refine J.br (fun _ _ _ _ ka kb => lv_icmp_ne (tgt := 179) X.1.1 X.1.2.1 dX1_agree_172 (by decide) kb ka) (fun c172 => ?_) (fun c172 => ?_)
              · refine J.pu (fun _ _ _ _ k => lv_iconst (v := 1) X.1.1 X.1.2.1 dX1_agree_175 (by decide) k) ?_
                refine J.pu (fun _ _ _ _ k => lv_goto (tgt := 180) X.1.1 X.1.2.1 dX1_agree_176 (by decide) k) ?_
                exact J.zret (vr := jrI) (fin := fun _ : Int32 => σ) (t := t) X hr (by decide) (by rfl) (by rfl) dX1_agree_180
              · refine J.pu (fun _ _ _ _ k => lv_iconst (v := 0) X.1.1 X.1.2.1 dX1_agree_179 (by decide) k) ?_
                exact J.zret (vr := jrI) (fin := fun _ : Int32 => σ) (t := t) X hr (by decide) (by rfl) (by rfl) dX1_agree_180
            · refine J.pu (fun _ _ _ _ k => lv_iconst (v := 0) X.1.1 X.1.2.1 dX1_agree_179 (by decide) k) ?_
              exact J.zret (vr := jrI) (fin := fun _ : Int32 => σ) (t := t) X hr (by decide) (by rfl) (by rfl) dX1_agree_180
        · refine J.pu (fun _ _ _ _ k => lv_iconst (v := 0) X.1.1 X.1.2.1 dX1_agree_179 (by decide) k) ?_
          exact J.zret (vr := jrI) (fin := fun _ : Int32 => σ) (t := t) X hr (by decide) (by rfl) (by rfl) dX1_agree_180
      · refine J.pu (fun _ _ _ _ k => lv_aload_n X.1.1 X.1.2.1 dX1_agree_64 rfl (lv_at hl 0 rfl) k) ?_
        refine J.pu (fun _ _ _ _ k => lv_aload_n X.1.1 X.1.2.1 dX1_agree_65 rfl (lv_at hl 0 rfl) k) ?_
        refine J.getR (k := 4) (ci := 0) X in_X1 (show jCl[0]? = some (RX1, TX1, 9) from rfl) (by decide) q1329 (fun _ h => h) dX1_agree_66 (fun v66 h66 => ?_)
        refine J.pu (fun _ _ _ _ k => lv_iload_n X.1.1 X.1.2.1 dX1_agree_69 rfl (lv_at hl 2 rfl) k) ?_
        refine J.bind (fun o70 g70 => ?_)
        refine J.bind (fun v70 h70 => ?_)
        refine J.cV (q := (RX2, TX2, 9)) (ci := 1) (As := [.int x2_48]) (rest := [.ref this]) (s2 := [va_rf v70, .ref this]) X ⟨rfl, rfl⟩ (ct_X2_parcel l G n σ o70 x2_48) (jrd_of h70) (fun _ _ => cwV 1 X.1.2.2.2.2 (lw_V q2179 q943 q944 q139 q945) rfl rfl rfl (by decide +kernel) ⟨(Nat.le_of_ble_eq_true rfl), (Nat.le_of_ble_eq_true rfl)⟩) g70 rfl rfl hl.1 rfl rfl (Nat.le_of_ble_eq_true rfl) dX1_agree_70 ?_
        refine J.bind (fun o73 g73 => ?_)
        refine J.bind (fun v73 h73 => ?_)
        refine J.cV (q := (RX1, TX1, 9)) (ci := 0) (As := [va_rf v70]) (rest := []) (s2 := [.int v73]) X ⟨rfl, rfl⟩ (ct_X1_isInPlace l G n σ o73 v70) (jrd_of h73) (fun _ _ => cwV 1 X.1.2.2.2.2 (lw_V q2180 q2182 qs40 q138 q2183) rfl rfl rfl (by decide +kernel) ⟨(Nat.le_of_ble_eq_true rfl), (Nat.le_of_ble_eq_true rfl)⟩) g73 rfl rfl hl.1 rfl rfl (Nat.le_of_ble_eq_true rfl) dX1_agree_73 ?_
        refine J.br (fun _ _ _ _ ka kb => lv_if_eq (tgt := 107) X.1.1 X.1.2.1 dX1_agree_76 (by decide) ka kb) (fun c76 => ?_) (fun c76 => ?_)
        · refine J.pu (fun _ _ _ _ k => lv_iconst (v := 0) X.1.1 X.1.2.1 dX1_agree_107 (by decide) k) ?_
          exact J.zret (vr := jrI) (fin := fun _ : Int32 => σ) (t := t) X hr (by decide) (by rfl) (by rfl) dX1_agree_108
        · refine J.pu (fun _ _ _ _ k => lv_iload_n X.1.1 X.1.2.1 dX1_agree_79 rfl (lv_at hl 2 rfl) k) ?_
          refine J.br (fun _ _ _ _ ka kb => lv_if_le (tgt := 109) X.1.1 X.1.2.1 dX1_agree_80 (by decide) ka kb) (fun c80 => ?_) (fun c80 => ?_)
          · exact j109 x2_48 ls (lv_sub hl [0, 1, 2] rfl)
          · refine J.pu (fun _ _ _ _ k => lv_aload_n X.1.1 X.1.2.1 dX1_agree_83 rfl (lv_at hl 0 rfl) k) ?_
            refine J.getR (k := 4) (ci := 0) X in_X1 (show jCl[0]? = some (RX1, TX1, 9) from rfl) (by decide) q1329 (fun _ h => h) dX1_agree_84 (fun v84 h84 => ?_)
            refine J.pu (fun _ _ _ _ k => lv_iload_n X.1.1 X.1.2.1 dX1_agree_87 rfl (lv_at hl 2 rfl) k) ?_
            refine J.pu (fun _ _ _ _ k => lv_iconst (v := 1) X.1.1 X.1.2.1 dX1_agree_88 (by decide) k) ?_
            refine J.pu (fun _ _ _ _ k => lv_isub X.1.1 X.1.2.1 dX1_agree_89 k) ?_
            refine J.bind (fun o90 g90 => ?_)
            refine J.bind (fun v90 h90 => ?_)
            refine J.cV (q := (RX2, TX2, 9)) (ci := 1) (As := [.int (x2_48 - 1)]) (rest := []) (s2 := [va_rf v90]) X ⟨rfl, rfl⟩ (ct_X2_parcel l G n σ o90 (x2_48 - 1)) (jrd_of h90) (fun _ _ => cwV 1 X.1.2.2.2.2 (lw_V q2179 q943 q944 q139 q945) rfl rfl rfl (by decide +kernel) ⟨(Nat.le_of_ble_eq_true rfl), (Nat.le_of_ble_eq_true rfl)⟩) g90 rfl rfl hl.1 rfl rfl (Nat.le_of_ble_eq_true rfl) dX1_agree_90 ?_
            refine J.pu (fun _ _ _ _ k => lv_aload_n X.1.1 X.1.2.1 dX1_agree_93 rfl (lv_at hl 0 rfl) k) ?_
            refine J.getR (k := 4) (ci := 0) X in_X1 (show jCl[0]? = some (RX1, TX1, 9) from rfl) (by decide) q1329 (fun _ h => h) dX1_agree_94 (fun v94 h94 => ?_)
            refine J.pu (fun _ _ _ _ k => lv_iload_n X.1.1 X.1.2.1 dX1_agree_97 rfl (lv_at hl 2 rfl) k) ?_
            refine J.bind (fun o98 g98 => ?_)
            refine J.bind (fun v98 h98 => ?_)
            refine J.cV (q := (RX2, TX2, 9)) (ci := 1) (As := [.int x2_48]) (rest := [va_rf v90]) (s2 := [va_rf v98, va_rf v90]) X ⟨rfl, rfl⟩ (ct_X2_parcel l G n σ o98 x2_48) (jrd_of h98) (fun _ _ => cwV 1 X.1.2.2.2.2 (lw_V q2179 q943 q944 q139 q945) rfl rfl rfl (by decide +kernel) ⟨(Nat.le_of_ble_eq_true rfl), (Nat.le_of_ble_eq_true rfl)⟩) g98 rfl rfl hl.1 rfl rfl (by simp [va_rf_cat, jcI, jcA, jcJ, jcD, jcF]) dX1_agree_98 ?_
            refine J.bind (fun o101 g101 => ?_)
            refine J.bind (fun v101 h101 => ?_)
            refine J.cD (As := [va_rf v98]) (rest := []) (s2 := [.int v101]) X ⟨rfl, rfl⟩ (ct_X18_isAhead_X5 l G n σ o101 v98) (jrd_of h101) q2248 q2246 q192 ⟨(Nat.le_of_ble_eq_true rfl), (Nat.le_of_ble_eq_true rfl)⟩ g101 rfl hl.1 rfl rfl (Nat.le_of_ble_eq_true rfl) dX1_agree_101 ?_
            refine J.br (fun _ _ _ _ ka kb => lv_if_ne (tgt := 109) X.1.1 X.1.2.1 dX1_agree_104 (by decide) kb ka) (fun c104 => ?_) (fun c104 => ?_)
            · refine J.pu (fun _ _ _ _ k => lv_iconst (v := 0) X.1.1 X.1.2.1 dX1_agree_107 (by decide) k) ?_
              exact J.zret (vr := jrI) (fin := fun _ : Int32 => σ) (t := t) X hr (by decide) (by rfl) (by rfl) dX1_agree_108
            · exact j109 x2_48 ls (lv_sub hl [0, 1, 2] rfl)
  have L4 : ∀ (n4 : Nat) (x1_4 : Int32) (x2_4 : Int32) (ls : Array Slot), lv_has ls 3 [(0, .ref this), (1, .int x1_4), (2, .int x2_4)] → jGo l G 24 1289 σ (fun _ : Int32 => σ) jrI t p e s m args below meth c (jloop (X1_agree_h4 G n σ this) n4 (x1_4, x2_4)) σ (F0 m 4 ls []) := by
    intro n4
    induction n4 with
    | zero => intro x1_4 x2_4 ls hl; exact J.nil_
    | succ n4 ih4 =>
      have j35 : ∀ (x2_35 : Int32) (s0_35 : Int32) (s1_35 : Int32) (ls : Array Slot), lv_has ls 3 [(0, .ref this), (2, .int x2_35)] → jGo l G 24 1289 σ (fun _ : Int32 => σ) jrI t p e s m args below meth c (X1_agree_j35 G n σ this (jloop (X1_agree_h4 G n σ this) n4) x2_35 s0_35 s1_35) σ (F0 m 35 ls [.int s1_35, .int s0_35]) := by
        intro x2_35 s0_35 s1_35 ls hl
        unfold X1_agree_j35
        refine J.bind (fun v35 h35 => ?_)
        refine J.cS (As := [.int s1_35]) (rest := [.int s0_35]) (s2 := [.int v35, .int s0_35]) X ⟨rfl, rfl⟩ (ct_X1_bit l G n σ s1_35) (jrd_of h35) (fun _ _ => va_cwS 1 X.1.2.2.2.2 (lw_S q2178 q1703 q138 q1704) rfl rfl rfl (by decide +kernel) ⟨(Nat.le_of_ble_eq_true rfl), (Nat.le_of_ble_eq_true rfl)⟩) rfl hl.1 rfl rfl (Nat.le_of_ble_eq_true rfl) dX1_agree_35 ?_
        refine J.pu (fun _ _ _ _ k => lv_iadd X.1.1 X.1.2.1 dX1_agree_38 k) ?_
        refine J.istore_n (i := 1) (lv' := [(1, .int (s0_35 + v35)), (0, .ref this), (2, .int x2_35)]) X.1.1 X.1.2.1 dX1_agree_39 rfl hl (by decide) (by first | rfl | simp [va_rf_cat, jcI, jcA, jcJ, jcD, jcF]) (fun ls hl => ?_)
        refine J.iinc (k := 2) (lv' := [(2, .int (x2_35 + 1)), (1, .int (s0_35 + v35)), (0, .ref this)]) (w := (x2_35 + 1)) X.1.1 X.1.2.1 dX1_agree_40 hl rfl rfl (by decide) (by first | rfl | simp [va_rf_cat, jcI, jcA, jcJ, jcD, jcF]) (fun ls hl => ?_)
        refine J.pu (fun _ _ _ _ k => lv_goto (tgt := 4) X.1.1 X.1.2.1 dX1_agree_43 (by decide) k) ?_
        exact ih4 (s0_35 + v35) (x2_35 + 1) ls (lv_sub hl [2, 1, 0] rfl)
      intro x1_4 x2_4 ls hl
      refine J.eq (jloop_s _ _ _) ?_
      dsimp only [X1_agree_h4]
      refine J.pu (fun _ _ _ _ k => lv_iload_n X.1.1 X.1.2.1 dX1_agree_4 rfl (lv_at hl 2 rfl) k) ?_
      refine J.pu (fun _ _ _ _ k => lv_aload_n X.1.1 X.1.2.1 dX1_agree_5 rfl (lv_at hl 0 rfl) k) ?_
      refine J.getR (k := 4) (ci := 0) X in_X1 (show jCl[0]? = some (RX1, TX1, 9) from rfl) (by decide) q1329 (fun _ h => h) dX1_agree_6 (fun v6 h6 => ?_)
      refine J.getIN (k := 0) (ci := 1) X in_X2 (show jCl[1]? = some (RX2, TX2, 9) from rfl) (by decide) jnf2 (fun _ h => h) dX1_agree_9 (fun v9 h9 => ?_)
      refine J.br (fun _ _ _ _ ka kb => lv_icmp_ge (tgt := 46) X.1.1 X.1.2.1 dX1_agree_12 (by decide) ka kb) (fun c12 => ?_) (fun c12 => ?_)
      · refine J.pu (fun _ _ _ _ k => lv_iconst (v := 0) X.1.1 X.1.2.1 dX1_agree_46 (by decide) k) ?_
        refine J.istore_n (i := 2) (lv' := [(2, .int 0), (0, .ref this), (1, .int x1_4)]) X.1.1 X.1.2.1 dX1_agree_47 rfl hl (by decide) (by first | rfl | simp [va_rf_cat, jcI, jcA, jcJ, jcD, jcF]) (fun ls hl => ?_)
        exact L48 x1_4 n 0 ls (lv_sub hl [1, 2, 0] rfl)
      · refine J.pu (fun _ _ _ _ k => lv_iload_n X.1.1 X.1.2.1 dX1_agree_15 rfl (lv_at hl 1 rfl) k) ?_
        refine J.pu (fun _ _ _ _ k => lv_aload_n X.1.1 X.1.2.1 dX1_agree_16 rfl (lv_at hl 0 rfl) k) ?_
        refine J.getR (k := 4) (ci := 0) X in_X1 (show jCl[0]? = some (RX1, TX1, 9) from rfl) (by decide) q1329 (fun _ h => h) dX1_agree_17 (fun v17 h17 => ?_)
        refine J.getRN (k := 5) (ci := 1) X in_X2 (show jCl[1]? = some (RX2, TX2, 9) from rfl) (by decide) jnf11 (fun _ h => h) dX1_agree_20 (fun v20 h20 => ?_)
        refine J.pu (fun _ _ _ _ k => lv_iload_n X.1.1 X.1.2.1 dX1_agree_23 rfl (lv_at hl 2 rfl) k) ?_
        refine J.bind (fun o24 g24 => ?_)
        refine J.bind (fun v24 h24 => ?_)
        refine J.cV (q := (RX3, TX3, 1)) (ci := 2) (As := [.int x2_4]) (rest := [.int x1_4]) (s2 := [.int v24, .int x1_4]) X ⟨rfl, rfl⟩ (ct_X3_isFree l G n σ o24 x2_4) (jrd_of h24) (fun _ _ => cwV 1 X.1.2.2.2.2 (lw_V q2173 q2000 q2001 q159 q2002) rfl rfl rfl (by decide +kernel) ⟨(Nat.le_of_ble_eq_true rfl), (Nat.le_of_ble_eq_true rfl)⟩) g24 rfl rfl hl.1 rfl rfl (Nat.le_of_ble_eq_true rfl) dX1_agree_24 ?_
        refine J.br (fun _ _ _ _ ka kb => lv_if_ne (tgt := 34) X.1.1 X.1.2.1 dX1_agree_27 (by decide) kb ka) (fun c27 => ?_) (fun c27 => ?_)
        · refine J.pu (fun _ _ _ _ k => lv_iconst (v := 1) X.1.1 X.1.2.1 dX1_agree_30 (by decide) k) ?_
          refine J.pu (fun _ _ _ _ k => lv_goto (tgt := 35) X.1.1 X.1.2.1 dX1_agree_31 (by decide) k) ?_
          exact j35 x2_4 x1_4 1 ls (lv_sub hl [0, 2] rfl)
        · refine J.pu (fun _ _ _ _ k => lv_iconst (v := 0) X.1.1 X.1.2.1 dX1_agree_34 (by decide) k) ?_
          exact j35 x2_4 x1_4 0 ls (lv_sub hl [0, 2] rfl)
  unfold X1_agree
  refine J.pu (fun _ _ _ _ k => lv_iconst (v := 0) X.1.1 X.1.2.1 dX1_agree_0 (by decide) k) ?_
  refine J.istore_n (i := 1) (lv' := [(1, .int 0), (0, .ref this)]) X.1.1 X.1.2.1 dX1_agree_1 rfl hl (by decide) (by first | rfl | simp [va_rf_cat, jcI, jcA, jcJ, jcD, jcF]) (fun ls hl => ?_)
  refine J.pu (fun _ _ _ _ k => lv_iconst (v := 0) X.1.1 X.1.2.1 dX1_agree_2 (by decide) k) ?_
  refine J.istore_n (i := 2) (lv' := [(2, .int 0), (1, .int 0), (0, .ref this)]) X.1.1 X.1.2.1 dX1_agree_3 rfl hl (by decide) (by first | rfl | simp [va_rf_cat, jcI, jcA, jcJ, jcD, jcF]) (fun ls hl => ?_)
  exact L4 n 0 0 ls (lv_sub hl [2, 1, 0] rfl)
noncomputable def X1_printLoop_h10 (G : jG) (n : Nat) (this : Nat) (rec10 : Int32 × jH → Option (Int32 × jH)) (q10 : Int32 × jH) : Option (Int32 × jH) :=
  let x1_10 := q10.1; let B10 := q10.2; (gR B10 (some this) 0 4).bind fun v12 => (gI B10 v12 1 0).bind fun v15 => if v15 ≤ x1_10 then ((gR B10 (some this) 0 8).bind fun v54 => (rc B10 v54 20).bind fun o57 => (sbLen B10 o57).bind fun v57 => some (v57, B10)) else ((gR B10 (some this) 0 8).bind fun v22 => (gR B10 (some this) 0 4).bind fun v27 => (gR B10 v27 1 5).bind fun v30 => (rc B10 v30 2).bind fun o34 => (X3_at G n B10 o34 x1_10).bind fun v34 => (jck' B10 v34 [4]).bind fun _ => (rc B10 (some this) 0).bind fun o40 => (X1_sign G n B10 o40 v34).bind fun v40 => (rc B10 v22 20).bind fun o43 => bd (jck B10 (sbAppC G B10 o43 v40)) fun v43 S43 => rec10 ((x1_10 + 1), S43))
noncomputable def X1_printLoop_b (G : jG) (n : Nat) (σ : jH) (this : Nat) : Option (Int32 × jH) :=
  (gR σ (some this) 0 8).bind fun v1 => (rc σ v1 20).bind fun o5 => bd (jck σ (sbSet G σ o5 0)) fun v5 S5 => jloop (X1_printLoop_h10 G n this) n (0, S5)
noncomputable def X1_printLoop (G : jG) (n : Nat) (σ : jH) (this : Nat) : Option (Int32 × jH) := jck σ (X1_printLoop_b G n σ this)
set_option maxHeartbeats 4000000 in
set_option maxRecDepth 100000 in
theorem ct_X1_printLoop (l : Launch) (G : jG) (n : Nat) (σ : jH) (this : Nat) : jCt l G yX1_printLoop (ws_ yX1_printLoop cX1_printLoop 2 (some .int)) 22 1242 jrI [.ref this] σ (X1_printLoop G n σ this) := by
  refine jCt.wr (lv := [(0, .ref this)]) (plainFor_of_name (by decide)) (Nat.le_of_ble_eq_true rfl) rfl ?_
  intro t p e s m args below meth c ls X hr hnm hl
  have X : jCx p c cX1_printLoop 2 s m args RX1 G meth := X
  have L10 : ∀ (n10 : Nat) (x1_10 : Int32) (B10 : jH) (ls : Array Slot), lv_has ls 2 [(0, .ref this), (1, .int x1_10)] → jGo l G 22 1242 σ (Prod.snd : Int32 × jH → jH) (fun t => jrI t.1) t p e s m args below meth c (jloop (X1_printLoop_h10 G n this) n10 (x1_10, B10)) B10 (F0 m 10 ls []) := by
    intro n10
    induction n10 with
    | zero => intro x1_10 B10 ls hl; exact J.nil_
    | succ n10 ih10 =>
      intro x1_10 B10 ls hl
      refine J.eq (jloop_s _ _ _) ?_
      dsimp only [X1_printLoop_h10]
      refine J.pu (fun _ _ _ _ k => lv_iload_n X.1.1 X.1.2.1 dX1_printLoop_10 rfl (lv_at hl 1 rfl) k) ?_
      refine J.pu (fun _ _ _ _ k => lv_aload_n X.1.1 X.1.2.1 dX1_printLoop_11 rfl (lv_at hl 0 rfl) k) ?_
      refine J.getR (k := 4) (ci := 0) X in_X1 (show jCl[0]? = some (RX1, TX1, 9) from rfl) (by decide) q1329 (fun _ h => h) dX1_printLoop_12 (fun v12 h12 => ?_)
      refine J.getIN (k := 0) (ci := 1) X in_X2 (show jCl[1]? = some (RX2, TX2, 9) from rfl) (by decide) jnf2 (fun _ h => h) dX1_printLoop_15 (fun v15 h15 => ?_)
      refine J.br (fun _ _ _ _ ka kb => lv_icmp_ge (tgt := 53) X.1.1 X.1.2.1 dX1_printLoop_18 (by decide) ka kb) (fun c18 => ?_) (fun c18 => ?_)
      · refine J.pu (fun _ _ _ _ k => lv_aload_n X.1.1 X.1.2.1 dX1_printLoop_53 rfl (lv_at hl 0 rfl) k) ?_
        refine J.getR (k := 8) (ci := 0) X in_X1 (show jCl[0]? = some (RX1, TX1, 9) from rfl) (by decide) q1333 (fun _ h => h) dX1_printLoop_54 (fun v54 h54 => ?_)
        refine J.bind (fun o57 g57 => ?_)
        refine J.bind (fun v57 h57 => ?_)
        refine J.cV (q := (RJ8, TJ8, 4)) (ci := 20) (As := []) (rest := []) (s2 := [.int v57]) X ⟨rfl, rfl⟩ (ct_J8_length l G B10 o57) (jrd_of h57) (fun _ _ => cwV 0 X.1.2.2.2.2 (lw_V q2352 q473 q3344 q148 q474) rfl rfl rfl (by decide +kernel) ⟨(Nat.le_of_ble_eq_true rfl), (Nat.le_of_ble_eq_true rfl)⟩) g57 rfl rfl hl.1 rfl rfl (Nat.le_of_ble_eq_true rfl) dX1_printLoop_57 ?_
        exact J.iret (vr := fun t : Int32 × jH => jrI t.1) (fin := Prod.snd) (t := t) X hr (by rfl) (by rfl) dX1_printLoop_60
      · refine J.pu (fun _ _ _ _ k => lv_aload_n X.1.1 X.1.2.1 dX1_printLoop_21 rfl (lv_at hl 0 rfl) k) ?_
        refine J.getR (k := 8) (ci := 0) X in_X1 (show jCl[0]? = some (RX1, TX1, 9) from rfl) (by decide) q1333 (fun _ h => h) dX1_printLoop_22 (fun v22 h22 => ?_)
        refine J.pu (fun _ _ _ _ k => lv_aload_n X.1.1 X.1.2.1 dX1_printLoop_25 rfl (lv_at hl 0 rfl) k) ?_
        refine J.pu (fun _ _ _ _ k => lv_aload_n X.1.1 X.1.2.1 dX1_printLoop_26 rfl (lv_at hl 0 rfl) k) ?_
        refine J.getR (k := 4) (ci := 0) X in_X1 (show jCl[0]? = some (RX1, TX1, 9) from rfl) (by decide) q1329 (fun _ h => h) dX1_printLoop_27 (fun v27 h27 => ?_)
        refine J.getRN (k := 5) (ci := 1) X in_X2 (show jCl[1]? = some (RX2, TX2, 9) from rfl) (by decide) jnf11 (fun _ h => h) dX1_printLoop_30 (fun v30 h30 => ?_)
        refine J.pu (fun _ _ _ _ k => lv_iload_n X.1.1 X.1.2.1 dX1_printLoop_33 rfl (lv_at hl 1 rfl) k) ?_
        refine J.bind (fun o34 g34 => ?_)
        refine J.bind (fun v34 h34 => ?_)
        refine J.cV (q := (RX3, TX3, 1)) (ci := 2) (As := [.int x1_10]) (rest := [.ref this, va_rf v22]) (s2 := [va_rf v34, .ref this, va_rf v22]) X ⟨rfl, rfl⟩ (ct_X3_at l G n B10 o34 x1_10) (jrd_of h34) (fun _ _ => cwV 1 X.1.2.2.2.2 (lw_V q2184 q2096 q2097 q159 q2098) rfl rfl rfl (by decide +kernel) ⟨(Nat.le_of_ble_eq_true rfl), (Nat.le_of_ble_eq_true rfl)⟩) g34 rfl rfl hl.1 rfl rfl (by simp [va_rf_cat, jcI, jcA, jcJ, jcD, jcF]) dX1_printLoop_34 ?_
        refine J.cast (nm := "SortingLoop$Parcel") X q2346 (List.forall_mem_cons.mpr ⟨⟨_, rfl, Or.inl rfl⟩, jnil_all⟩) dX1_printLoop_37 ?_
        refine J.bind (fun o40 g40 => ?_)
        refine J.bind (fun v40 h40 => ?_)
        refine J.cV (q := (RX1, TX1, 9)) (ci := 0) (As := [va_rf v34]) (rest := [va_rf v22]) (s2 := [.int v40, va_rf v22]) X ⟨rfl, rfl⟩ (ct_X1_sign l G n B10 o40 v34) (jrd_of h40) (fun _ _ => cwV 1 X.1.2.2.2.2 (lw_V q2347 q2349 qs42 q138 q2350) rfl rfl rfl (by decide +kernel) ⟨(Nat.le_of_ble_eq_true rfl), (Nat.le_of_ble_eq_true rfl)⟩) g40 rfl rfl hl.1 rfl rfl (by simp [va_rf_cat, jcI, jcA, jcJ, jcD, jcF]) dX1_printLoop_40 ?_
        refine J.bind (fun o43 g43 => ?_)
        refine J.bd' (fun v43 S43 h43 => ?_)
        refine J.cV (q := (RJ8, TJ8, 4)) (ci := 20) (As := [.int v40]) (rest := []) (s2 := [va_rf v43]) X ⟨rfl, rfl⟩ (ct_J8_append_3 l G B10 o43 v40) h43 (fun _ _ => cwV 1 X.1.2.2.2.2 (lw_V q2351 q1412 q1413 q148 q1414) rfl rfl rfl (by decide +kernel) ⟨(Nat.le_of_ble_eq_true rfl), (Nat.le_of_ble_eq_true rfl)⟩) g43 rfl rfl hl.1 rfl rfl (Nat.le_of_ble_eq_true rfl) dX1_printLoop_43 ?_
        refine J.pu (fun _ _ _ _ k => lv_pop X.1.1 X.1.2.1 dX1_printLoop_46 (va_rf_cat _) k) ?_
        refine J.iinc (k := 1) (lv' := [(1, .int (x1_10 + 1)), (0, .ref this)]) (w := (x1_10 + 1)) X.1.1 X.1.2.1 dX1_printLoop_47 hl rfl rfl (by decide) (by first | rfl | simp [va_rf_cat, jcI, jcA, jcJ, jcD, jcF]) (fun ls hl => ?_)
        refine J.pu (fun _ _ _ _ k => lv_goto (tgt := 10) X.1.1 X.1.2.1 dX1_printLoop_50 (by decide) k) ?_
        exact ih10 (x1_10 + 1) S43 ls (lv_sub hl [1, 0] rfl)
  unfold X1_printLoop_b
  refine J.pu (fun _ _ _ _ k => lv_aload_n X.1.1 X.1.2.1 dX1_printLoop_0 rfl (lv_at hl 0 rfl) k) ?_
  refine J.getR (k := 8) (ci := 0) X in_X1 (show jCl[0]? = some (RX1, TX1, 9) from rfl) (by decide) q1333 (fun _ h => h) dX1_printLoop_1 (fun v1 h1 => ?_)
  refine J.pu (fun _ _ _ _ k => lv_iconst (v := 0) X.1.1 X.1.2.1 dX1_printLoop_4 (by decide) k) ?_
  refine J.bind (fun o5 g5 => ?_)
  refine J.bd' (fun v5 S5 h5 => ?_)
  refine J.cV (q := (RJ8, TJ8, 4)) (ci := 20) (As := [.int 0]) (rest := []) (s2 := []) X ⟨rfl, rfl⟩ (ct_J8_setLength l G σ o5 0) h5 (fun _ _ => cwV 1 X.1.2.2.2.2 (lw_V q2281 q2282 q2283 q148 q2284) rfl rfl rfl (by decide +kernel) ⟨(Nat.le_of_ble_eq_true rfl), (Nat.le_of_ble_eq_true rfl)⟩) g5 rfl rfl hl.1 rfl rfl (Nat.le_of_ble_eq_true rfl) dX1_printLoop_5 ?_
  refine J.pu (fun _ _ _ _ k => lv_iconst (v := 0) X.1.1 X.1.2.1 dX1_printLoop_8 (by decide) k) ?_
  refine J.istore_n (i := 1) (lv' := [(1, .int 0), (0, .ref this)]) X.1.1 X.1.2.1 dX1_printLoop_9 rfl hl (by decide) (by first | rfl | simp [va_rf_cat, jcI, jcA, jcJ, jcD, jcF]) (fun ls hl => ?_)
  exact L10 n 0 S5 ls (lv_sub hl [1, 0] rfl)
noncomputable def X1_count_j152 (G : jG) (n : Nat) (this : Nat) (a1 : Int32) (B152 : jH) : Option (jTh Int32 × jH) :=
  (gR B152 (some this) 0 4).bind fun v153 => (rc B152 v153 1).bind fun o160 => (X2_those G n B152 o160 (a1 - 7)).bind fun v160 => some (.inl v160, B152)
noncomputable def X1_count_b (G : jG) (n : Nat) (σ : jH) (this : Nat) (a1 : Int32) : Option (jTh Int32 × jH) :=
  if a1 = 0 then ((gR σ (some this) 0 4).bind fun v73 => (gI σ v73 1 0).bind fun v76 => some (.inl v76, σ)) else if a1 = 1 then ((gR σ (some this) 0 4).bind fun v83 => (gI σ v83 1 1).bind fun v86 => some (.inl v86, σ)) else if a1 = 2 then ((gR σ (some this) 0 4).bind fun v93 => (rc σ v93 1).bind fun o96 => (X2_scannerMany G n σ o96).bind fun v96 => some (.inl v96, σ)) else if a1 = 3 then ((gR σ (some this) 0 4).bind fun v103 => (gR σ v103 1 3).bind fun v106 => (rc σ v106 15).bind fun o109 => (lSize 0 σ o109).bind fun v109 => some (.inl v109, σ)) else if a1 = 4 then ((gR σ (some this) 0 4).bind fun v118 => (gR σ v118 1 4).bind fun v121 => (rc σ v121 15).bind fun o124 => (lSize 0 σ o124).bind fun v124 => some (.inl v124, σ)) else if a1 = 5 then ((gR σ (some this) 0 4).bind fun v133 => (gI σ v133 1 7).bind fun v136 => some (.inl v136, σ)) else if a1 = 6 then ((gR σ (some this) 0 4).bind fun v143 => (gI σ v143 1 8).bind fun v146 => some (.inl v146, σ)) else if a1 = 7 then (X1_count_j152 G n this a1 σ) else if a1 = 8 then (X1_count_j152 G n this a1 σ) else if a1 = 9 then (X1_count_j152 G n this a1 σ) else if a1 = 10 then (X1_count_j152 G n this a1 σ) else if a1 = 11 then ((rc σ (some this) 0).bind fun o167 => (X1_untracked G n σ o167).bind fun v167 => some (.inl v167, σ)) else if a1 = 12 then ((rc σ (some this) 0).bind fun o174 => (X1_lagging G n σ o174).bind fun v174 => some (.inl v174, σ)) else if a1 = 13 then ((gR σ (some this) 0 7).bind fun v181 => (rc σ v181 18).bind fun o184 => (dqSize σ o184).bind fun v184 => some (.inl v184, σ)) else some (.inr (0, σ.2.1), tnew σ)
noncomputable def X1_count (G : jG) (n : Nat) (σ : jH) (this : Nat) (a1 : Int32) : Option (jTh Int32 × jH) := jck σ (X1_count_b G n σ this a1)
set_option maxHeartbeats 4000000 in
set_option maxRecDepth 100000 in
theorem ct_X1_count (l : Launch) (hfl : l.stackTraces = false) (G : jG) (n : Nat) (σ : jH) (this : Nat) (a1 : Int32) : jTt l G yX1_count (ws_ yX1_count cX1_count 2 (some .int)) 23 1265 jrI [.ref this, .int a1] σ (X1_count G n σ this a1) := by
  refine jTt.wr (lv := [(0, .ref this), (1, .int a1)]) rfl (Nat.le_of_ble_eq_true rfl) rfl ?_
  intro t p e s m args below meth c ls X hr hnm hout hl
  have X : jCx p c cX1_count 2 s m args RX1 G meth := X
  have j152 : ∀ (B152 : jH) (ls : Array Slot), lv_has ls 2 [(0, .ref this), (1, .int a1)] → jGoT l G 23 1265 σ jrI t p e s m args below meth c (X1_count_j152 G n this a1 B152) B152 (F0 m 152 ls []) := by
    intro B152 ls hl
    unfold X1_count_j152
    refine J.pu (fun _ _ _ _ k => lv_aload_n X.1.1 X.1.2.1 dX1_count_152 rfl (lv_at hl 0 rfl) k) ?_
    refine J.getR (k := 4) (ci := 0) X in_X1 (show jCl[0]? = some (RX1, TX1, 9) from rfl) (by decide) q1329 (fun _ h => h) dX1_count_153 (fun v153 h153 => ?_)
    refine J.pu (fun _ _ _ _ k => lv_iload_n X.1.1 X.1.2.1 dX1_count_156 rfl (lv_at hl 1 rfl) k) ?_
    refine J.pu (fun _ _ _ _ k => lv_bipush (v := 7) X.1.1 X.1.2.1 dX1_count_157 (by decide) k) ?_
    refine J.pu (fun _ _ _ _ k => lv_isub X.1.1 X.1.2.1 dX1_count_159 k) ?_
    refine J.bind (fun o160 g160 => ?_)
    refine J.bind (fun v160 h160 => ?_)
    refine J.cV (q := (RX2, TX2, 9)) (ci := 1) (As := [.int (a1 - 7)]) (rest := []) (s2 := [.int v160]) X ⟨rfl, rfl⟩ (ct_X2_those l G n B152 o160 (a1 - 7)) (jrd_of h160) (fun _ _ => cwV 1 X.1.2.2.2.2 (lw_V q2167 q2061 q2062 q139 q2063) rfl rfl rfl (by decide +kernel) ⟨(Nat.le_of_ble_eq_true rfl), (Nat.le_of_ble_eq_true rfl)⟩) g160 rfl rfl hl.1 rfl rfl (Nat.le_of_ble_eq_true rfl) dX1_count_160 ?_
    refine J.pu (fun _ _ _ _ k => lv_goto (tgt := 198) X.1.1 X.1.2.1 dX1_count_163 (by decide) k) ?_
    exact J.tret (J.iret (vr := fun t : Int32 × jH => jrI t.1) (fin := (Prod.snd : Int32 × jH → jH)) (t := (v160, B152)) X hr (by rfl) (by rfl) dX1_count_198)
  unfold X1_count_b
  refine J.pu (fun _ _ _ _ k => lv_iload_n X.1.1 X.1.2.1 dX1_count_0 rfl (lv_at hl 1 rfl) k) ?_
  refine J.ite (fun c1_0 => ?_) (fun c1_0 => ?_)
  · refine J.pu (fun _ _ _ _ k => lv_tableIn (tgt := 72) (off := 71) X.1.1 X.1.2.1 dX1_count_1 (by rw [c1_0]; decide) (by rw [c1_0]; decide) (by rw [c1_0]; decide) (by decide) k) ?_
    refine J.pu (fun _ _ _ _ k => lv_aload_n X.1.1 X.1.2.1 dX1_count_72 rfl (lv_at hl 0 rfl) k) ?_
    refine J.getR (k := 4) (ci := 0) X in_X1 (show jCl[0]? = some (RX1, TX1, 9) from rfl) (by decide) q1329 (fun _ h => h) dX1_count_73 (fun v73 h73 => ?_)
    refine J.getIN (k := 0) (ci := 1) X in_X2 (show jCl[1]? = some (RX2, TX2, 9) from rfl) (by decide) jnf2 (fun _ h => h) dX1_count_76 (fun v76 h76 => ?_)
    refine J.pu (fun _ _ _ _ k => lv_goto (tgt := 198) X.1.1 X.1.2.1 dX1_count_79 (by decide) k) ?_
    exact J.tret (J.iret (vr := fun t : Int32 × jH => jrI t.1) (fin := (Prod.snd : Int32 × jH → jH)) (t := (v76, σ)) X hr (by rfl) (by rfl) dX1_count_198)
  refine J.ite (fun c1_1 => ?_) (fun c1_1 => ?_)
  · refine J.pu (fun _ _ _ _ k => lv_tableIn (tgt := 82) (off := 81) X.1.1 X.1.2.1 dX1_count_1 (by rw [c1_1]; decide) (by rw [c1_1]; decide) (by rw [c1_1]; decide) (by decide) k) ?_
    refine J.pu (fun _ _ _ _ k => lv_aload_n X.1.1 X.1.2.1 dX1_count_82 rfl (lv_at hl 0 rfl) k) ?_
    refine J.getR (k := 4) (ci := 0) X in_X1 (show jCl[0]? = some (RX1, TX1, 9) from rfl) (by decide) q1329 (fun _ h => h) dX1_count_83 (fun v83 h83 => ?_)
    refine J.getIN (k := 1) (ci := 1) X in_X2 (show jCl[1]? = some (RX2, TX2, 9) from rfl) (by decide) jnf3 (fun _ h => h) dX1_count_86 (fun v86 h86 => ?_)
    refine J.pu (fun _ _ _ _ k => lv_goto (tgt := 198) X.1.1 X.1.2.1 dX1_count_89 (by decide) k) ?_
    exact J.tret (J.iret (vr := fun t : Int32 × jH => jrI t.1) (fin := (Prod.snd : Int32 × jH → jH)) (t := (v86, σ)) X hr (by rfl) (by rfl) dX1_count_198)
  refine J.ite (fun c1_2 => ?_) (fun c1_2 => ?_)
  · refine J.pu (fun _ _ _ _ k => lv_tableIn (tgt := 92) (off := 91) X.1.1 X.1.2.1 dX1_count_1 (by rw [c1_2]; decide) (by rw [c1_2]; decide) (by rw [c1_2]; decide) (by decide) k) ?_
    refine J.pu (fun _ _ _ _ k => lv_aload_n X.1.1 X.1.2.1 dX1_count_92 rfl (lv_at hl 0 rfl) k) ?_
    refine J.getR (k := 4) (ci := 0) X in_X1 (show jCl[0]? = some (RX1, TX1, 9) from rfl) (by decide) q1329 (fun _ h => h) dX1_count_93 (fun v93 h93 => ?_)
    refine J.bind (fun o96 g96 => ?_)
    refine J.bind (fun v96 h96 => ?_)
    refine J.cV (q := (RX2, TX2, 9)) (ci := 1) (As := []) (rest := []) (s2 := [.int v96]) X ⟨rfl, rfl⟩ (ct_X2_scannerMany l G n σ o96) (jrd_of h96) (fun _ _ => cwV 0 X.1.2.2.2.2 (lw_V q2390 q1699 q1700 q139 q1701) rfl rfl rfl (by decide +kernel) ⟨(Nat.le_of_ble_eq_true rfl), (Nat.le_of_ble_eq_true rfl)⟩) g96 rfl rfl hl.1 rfl rfl (Nat.le_of_ble_eq_true rfl) dX1_count_96 ?_
    refine J.pu (fun _ _ _ _ k => lv_goto (tgt := 198) X.1.1 X.1.2.1 dX1_count_99 (by decide) k) ?_
    exact J.tret (J.iret (vr := fun t : Int32 × jH => jrI t.1) (fin := (Prod.snd : Int32 × jH → jH)) (t := (v96, σ)) X hr (by rfl) (by rfl) dX1_count_198)
  refine J.ite (fun c1_3 => ?_) (fun c1_3 => ?_)
  · refine J.pu (fun _ _ _ _ k => lv_tableIn (tgt := 102) (off := 101) X.1.1 X.1.2.1 dX1_count_1 (by rw [c1_3]; decide) (by rw [c1_3]; decide) (by rw [c1_3]; decide) (by decide) k) ?_
    refine J.pu (fun _ _ _ _ k => lv_aload_n X.1.1 X.1.2.1 dX1_count_102 rfl (lv_at hl 0 rfl) k) ?_
    refine J.getR (k := 4) (ci := 0) X in_X1 (show jCl[0]? = some (RX1, TX1, 9) from rfl) (by decide) q1329 (fun _ h => h) dX1_count_103 (fun v103 h103 => ?_)
    refine J.getRN (k := 3) (ci := 1) X in_X2 (show jCl[1]? = some (RX2, TX2, 9) from rfl) (by decide) jnf8 (fun _ h => h) dX1_count_106 (fun v106 h106 => ?_)
    refine J.bind (fun o109 g109 => ?_)
    refine J.bind (fun v109 h109 => ?_)
    refine J.cF (q := (RJ2, TJ2, 3)) (ci := 15) (As := []) (rest := []) (s2 := [.int v109]) X ⟨rfl, rfl⟩ (ct_J2_size l G σ o109) (jrd_of h109) (fun _ _ => va_cwF 0 X.1.2.2.2.2 (lw_F q1751 q832 q834 q142 q836) rfl rfl rfl (jfw2 X.2.1) (by decide +kernel) ⟨(Nat.le_of_ble_eq_true rfl), (Nat.le_of_ble_eq_true rfl)⟩) g109 rfl rfl hl.1 rfl rfl (Nat.le_of_ble_eq_true rfl) dX1_count_109 ?_
    refine J.pu (fun _ _ _ _ k => lv_goto (tgt := 198) X.1.1 X.1.2.1 dX1_count_114 (by decide) k) ?_
    exact J.tret (J.iret (vr := fun t : Int32 × jH => jrI t.1) (fin := (Prod.snd : Int32 × jH → jH)) (t := (v109, σ)) X hr (by rfl) (by rfl) dX1_count_198)
  refine J.ite (fun c1_4 => ?_) (fun c1_4 => ?_)
  · refine J.pu (fun _ _ _ _ k => lv_tableIn (tgt := 117) (off := 116) X.1.1 X.1.2.1 dX1_count_1 (by rw [c1_4]; decide) (by rw [c1_4]; decide) (by rw [c1_4]; decide) (by decide) k) ?_
    refine J.pu (fun _ _ _ _ k => lv_aload_n X.1.1 X.1.2.1 dX1_count_117 rfl (lv_at hl 0 rfl) k) ?_
    refine J.getR (k := 4) (ci := 0) X in_X1 (show jCl[0]? = some (RX1, TX1, 9) from rfl) (by decide) q1329 (fun _ h => h) dX1_count_118 (fun v118 h118 => ?_)
    refine J.getRN (k := 4) (ci := 1) X in_X2 (show jCl[1]? = some (RX2, TX2, 9) from rfl) (by decide) jnf10 (fun _ h => h) dX1_count_121 (fun v121 h121 => ?_)
    refine J.bind (fun o124 g124 => ?_)
    refine J.bind (fun v124 h124 => ?_)
    refine J.cF (q := (RJ2, TJ2, 3)) (ci := 15) (As := []) (rest := []) (s2 := [.int v124]) X ⟨rfl, rfl⟩ (ct_J2_size l G σ o124) (jrd_of h124) (fun _ _ => va_cwF 0 X.1.2.2.2.2 (lw_F q1751 q832 q834 q142 q836) rfl rfl rfl (jfw2 X.2.1) (by decide +kernel) ⟨(Nat.le_of_ble_eq_true rfl), (Nat.le_of_ble_eq_true rfl)⟩) g124 rfl rfl hl.1 rfl rfl (Nat.le_of_ble_eq_true rfl) dX1_count_124 ?_
    refine J.pu (fun _ _ _ _ k => lv_goto (tgt := 198) X.1.1 X.1.2.1 dX1_count_129 (by decide) k) ?_
    exact J.tret (J.iret (vr := fun t : Int32 × jH => jrI t.1) (fin := (Prod.snd : Int32 × jH → jH)) (t := (v124, σ)) X hr (by rfl) (by rfl) dX1_count_198)
  refine J.ite (fun c1_5 => ?_) (fun c1_5 => ?_)
  · refine J.pu (fun _ _ _ _ k => lv_tableIn (tgt := 132) (off := 131) X.1.1 X.1.2.1 dX1_count_1 (by rw [c1_5]; decide) (by rw [c1_5]; decide) (by rw [c1_5]; decide) (by decide) k) ?_
    refine J.pu (fun _ _ _ _ k => lv_aload_n X.1.1 X.1.2.1 dX1_count_132 rfl (lv_at hl 0 rfl) k) ?_
    refine J.getR (k := 4) (ci := 0) X in_X1 (show jCl[0]? = some (RX1, TX1, 9) from rfl) (by decide) q1329 (fun _ h => h) dX1_count_133 (fun v133 h133 => ?_)
    refine J.getIN (k := 7) (ci := 1) X in_X2 (show jCl[1]? = some (RX2, TX2, 9) from rfl) (by decide) jnf14 (fun _ h => h) dX1_count_136 (fun v136 h136 => ?_)
    refine J.pu (fun _ _ _ _ k => lv_goto (tgt := 198) X.1.1 X.1.2.1 dX1_count_139 (by decide) k) ?_
    exact J.tret (J.iret (vr := fun t : Int32 × jH => jrI t.1) (fin := (Prod.snd : Int32 × jH → jH)) (t := (v136, σ)) X hr (by rfl) (by rfl) dX1_count_198)
  refine J.ite (fun c1_6 => ?_) (fun c1_6 => ?_)
  · refine J.pu (fun _ _ _ _ k => lv_tableIn (tgt := 142) (off := 141) X.1.1 X.1.2.1 dX1_count_1 (by rw [c1_6]; decide) (by rw [c1_6]; decide) (by rw [c1_6]; decide) (by decide) k) ?_
    refine J.pu (fun _ _ _ _ k => lv_aload_n X.1.1 X.1.2.1 dX1_count_142 rfl (lv_at hl 0 rfl) k) ?_
    refine J.getR (k := 4) (ci := 0) X in_X1 (show jCl[0]? = some (RX1, TX1, 9) from rfl) (by decide) q1329 (fun _ h => h) dX1_count_143 (fun v143 h143 => ?_)
    refine J.getIN (k := 8) (ci := 1) X in_X2 (show jCl[1]? = some (RX2, TX2, 9) from rfl) (by decide) jnf16 (fun _ h => h) dX1_count_146 (fun v146 h146 => ?_)
    refine J.pu (fun _ _ _ _ k => lv_goto (tgt := 198) X.1.1 X.1.2.1 dX1_count_149 (by decide) k) ?_
    exact J.tret (J.iret (vr := fun t : Int32 × jH => jrI t.1) (fin := (Prod.snd : Int32 × jH → jH)) (t := (v146, σ)) X hr (by rfl) (by rfl) dX1_count_198)
  refine J.ite (fun c1_7 => ?_) (fun c1_7 => ?_)
  · refine J.pu (fun _ _ _ _ k => lv_tableIn (tgt := 152) (off := 151) X.1.1 X.1.2.1 dX1_count_1 (by rw [c1_7]; decide) (by rw [c1_7]; decide) (by rw [c1_7]; decide) (by decide) k) ?_
    exact j152 σ ls (lv_sub hl [0, 1] rfl)
  refine J.ite (fun c1_8 => ?_) (fun c1_8 => ?_)
  · refine J.pu (fun _ _ _ _ k => lv_tableIn (tgt := 152) (off := 151) X.1.1 X.1.2.1 dX1_count_1 (by rw [c1_8]; decide) (by rw [c1_8]; decide) (by rw [c1_8]; decide) (by decide) k) ?_
    exact j152 σ ls (lv_sub hl [0, 1] rfl)
  refine J.ite (fun c1_9 => ?_) (fun c1_9 => ?_)
  · refine J.pu (fun _ _ _ _ k => lv_tableIn (tgt := 152) (off := 151) X.1.1 X.1.2.1 dX1_count_1 (by rw [c1_9]; decide) (by rw [c1_9]; decide) (by rw [c1_9]; decide) (by decide) k) ?_
    exact j152 σ ls (lv_sub hl [0, 1] rfl)
  refine J.ite (fun c1_10 => ?_) (fun c1_10 => ?_)
  · refine J.pu (fun _ _ _ _ k => lv_tableIn (tgt := 152) (off := 151) X.1.1 X.1.2.1 dX1_count_1 (by rw [c1_10]; decide) (by rw [c1_10]; decide) (by rw [c1_10]; decide) (by decide) k) ?_
    exact j152 σ ls (lv_sub hl [0, 1] rfl)
  refine J.ite (fun c1_11 => ?_) (fun c1_11 => ?_)
  · refine J.pu (fun _ _ _ _ k => lv_tableIn (tgt := 166) (off := 165) X.1.1 X.1.2.1 dX1_count_1 (by rw [c1_11]; decide) (by rw [c1_11]; decide) (by rw [c1_11]; decide) (by decide) k) ?_
    refine J.pu (fun _ _ _ _ k => lv_aload_n X.1.1 X.1.2.1 dX1_count_166 rfl (lv_at hl 0 rfl) k) ?_
    refine J.bind (fun o167 g167 => ?_)
    refine J.bind (fun v167 h167 => ?_)
    refine J.cV (q := (RX1, TX1, 9)) (ci := 0) (As := []) (rest := []) (s2 := [.int v167]) X ⟨rfl, rfl⟩ (ct_X1_untracked l G n σ o167) (jrd_of h167) (fun _ _ => cwV 0 X.1.2.2.2.2 (lw_V q2391 q2393 qs43 q138 q2394) rfl rfl rfl (by decide +kernel) ⟨(Nat.le_of_ble_eq_true rfl), (Nat.le_of_ble_eq_true rfl)⟩) g167 rfl rfl hl.1 rfl rfl (Nat.le_of_ble_eq_true rfl) dX1_count_167 ?_
    refine J.pu (fun _ _ _ _ k => lv_goto (tgt := 198) X.1.1 X.1.2.1 dX1_count_170 (by decide) k) ?_
    exact J.tret (J.iret (vr := fun t : Int32 × jH => jrI t.1) (fin := (Prod.snd : Int32 × jH → jH)) (t := (v167, σ)) X hr (by rfl) (by rfl) dX1_count_198)
  refine J.ite (fun c1_12 => ?_) (fun c1_12 => ?_)
  · refine J.pu (fun _ _ _ _ k => lv_tableIn (tgt := 173) (off := 172) X.1.1 X.1.2.1 dX1_count_1 (by rw [c1_12]; decide) (by rw [c1_12]; decide) (by rw [c1_12]; decide) (by decide) k) ?_
    refine J.pu (fun _ _ _ _ k => lv_aload_n X.1.1 X.1.2.1 dX1_count_173 rfl (lv_at hl 0 rfl) k) ?_
    refine J.bind (fun o174 g174 => ?_)
    refine J.bind (fun v174 h174 => ?_)
    refine J.cV (q := (RX1, TX1, 9)) (ci := 0) (As := []) (rest := []) (s2 := [.int v174]) X ⟨rfl, rfl⟩ (ct_X1_lagging l G n σ o174) (jrd_of h174) (fun _ _ => cwV 0 X.1.2.2.2.2 (lw_V q2397 q2399 qs44 q138 q2400) rfl rfl rfl (by decide +kernel) ⟨(Nat.le_of_ble_eq_true rfl), (Nat.le_of_ble_eq_true rfl)⟩) g174 rfl rfl hl.1 rfl rfl (Nat.le_of_ble_eq_true rfl) dX1_count_174 ?_
    refine J.pu (fun _ _ _ _ k => lv_goto (tgt := 198) X.1.1 X.1.2.1 dX1_count_177 (by decide) k) ?_
    exact J.tret (J.iret (vr := fun t : Int32 × jH => jrI t.1) (fin := (Prod.snd : Int32 × jH → jH)) (t := (v174, σ)) X hr (by rfl) (by rfl) dX1_count_198)
  refine J.ite (fun c1_13 => ?_) (fun c1_13 => ?_)
  · refine J.pu (fun _ _ _ _ k => lv_tableIn (tgt := 180) (off := 179) X.1.1 X.1.2.1 dX1_count_1 (by rw [c1_13]; decide) (by rw [c1_13]; decide) (by rw [c1_13]; decide) (by decide) k) ?_
    refine J.pu (fun _ _ _ _ k => lv_aload_n X.1.1 X.1.2.1 dX1_count_180 rfl (lv_at hl 0 rfl) k) ?_
    refine J.getR (k := 7) (ci := 0) X in_X1 (show jCl[0]? = some (RX1, TX1, 9) from rfl) (by decide) q1332 (fun _ h => h) dX1_count_181 (fun v181 h181 => ?_)
    refine J.bind (fun o184 g184 => ?_)
    refine J.bind (fun v184 h184 => ?_)
    refine J.cV (q := (RJ20, TJ20, 3)) (ci := 18) (As := []) (rest := []) (s2 := [.int v184]) X ⟨rfl, rfl⟩ (ct_J20_size l G σ o184) (jrd_of h184) (fun _ _ => cwV 0 X.1.2.2.2.2 (lw_V q1906 q1738 q3342 q164 q1739) rfl rfl rfl (by decide +kernel) ⟨(Nat.le_of_ble_eq_true rfl), (Nat.le_of_ble_eq_true rfl)⟩) g184 rfl rfl hl.1 rfl rfl (Nat.le_of_ble_eq_true rfl) dX1_count_184 ?_
    refine J.pu (fun _ _ _ _ k => lv_goto (tgt := 198) X.1.1 X.1.2.1 dX1_count_187 (by decide) k) ?_
    exact J.tret (J.iret (vr := fun t : Int32 × jH => jrI t.1) (fin := (Prod.snd : Int32 × jH → jH)) (t := (v184, σ)) X hr (by rfl) (by rfl) dX1_count_198)
  by_cases b1 : a1.toInt < 0 ∨ 13 < a1.toInt
  · refine J.pu (fun _ _ _ _ k => lv_tableOut (tgt := 190) X.1.1 X.1.2.1 dX1_count_1 b1 (by decide) k) ?_
    exact J.throw0 (k := 0) X hfl hout ⟨rfl, rfl⟩ rfl (by decide) q2401 q146 (jth0 X.1.2.2.2.2 X.2.1) (by decide +kernel) hl.1 dX1_count_190 dX1_count_193 dX1_count_194 dX1_count_197 (Nat.le_of_ble_eq_true rfl) (Nat.le_of_ble_eq_true rfl)
  · exfalso; have := lv_neT c1_0 (a := 0) rfl; have := lv_neT c1_1 (a := 1) rfl; have := lv_neT c1_2 (a := 2) rfl; have := lv_neT c1_3 (a := 3) rfl; have := lv_neT c1_4 (a := 4) rfl; have := lv_neT c1_5 (a := 5) rfl; have := lv_neT c1_6 (a := 6) rfl; have := lv_neT c1_7 (a := 7) rfl; have := lv_neT c1_8 (a := 8) rfl; have := lv_neT c1_9 (a := 9) rfl; have := lv_neT c1_10 (a := 10) rfl; have := lv_neT c1_11 (a := 11) rfl; have := lv_neT c1_12 (a := 12) rfl; have := lv_neT c1_13 (a := 13) rfl; omega
noncomputable def X1_why_b (G : jG) (n : Nat) (σ : jH) (this : Nat) (a1 : Int32) (a2 : Int32) : Option (jTh Int32 × jH) :=
  (rc σ (some this) 0).bind fun o2 => tb (X1_parcelAt G n σ o2 a1) fun v2 S2 => (X1_isIn G n S2 a2.toInt64 0 2).bind fun v12 => tb (X1_checkArgument G n S2 v12) fun v15 S15 => (rc S15 (some this) 0).bind fun o20 => (X1_reason G n S15 o20 v2).bind fun v20 => if a2 = 0 then (some (.inl v20, S15)) else (if a2 = 1 then ((rc S15 (some this) 0).bind fun o43 => (X1_cause G n S15 o43 v2 v20).bind fun v43 => some (.inl v43, S15)) else ((rc S15 (some this) 0).bind fun o53 => (X1_deeper G n S15 o53 v2 v20).bind fun v53 => some (.inl v53, S15)))
noncomputable def X1_why (G : jG) (n : Nat) (σ : jH) (this : Nat) (a1 : Int32) (a2 : Int32) : Option (jTh Int32 × jH) := jck σ (X1_why_b G n σ this a1 a2)
set_option maxHeartbeats 4000000 in
set_option maxRecDepth 100000 in
theorem ct_X1_why (l : Launch) (hfl : l.stackTraces = false) (G : jG) (n : Nat) (σ : jH) (this : Nat) (a1 : Int32) (a2 : Int32) : jTt l G yX1_why (ws_ yX1_why cX1_why 5 (some .int)) 24 1286 jrI [.ref this, .int a1, .int a2] σ (X1_why G n σ this a1 a2) := by
  refine jTt.wr (lv := [(0, .ref this), (1, .int a1), (2, .int a2)]) rfl (Nat.le_of_ble_eq_true rfl) rfl ?_
  intro t p e s m args below meth c ls X hr hnm hout hl
  have X : jCx p c cX1_why 5 s m args RX1 G meth := X
  unfold X1_why_b
  refine J.pu (fun _ _ _ _ k => lv_aload_n X.1.1 X.1.2.1 dX1_why_0 rfl (lv_at hl 0 rfl) k) ?_
  refine J.pu (fun _ _ _ _ k => lv_iload_n X.1.1 X.1.2.1 dX1_why_1 rfl (lv_at hl 1 rfl) k) ?_
  refine J.bind (fun o2 g2 => ?_)
  refine J.tV (q := (RX1, TX1, 9)) (ci := 0) (As := [.int a1]) (rest := []) X hout ⟨rfl, rfl⟩ (ct_X1_parcelAt l hfl G n σ o2 a1) (fun _ _ => cwV 1 X.1.2.2.2.2 (lw_V q2454 q2456 qs47 q138 q2457) rfl rfl rfl (by decide +kernel) ⟨(Nat.le_of_ble_eq_true rfl), (Nat.le_of_ble_eq_true rfl)⟩) g2 rfl rfl hl.1 rfl (Nat.le_of_ble_eq_true rfl) dX1_why_2 (fun v2 S2 h2 => ?_)
  refine J.geq (g2 := F0 m 5 ls [va_rf v2]) rfl ?_
  refine J.astore_n (r := v2) (i := 3) (lv' := [(3, va_rf v2), (0, .ref this), (1, .int a1), (2, .int a2)]) X.1.1 X.1.2.1 dX1_why_5 rfl hl (by decide) (by first | rfl | simp [va_rf_cat, jcI, jcA, jcJ, jcD, jcF]) (fun ls hl => ?_)
  refine J.pu (fun _ _ _ _ k => lv_iload_n X.1.1 X.1.2.1 dX1_why_6 rfl (lv_at hl 3 rfl) k) ?_
  refine J.pu (fun _ _ _ _ k => lv_i2l (v := a2.toInt64) X.1.1 X.1.2.1 dX1_why_7 rfl k) ?_
  refine J.pu (fun _ _ _ _ k => lv_lconst (v := 0) X.1.1 X.1.2.1 dX1_why_8 (by decide) k) ?_
  refine J.pu (fun _ _ _ _ k => lv_ldc2 (v := 2) X.1.1 X.1.2.1 X.1.2.2.2.1 (X.1.2.2.2.2 _ q2529) dX1_why_9 k) ?_
  refine J.bind (fun v12 h12 => ?_)
  refine J.cS (As := [.long a2.toInt64, .long 0, .long 2]) (rest := []) (s2 := [.int v12]) X ⟨rfl, rfl⟩ (ct_X1_isIn l G n S2 a2.toInt64 0 2) (jrd_of h12) (fun _ _ => va_cwS 3 X.1.2.2.2.2 (lw_S q1365 q1366 q138 q1367) rfl rfl rfl (by decide +kernel) ⟨(Nat.le_of_ble_eq_true rfl), (Nat.le_of_ble_eq_true rfl)⟩) rfl hl.1 rfl rfl (Nat.le_of_ble_eq_true rfl) dX1_why_12 ?_
  refine J.tS (As := [.int v12]) (rest := []) X hout ⟨rfl, rfl⟩ (ct_X1_checkArgument l hfl G n S2 v12) (fun _ _ => va_cwS 1 X.1.2.2.2.2 (lw_S q2414 q2415 q138 q2416) rfl rfl rfl (by decide +kernel) ⟨(Nat.le_of_ble_eq_true rfl), (Nat.le_of_ble_eq_true rfl)⟩) rfl hl.1 rfl (Nat.le_of_ble_eq_true rfl) dX1_why_15 (fun v15 S15 h15 => ?_)
  refine J.geq (g2 := F0 m 18 ls []) rfl ?_
  refine J.pu (fun _ _ _ _ k => lv_aload_n X.1.1 X.1.2.1 dX1_why_18 rfl (lv_at hl 1 rfl) k) ?_
  refine J.pu (fun _ _ _ _ k => W.rload_n X.1.1 X.1.2.1 dX1_why_19 rfl (lv_at hl 0 rfl) k) ?_
  refine J.bind (fun o20 g20 => ?_)
  refine J.bind (fun v20 h20 => ?_)
  refine J.cV (q := (RX1, TX1, 9)) (ci := 0) (As := [va_rf v2]) (rest := []) (s2 := [.int v20]) X ⟨rfl, rfl⟩ (ct_X1_reason l G n S15 o20 v2) (jrd_of h20) (fun _ _ => cwV 1 X.1.2.2.2.2 (lw_V q2530 q2532 qs52 q138 q2533) rfl rfl rfl (by decide +kernel) ⟨(Nat.le_of_ble_eq_true rfl), (Nat.le_of_ble_eq_true rfl)⟩) g20 rfl rfl hl.1 rfl rfl (Nat.le_of_ble_eq_true rfl) dX1_why_20 ?_
  refine J.istore (lv' := [(4, .int v20), (3, va_rf v2), (0, .ref this), (1, .int a1), (2, .int a2)]) X.1.1 X.1.2.1 dX1_why_23 hl (by decide) (by first | rfl | simp [va_rf_cat, jcI, jcA, jcJ, jcD, jcF]) (fun ls hl => ?_)
  refine J.pu (fun _ _ _ _ k => lv_iload_n X.1.1 X.1.2.1 dX1_why_25 rfl (lv_at hl 4 rfl) k) ?_
  refine J.br (fun _ _ _ _ ka kb => lv_if_ne (tgt := 34) X.1.1 X.1.2.1 dX1_why_26 (by decide) kb ka) (fun c26 => ?_) (fun c26 => ?_)
  · refine J.pu (fun _ _ _ _ k => lv_iload X.1.1 X.1.2.1 dX1_why_29 (lv_at hl 0 rfl) k) ?_
    refine J.pu (fun _ _ _ _ k => lv_goto (tgt := 56) X.1.1 X.1.2.1 dX1_why_31 (by decide) k) ?_
    exact J.tret (J.iret (vr := fun t : Int32 × jH => jrI t.1) (fin := (Prod.snd : Int32 × jH → jH)) (t := (v20, S15)) X hr (by rfl) (by rfl) dX1_why_56)
  · refine J.pu (fun _ _ _ _ k => lv_iload_n X.1.1 X.1.2.1 dX1_why_34 rfl (lv_at hl 4 rfl) k) ?_
    refine J.pu (fun _ _ _ _ k => lv_iconst (v := 1) X.1.1 X.1.2.1 dX1_why_35 (by decide) k) ?_
    refine J.br (fun _ _ _ _ ka kb => lv_icmp_ne (tgt := 49) X.1.1 X.1.2.1 dX1_why_36 (by decide) kb ka) (fun c36 => ?_) (fun c36 => ?_)
    · refine J.pu (fun _ _ _ _ k => lv_aload_n X.1.1 X.1.2.1 dX1_why_39 rfl (lv_at hl 2 rfl) k) ?_
      refine J.pu (fun _ _ _ _ k => W.rload_n X.1.1 X.1.2.1 dX1_why_40 rfl (lv_at hl 1 rfl) k) ?_
      refine J.pu (fun _ _ _ _ k => lv_iload X.1.1 X.1.2.1 dX1_why_41 (lv_at hl 0 rfl) k) ?_
      refine J.bind (fun o43 g43 => ?_)
      refine J.bind (fun v43 h43 => ?_)
      refine J.cV (q := (RX1, TX1, 9)) (ci := 0) (As := [va_rf v2, .int v20]) (rest := []) (s2 := [.int v43]) X ⟨rfl, rfl⟩ (ct_X1_cause l G n S15 o43 v2 v20) (jrd_of h43) (fun _ _ => cwV 2 X.1.2.2.2.2 (lw_V q2539 q2541 qs53 q138 q2542) rfl rfl rfl (by decide +kernel) ⟨(Nat.le_of_ble_eq_true rfl), (Nat.le_of_ble_eq_true rfl)⟩) g43 rfl rfl hl.1 rfl rfl (Nat.le_of_ble_eq_true rfl) dX1_why_43 ?_
      refine J.pu (fun _ _ _ _ k => lv_goto (tgt := 56) X.1.1 X.1.2.1 dX1_why_46 (by decide) k) ?_
      exact J.tret (J.iret (vr := fun t : Int32 × jH => jrI t.1) (fin := (Prod.snd : Int32 × jH → jH)) (t := (v43, S15)) X hr (by rfl) (by rfl) dX1_why_56)
    · refine J.pu (fun _ _ _ _ k => lv_aload_n X.1.1 X.1.2.1 dX1_why_49 rfl (lv_at hl 2 rfl) k) ?_
      refine J.pu (fun _ _ _ _ k => W.rload_n X.1.1 X.1.2.1 dX1_why_50 rfl (lv_at hl 1 rfl) k) ?_
      refine J.pu (fun _ _ _ _ k => lv_iload X.1.1 X.1.2.1 dX1_why_51 (lv_at hl 0 rfl) k) ?_
      refine J.bind (fun o53 g53 => ?_)
      refine J.bind (fun v53 h53 => ?_)
      refine J.cV (q := (RX1, TX1, 9)) (ci := 0) (As := [va_rf v2, .int v20]) (rest := []) (s2 := [.int v53]) X ⟨rfl, rfl⟩ (ct_X1_deeper l G n S15 o53 v2 v20) (jrd_of h53) (fun _ _ => cwV 2 X.1.2.2.2.2 (lw_V q2544 q2546 qs54 q138 q2547) rfl rfl rfl (by decide +kernel) ⟨(Nat.le_of_ble_eq_true rfl), (Nat.le_of_ble_eq_true rfl)⟩) g53 rfl rfl hl.1 rfl rfl (Nat.le_of_ble_eq_true rfl) dX1_why_53 ?_
      exact J.tret (J.iret (vr := fun t : Int32 × jH => jrI t.1) (fin := (Prod.snd : Int32 × jH → jH)) (t := (v53, S15)) X hr (by rfl) (by rfl) dX1_why_56)
noncomputable def X10_init_b (G : jG) (n : Nat) (σ : jH) (this : Nat) (a1 : Option Nat) : Option (Unit × jH) :=
  (pR G σ (some this) 7 7 a1).bind fun S2 => bd (X7_init_X10 G n S2 this a1) fun v7 S7 => bd (nO S7 15 [.int 0, .null, .int 0] 3) fun v11 S11 => bd (jck S11 (alInitI G S11 v11 30)) fun v17 S17 => (pR G S17 (some this) 7 6 (some v11)).bind fun S20 => some ((), S20)
noncomputable def X10_init (G : jG) (n : Nat) (σ : jH) (this : Nat) (a1 : Option Nat) : Option (Unit × jH) := jck σ (X10_init_b G n σ this a1)
set_option maxHeartbeats 4000000 in
set_option maxRecDepth 100000 in
theorem ct_X10_init (l : Launch) (G : jG) (n : Nat) (σ : jH) (this : Nat) (a1 : Option Nat) : jCt l G yX10_init (ws_ yX10_init cX10_init 2 none) 24 1287 jrV [.ref this, va_rf a1] σ (X10_init G n σ this a1) := by
  refine jCt.wr (lv := [(0, .ref this), (1, va_rf a1)]) (plainFor_of_name (by decide)) (by simp [lg_sl, va_rf_cat, jcI, jcA, jcJ, jcD, jcF]) (by simp [lv_args, va_rf_cat, jcI, jcA, jcJ, jcD, jcF]) ?_
  intro t p e s m args below meth c ls X hr hnm hl
  have X : jCx p c cX10_init 2 s m args RX10 G meth := X
  unfold X10_init_b
  refine J.pu (fun _ _ _ _ k => lv_aload_n X.1.1 X.1.2.1 dX10_init_0 rfl (lv_at hl 0 rfl) k) ?_
  refine J.pu (fun _ _ _ _ k => W.rload_n X.1.1 X.1.2.1 dX10_init_1 rfl (lv_at hl 1 rfl) k) ?_
  refine J.putRF (k := 7) (ci := 7) X hnm in_X10 (show jCl[7]? = some (RX10, TX10, 8) from rfl) tyX10_ok jap_X10 (by decide) q1769 (fun _ h => h) rfl rfl (Or.inl ⟨_, rfl⟩) dX10_init_2 (fun S2 h2 => ?_)
  refine J.pu (fun _ _ _ _ k => lv_aload_n X.1.1 X.1.2.1 dX10_init_5 rfl (lv_at hl 0 rfl) k) ?_
  refine J.pu (fun _ _ _ _ k => W.rload_n X.1.1 X.1.2.1 dX10_init_6 rfl (lv_at hl 1 rfl) k) ?_
  refine J.bd' (fun v7 S7 h7 => ?_)
  refine J.cI (a := this) (As := [va_rf a1]) (rest := []) (s2 := []) X ⟨rfl, rfl⟩ (ct_X7_init_X10 l G n S2 this a1) h7 (fun _ _ => jcwI 1 X.1.2.2.2.2 q1765 q1383 q175 q1384 rfl rfl rfl (by decide +kernel) ⟨(Nat.le_of_ble_eq_true rfl), (Nat.le_of_ble_eq_true rfl)⟩) rfl hl.1 rfl rfl (Nat.le_of_ble_eq_true rfl) dX10_init_7 ?_
  refine J.pu (fun _ _ _ _ k => lv_aload_n X.1.1 X.1.2.1 dX10_init_10 rfl (lv_at hl 0 rfl) k) ?_
  refine J.nO' (fs := [.int 0, .null, .int 0]) X ⟨rfl, rfl⟩ in_J2 (show jCl[15]? = some (RJ2, TJ2, 3) from rfl) tyJ2 tyJ2_ok q1766 q211 q142 rfl dX10_init_11 (fun v11 S11 h11 => ?_)
  refine J.pu (fun _ _ _ _ k => lv_dup X.1.1 X.1.2.1 dX10_init_14 rfl k) ?_
  refine J.pu (fun _ _ _ _ k => lv_bipush (v := 30) X.1.1 X.1.2.1 dX10_init_15 (by decide) k) ?_
  refine J.bd' (fun v17 S17 h17 => ?_)
  refine J.cI (a := v11) (As := [.int 30]) (rest := [.ref v11, .ref this]) (s2 := [.ref v11, .ref this]) X ⟨rfl, rfl⟩ (ct_J2_init l G S11 v11 30) h17 (fun _ _ => jcwI 1 X.1.2.2.2.2 q1767 q213 q142 q214 rfl rfl rfl (by decide +kernel) ⟨(Nat.le_of_ble_eq_true rfl), (Nat.le_of_ble_eq_true rfl)⟩) rfl hl.1 rfl rfl (Nat.le_of_ble_eq_true rfl) dX10_init_17 ?_
  refine J.putRF (k := 6) (ci := 7) X hnm in_X10 (show jCl[7]? = some (RX10, TX10, 8) from rfl) tyX10_ok jap_X10 (by decide) q1768 (fun _ h => h) rfl rfl (Or.inl ⟨_, rfl⟩) dX10_init_20 (fun S20 h20 => ?_)
  exact J.vret (vr := fun t : Unit × jH => jrV t.1) (fin := Prod.snd) (t := t) X hr (by rfl) (by rfl) dX10_init_23
noncomputable def X10_chute_b (G : jG) (n : Nat) (σ : jH) (this : Nat) : Option (jTh Int32 × jH) :=
  (gR σ (some this) 7 7).bind fun v3 => (gR σ v3 0 4).bind fun v6 => (gR σ v6 1 3).bind fun v9 => (rc σ v9 15).bind fun o12 => (lSize 0 σ o12).bind fun v12 => (rc σ (some this) 7).bind fun o19 => tb (X7_number_X10 G n σ o19 0 (v12 - 1)) fun v19 S19 => some (.inl v19, S19)
noncomputable def X10_chute (G : jG) (n : Nat) (σ : jH) (this : Nat) : Option (jTh Int32 × jH) := jck σ (X10_chute_b G n σ this)
set_option maxHeartbeats 4000000 in
set_option maxRecDepth 100000 in
theorem ct_X10_chute (l : Launch) (hfl : l.stackTraces = false) (G : jG) (n : Nat) (σ : jH) (this : Nat) : jTt l G yX10_chute (ws_ yX10_chute cX10_chute 1 (some .int)) 24 1289 jrI [.ref this] σ (X10_chute G n σ this) := by
  refine jTt.wr (lv := [(0, .ref this)]) rfl (Nat.le_of_ble_eq_true rfl) rfl ?_
  intro t p e s m args below meth c ls X hr hnm hout hl
  have X : jCx p c cX10_chute 1 s m args RX10 G meth := X
  unfold X10_chute_b
  refine J.pu (fun _ _ _ _ k => lv_aload_n X.1.1 X.1.2.1 dX10_chute_0 rfl (lv_at hl 0 rfl) k) ?_
  refine J.pu (fun _ _ _ _ k => lv_iconst (v := 0) X.1.1 X.1.2.1 dX10_chute_1 (by decide) k) ?_
  refine J.pu (fun _ _ _ _ k => lv_aload_n X.1.1 X.1.2.1 dX10_chute_2 rfl (lv_at hl 0 rfl) k) ?_
  refine J.getR (k := 7) (ci := 7) X in_X10 (show jCl[7]? = some (RX10, TX10, 8) from rfl) (by decide) q1769 (fun _ h => h) dX10_chute_3 (fun v3 h3 => ?_)
  refine J.getRN (k := 4) (ci := 0) X in_X1 (show jCl[0]? = some (RX1, TX1, 9) from rfl) (by decide) jnf55 (fun _ h => h) dX10_chute_6 (fun v6 h6 => ?_)
  refine J.getRN (k := 3) (ci := 1) X in_X2 (show jCl[1]? = some (RX2, TX2, 9) from rfl) (by decide) jnf6 (fun _ h => h) dX10_chute_9 (fun v9 h9 => ?_)
  refine J.bind (fun o12 g12 => ?_)
  refine J.bind (fun v12 h12 => ?_)
  refine J.cF (q := (RJ2, TJ2, 3)) (ci := 15) (As := []) (rest := [.int 0, .ref this]) (s2 := [.int v12, .int 0, .ref this]) X ⟨rfl, rfl⟩ (ct_J2_size l G σ o12) (jrd_of h12) (fun _ _ => va_cwF 0 X.1.2.2.2.2 (lw_F q1809 q832 q834 q142 q836) rfl rfl rfl (jfw2 X.2.1) (by decide +kernel) ⟨(Nat.le_of_ble_eq_true rfl), (Nat.le_of_ble_eq_true rfl)⟩) g12 rfl rfl hl.1 rfl rfl (Nat.le_of_ble_eq_true rfl) dX10_chute_12 ?_
  refine J.pu (fun _ _ _ _ k => lv_iconst (v := 1) X.1.1 X.1.2.1 dX10_chute_17 (by decide) k) ?_
  refine J.pu (fun _ _ _ _ k => lv_isub X.1.1 X.1.2.1 dX10_chute_18 k) ?_
  refine J.bind (fun o19 g19 => ?_)
  refine J.tU (q := (RX10, TX10, 8)) (ci := 7) (As := [.int 0, .int (v12 - 1)]) (rest := []) X hout ⟨rfl, rfl⟩ (ct_X7_number_X10 l hfl G n σ o19 0 (v12 - 1)) (fun _ _ => va_cwU 2 X.1.2.2.2.2 (lw_U q1825 q1826 q1827 q1607 q175 q1608) rfl rfl rfl rfl (by decide +kernel) ⟨(Nat.le_of_ble_eq_true rfl), (Nat.le_of_ble_eq_true rfl)⟩) g19 rfl rfl hl.1 rfl (Nat.le_of_ble_eq_true rfl) dX10_chute_19 (fun v19 S19 h19 => ?_)
  refine J.geq (g2 := F0 m 22 ls [.int v19]) rfl ?_
  exact J.tret (J.iret (vr := fun t : Int32 × jH => jrI t.1) (fin := (Prod.snd : Int32 × jH → jH)) (t := (v19, S19)) X hr (by rfl) (by rfl) dX10_chute_22)
noncomputable def X10_window_b (G : jG) (n : Nat) (σ : jH) (this : Nat) : Option (jTh (Option Nat) × jH) :=
  (rc σ (some this) 7).bind fun o1 => tb (X10_chute G n σ o1) fun v1 S1 => bd (nO S1 14 [.int 0, .int 0] 2) fun v5 S5 => bd (nI' S5 0 2) fun v10 S10 => (sI G S10 (some v10) 0 0 v1).bind fun S15 => (rc S15 (some this) 7).bind fun o21 => tb (X7_number_X10 G n S15 o21 0 3) fun v21 S21 => (sI G S21 (some v10) 0 1 v21).bind fun S24 => bd (X17_init G n S24 v5 (some v10)) fun v25 S25 => some (.inl (some v5), S25)
noncomputable def X10_window (G : jG) (n : Nat) (σ : jH) (this : Nat) : Option (jTh (Option Nat) × jH) := jck σ (X10_window_b G n σ this)
set_option maxHeartbeats 4000000 in
set_option maxRecDepth 100000 in
theorem ct_X10_window (l : Launch) (hfl : l.stackTraces = false) (G : jG) (n : Nat) (σ : jH) (this : Nat) : jTt l G yX10_window (ws_ yX10_window cX10_window 2 (some (.object "SortingLoop$Deed"))) 25 1309 jrR [.ref this] σ (X10_window G n σ this) := by
  refine jTt.wr (lv := [(0, .ref this)]) rfl (Nat.le_of_ble_eq_true rfl) rfl ?_
  intro t p e s m args below meth c ls X hr hnm hout hl
  have X : jCx p c cX10_window 2 s m args RX10 G meth := X
  unfold X10_window_b
  refine J.pu (fun _ _ _ _ k => lv_aload_n X.1.1 X.1.2.1 dX10_window_0 rfl (lv_at hl 0 rfl) k) ?_
  refine J.bind (fun o1 g1 => ?_)
  refine J.tV (q := (RX10, TX10, 8)) (ci := 7) (As := []) (rest := []) X hout ⟨rfl, rfl⟩ (ct_X10_chute l hfl G n σ o1) (fun _ _ => cwV 0 X.1.2.2.2.2 (lw_V q1821 q1823 qs26 q182 q1824) rfl rfl rfl (by decide +kernel) ⟨(Nat.le_of_ble_eq_true rfl), (Nat.le_of_ble_eq_true rfl)⟩) g1 rfl rfl hl.1 rfl (Nat.le_of_ble_eq_true rfl) dX10_window_1 (fun v1 S1 h1 => ?_)
  refine J.geq (g2 := F0 m 4 ls [.int v1]) rfl ?_
  refine J.istore_n (i := 1) (lv' := [(1, .int v1), (0, .ref this)]) X.1.1 X.1.2.1 dX10_window_4 rfl hl (by decide) (by first | rfl | simp [va_rf_cat, jcI, jcA, jcJ, jcD, jcF]) (fun ls hl => ?_)
  refine J.nO' (fs := [.int 0, .int 0]) X ⟨rfl, rfl⟩ in_X17 (show jCl[14]? = some (RX17, TX17, 2) from rfl) tyX17 tyX17_ok q1884 q1885 q189 rfl dX10_window_5 (fun v5 S5 h5 => ?_)
  refine J.pu (fun _ _ _ _ k => lv_dup X.1.1 X.1.2.1 dX10_window_8 rfl k) ?_
  refine J.pu (fun _ _ _ _ k => lv_iconst (v := 2) X.1.1 X.1.2.1 dX10_window_9 (by decide) k) ?_
  refine J.nI0 X ⟨rfl, rfl⟩ dX10_window_10 (fun v10 S10 h10 => ?_)
  refine J.pu (fun _ _ _ _ k => lv_dup X.1.1 X.1.2.1 dX10_window_12 rfl k) ?_
  refine J.pu (fun _ _ _ _ k => lv_iconst (v := 0) X.1.1 X.1.2.1 dX10_window_13 (by decide) k) ?_
  refine J.pu (fun _ _ _ _ k => lv_iload_n X.1.1 X.1.2.1 dX10_window_14 rfl (lv_at hl 0 rfl) k) ?_
  refine J.sI0 X dX10_window_15 (fun S15 h15 => ?_)
  refine J.pu (fun _ _ _ _ k => lv_dup X.1.1 X.1.2.1 dX10_window_16 rfl k) ?_
  refine J.pu (fun _ _ _ _ k => lv_iconst (v := 1) X.1.1 X.1.2.1 dX10_window_17 (by decide) k) ?_
  refine J.pu (fun _ _ _ _ k => lv_aload_n X.1.1 X.1.2.1 dX10_window_18 rfl (lv_at hl 1 rfl) k) ?_
  refine J.pu (fun _ _ _ _ k => lv_iconst (v := 0) X.1.1 X.1.2.1 dX10_window_19 (by decide) k) ?_
  refine J.pu (fun _ _ _ _ k => lv_iconst (v := 3) X.1.1 X.1.2.1 dX10_window_20 (by decide) k) ?_
  refine J.bind (fun o21 g21 => ?_)
  refine J.tU (q := (RX10, TX10, 8)) (ci := 7) (As := [.int 0, .int 3]) (rest := [.int 1, .ref v10, .ref v10, .ref v5, .ref v5]) X hout ⟨rfl, rfl⟩ (ct_X7_number_X10 l hfl G n S15 o21 0 3) (fun _ _ => va_cwU 2 X.1.2.2.2.2 (lw_U q1825 q1826 q1827 q1607 q175 q1608) rfl rfl rfl rfl (by decide +kernel) ⟨(Nat.le_of_ble_eq_true rfl), (Nat.le_of_ble_eq_true rfl)⟩) g21 rfl rfl hl.1 rfl (Nat.le_of_ble_eq_true rfl) dX10_window_21 (fun v21 S21 h21 => ?_)
  refine J.geq (g2 := F0 m 24 ls [.int v21, .int 1, .ref v10, .ref v10, .ref v5, .ref v5]) rfl ?_
  refine J.sI0 X dX10_window_24 (fun S24 h24 => ?_)
  refine J.bd' (fun v25 S25 h25 => ?_)
  refine J.cI (a := v5) (As := [.ref v10]) (rest := [.ref v5]) (s2 := [.ref v5]) X ⟨rfl, rfl⟩ (ct_X17_init l G n S24 v5 (some v10)) h25 (fun _ _ => jcwI 1 X.1.2.2.2.2 q1886 q1887 q189 q1888 rfl rfl rfl (by decide +kernel) ⟨(Nat.le_of_ble_eq_true rfl), (Nat.le_of_ble_eq_true rfl)⟩) rfl hl.1 rfl rfl (Nat.le_of_ble_eq_true rfl) dX10_window_25 ?_
  exact J.tret (J.aret (vr := fun t : (Option Nat) × jH => jrR t.1) (fin := (Prod.snd : (Option Nat) × jH → jH)) (t := ((some v5), S25)) X hr (Or.inl ⟨_, rfl⟩) (by rfl) (by rfl) dX10_window_28)
noncomputable def X2_twin_h46 (G : jG) (n : Nat) (this : Nat) (x1_46 : Option Nat) (rec46 : Int32 × jH → Option ((Option Nat) × jH)) (q46 : Int32 × jH) : Option ((Option Nat) × jH) :=
  let x2_46 := q46.1; let B46 := q46.2; (gR B46 (some this) 1 3).bind fun v48 => (rc B46 v48 15).bind fun o51 => (lSize 0 B46 o51).bind fun v51 => if v51 ≤ x2_46 then ((rc B46 x1_46 1).bind fun o89 => bd (X2_takes G n B46 o89 (some this)) fun v89 S89 => some (v89, S89)) else ((gR B46 x1_46 1 3).bind fun v60 => bd (nO B46 3 [.int 0, .int 0, .int 0, .int 0, .null, .int 0, .int 0, .int 0, .int 0] 9) fun v63 S63 => (rc S63 (some this) 1).bind fun o69 => (X2_chute G n S63 o69 x2_46).bind fun v69 => bd (X4_init_2 G n S63 v63 v69) fun v72 S72 => (rc S72 v60 15).bind fun o75 => bd (jck S72 (alAdd G S72 o75 (some v63))) fun v75 S75 => rec46 ((x2_46 + 1), S75))
noncomputable def X2_twin_h18 (G : jG) (n : Nat) (this : Nat) (x1_18 : Option Nat) (rec18 : Int32 × jH → Option ((Option Nat) × jH)) (q18 : Int32 × jH) : Option ((Option Nat) × jH) :=
  let x2_18 := q18.1; let B18 := q18.2; (gI B18 (some this) 1 0).bind fun v20 => if v20 ≤ x2_18 then (jloop (X2_twin_h46 G n this x1_18) n (0, B18)) else ((gR B18 x1_18 1 2).bind fun v27 => (gR B18 (some this) 1 2).bind fun v32 => (aI B18 v32 2 x2_18).bind fun v36 => (sI G B18 v27 2 x2_18 v36).bind fun S37 => rec18 ((x2_18 + 1), S37))
noncomputable def X2_twin_b (G : jG) (n : Nat) (σ : jH) (this : Nat) : Option ((Option Nat) × jH) :=
  bd (nO σ 1 [.int 0, .int 0, .null, .null, .null, .null, .null, .int 0, .int 0] 9) fun v0 S0 => (gI S0 (some this) 1 0).bind fun v5 => (gI S0 (some this) 1 1).bind fun v9 => bd (X2_init G n S0 v0 v5 v9) fun v12 S12 => jloop (X2_twin_h18 G n this (some v0)) n (0, S12)
noncomputable def X2_twin (G : jG) (n : Nat) (σ : jH) (this : Nat) : Option ((Option Nat) × jH) := jck σ (X2_twin_b G n σ this)
set_option maxHeartbeats 4000000 in
set_option maxRecDepth 100000 in
theorem ct_X2_twin (l : Launch) (G : jG) (n : Nat) (σ : jH) (this : Nat) : jCt l G yX2_twin (ws_ yX2_twin cX2_twin 3 (some (.object "SortingLoop$Loop"))) 24 1290 jrR [.ref this] σ (X2_twin G n σ this) := by
  refine jCt.wr (lv := [(0, .ref this)]) (plainFor_of_name (by decide)) (Nat.le_of_ble_eq_true rfl) rfl ?_
  intro t p e s m args below meth c ls X hr hnm hl
  have X : jCx p c cX2_twin 3 s m args RX2 G meth := X
  have L46 : ∀ (x1_46 : Option Nat) (n46 : Nat) (x2_46 : Int32) (B46 : jH) (ls : Array Slot), lv_has ls 3 [(0, .ref this), (1, va_rf x1_46), (2, .int x2_46)] → jGo l G 24 1290 σ (Prod.snd : (Option Nat) × jH → jH) (fun t => jrR t.1) t p e s m args below meth c (jloop (X2_twin_h46 G n this x1_46) n46 (x2_46, B46)) B46 (F0 m 46 ls []) := by
    intro x1_46
    intro n46
    induction n46 with
    | zero => intro x2_46 B46 ls hl; exact J.nil_
    | succ n46 ih46 =>
      intro x2_46 B46 ls hl
      refine J.eq (jloop_s _ _ _) ?_
      dsimp only [X2_twin_h46]
      refine J.pu (fun _ _ _ _ k => lv_iload_n X.1.1 X.1.2.1 dX2_twin_46 rfl (lv_at hl 2 rfl) k) ?_
      refine J.pu (fun _ _ _ _ k => lv_aload_n X.1.1 X.1.2.1 dX2_twin_47 rfl (lv_at hl 0 rfl) k) ?_
      refine J.getR (k := 3) (ci := 1) X in_X2 (show jCl[1]? = some (RX2, TX2, 9) from rfl) (by decide) q692 (fun _ h => h) dX2_twin_48 (fun v48 h48 => ?_)
      refine J.bind (fun o51 g51 => ?_)
      refine J.bind (fun v51 h51 => ?_)
      refine J.cF (q := (RJ2, TJ2, 3)) (ci := 15) (As := []) (rest := [.int x2_46]) (s2 := [.int v51, .int x2_46]) X ⟨rfl, rfl⟩ (ct_J2_size l G B46 o51) (jrd_of h51) (fun _ _ => va_cwF 0 X.1.2.2.2.2 (lw_F q829 q832 q834 q142 q836) rfl rfl rfl (jfw2 X.2.1) (by decide +kernel) ⟨(Nat.le_of_ble_eq_true rfl), (Nat.le_of_ble_eq_true rfl)⟩) g51 rfl rfl hl.1 rfl rfl (Nat.le_of_ble_eq_true rfl) dX2_twin_51 ?_
      refine J.br (fun _ _ _ _ ka kb => lv_icmp_ge (tgt := 87) X.1.1 X.1.2.1 dX2_twin_56 (by decide) ka kb) (fun c56 => ?_) (fun c56 => ?_)
      · refine J.pu (fun _ _ _ _ k => W.rload_n X.1.1 X.1.2.1 dX2_twin_87 rfl (lv_at hl 1 rfl) k) ?_
        refine J.pu (fun _ _ _ _ k => lv_aload_n X.1.1 X.1.2.1 dX2_twin_88 rfl (lv_at hl 0 rfl) k) ?_
        refine J.bind (fun o89 g89 => ?_)
        refine J.bd' (fun v89 S89 h89 => ?_)
        refine J.cV (q := (RX2, TX2, 9)) (ci := 1) (As := [.ref this]) (rest := []) (s2 := [va_rf v89]) X ⟨rfl, rfl⟩ (ct_X2_takes l G n B46 o89 (some this)) h89 (fun _ _ => cwV 1 X.1.2.2.2.2 (lw_V q915 q916 q917 q139 q918) rfl rfl rfl (by decide +kernel) ⟨(Nat.le_of_ble_eq_true rfl), (Nat.le_of_ble_eq_true rfl)⟩) g89 rfl rfl hl.1 rfl rfl (Nat.le_of_ble_eq_true rfl) dX2_twin_89 ?_
        exact J.aret (vr := fun t : (Option Nat) × jH => jrR t.1) (fin := Prod.snd) (t := t) X hr (Or.inl ⟨_, rfl⟩) (by rfl) (by rfl) dX2_twin_92
      · refine J.pu (fun _ _ _ _ k => W.rload_n X.1.1 X.1.2.1 dX2_twin_59 rfl (lv_at hl 1 rfl) k) ?_
        refine J.getR (k := 3) (ci := 1) X in_X2 (show jCl[1]? = some (RX2, TX2, 9) from rfl) (by decide) q692 (fun _ h => h) dX2_twin_60 (fun v60 h60 => ?_)
        refine J.nO' (fs := [.int 0, .int 0, .int 0, .int 0, .null, .int 0, .int 0, .int 0, .int 0]) X ⟨rfl, rfl⟩ in_X4 (show jCl[3]? = some (RX4, TX4, 9) from rfl) tyX4 tyX4_ok q842 q729 q161 rfl dX2_twin_63 (fun v63 S63 h63 => ?_)
        refine J.pu (fun _ _ _ _ k => lv_dup X.1.1 X.1.2.1 dX2_twin_66 rfl k) ?_
        refine J.pu (fun _ _ _ _ k => lv_aload_n X.1.1 X.1.2.1 dX2_twin_67 rfl (lv_at hl 0 rfl) k) ?_
        refine J.pu (fun _ _ _ _ k => lv_iload_n X.1.1 X.1.2.1 dX2_twin_68 rfl (lv_at hl 2 rfl) k) ?_
        refine J.bind (fun o69 g69 => ?_)
        refine J.bind (fun v69 h69 => ?_)
        refine J.cV (q := (RX2, TX2, 9)) (ci := 1) (As := [.int x2_46]) (rest := [.ref v63, .ref v63, va_rf v60]) (s2 := [va_rf v69, .ref v63, .ref v63, va_rf v60]) X ⟨rfl, rfl⟩ (ct_X2_chute l G n S63 o69 x2_46) (jrd_of h69) (fun _ _ => cwV 1 X.1.2.2.2.2 (lw_V q843 q844 q845 q139 q846) rfl rfl rfl (by decide +kernel) ⟨(Nat.le_of_ble_eq_true rfl), (Nat.le_of_ble_eq_true rfl)⟩) g69 rfl rfl hl.1 rfl rfl (by simp [va_rf_cat, jcI, jcA, jcJ, jcD, jcF]) dX2_twin_69 ?_
        refine J.bd' (fun v72 S72 h72 => ?_)
        refine J.cI (a := v63) (As := [va_rf v69]) (rest := [.ref v63, va_rf v60]) (s2 := [.ref v63, va_rf v60]) X ⟨rfl, rfl⟩ (ct_X4_init_2 l G n S63 v63 v69) h72 (fun _ _ => jcwI 1 X.1.2.2.2.2 q909 q910 q161 q911 rfl rfl rfl (by decide +kernel) ⟨(Nat.le_of_ble_eq_true rfl), (Nat.le_of_ble_eq_true rfl)⟩) rfl hl.1 rfl rfl (by simp [va_rf_cat, jcI, jcA, jcJ, jcD, jcF]) dX2_twin_72 ?_
        refine J.bind (fun o75 g75 => ?_)
        refine J.bd' (fun v75 S75 h75 => ?_)
        refine J.cF (q := (RJ2, TJ2, 3)) (ci := 15) (As := [.ref v63]) (rest := []) (s2 := [.int v75]) X ⟨rfl, rfl⟩ (ct_J2_add l G S72 o75 (some v63)) h75 (fun _ _ => va_cwF 1 X.1.2.2.2.2 (lw_F q914 q582 q584 q142 q586) rfl rfl rfl (jfw0 X.2.1) (by decide +kernel) ⟨(Nat.le_of_ble_eq_true rfl), (Nat.le_of_ble_eq_true rfl)⟩) g75 rfl rfl hl.1 rfl rfl (Nat.le_of_ble_eq_true rfl) dX2_twin_75 ?_
        refine J.pu (fun _ _ _ _ k => lv_pop X.1.1 X.1.2.1 dX2_twin_80 rfl k) ?_
        refine J.iinc (k := 2) (lv' := [(2, .int (x2_46 + 1)), (0, .ref this), (1, va_rf x1_46)]) (w := (x2_46 + 1)) X.1.1 X.1.2.1 dX2_twin_81 hl rfl rfl (by decide) (by first | rfl | simp [va_rf_cat, jcI, jcA, jcJ, jcD, jcF]) (fun ls hl => ?_)
        refine J.pu (fun _ _ _ _ k => lv_goto (tgt := 46) X.1.1 X.1.2.1 dX2_twin_84 (by decide) k) ?_
        exact ih46 (x2_46 + 1) S75 ls (lv_sub hl [1, 2, 0] rfl)
  have L18 : ∀ (x1_18 : Option Nat) (n18 : Nat) (x2_18 : Int32) (B18 : jH) (ls : Array Slot), lv_has ls 3 [(0, .ref this), (1, va_rf x1_18), (2, .int x2_18)] → jGo l G 24 1290 σ (Prod.snd : (Option Nat) × jH → jH) (fun t => jrR t.1) t p e s m args below meth c (jloop (X2_twin_h18 G n this x1_18) n18 (x2_18, B18)) B18 (F0 m 18 ls []) := by
    intro x1_18
    intro n18
    induction n18 with
    | zero => intro x2_18 B18 ls hl; exact J.nil_
    | succ n18 ih18 =>
      intro x2_18 B18 ls hl
      refine J.eq (jloop_s _ _ _) ?_
      dsimp only [X2_twin_h18]
      refine J.pu (fun _ _ _ _ k => lv_iload_n X.1.1 X.1.2.1 dX2_twin_18 rfl (lv_at hl 2 rfl) k) ?_
      refine J.pu (fun _ _ _ _ k => lv_aload_n X.1.1 X.1.2.1 dX2_twin_19 rfl (lv_at hl 0 rfl) k) ?_
      refine J.getI (k := 0) (ci := 1) X in_X2 (show jCl[1]? = some (RX2, TX2, 9) from rfl) (by decide) q684 (fun _ h => h) dX2_twin_20 (fun v20 h20 => ?_)
      refine J.br (fun _ _ _ _ ka kb => lv_icmp_ge (tgt := 44) X.1.1 X.1.2.1 dX2_twin_23 (by decide) ka kb) (fun c23 => ?_) (fun c23 => ?_)
      · refine J.pu (fun _ _ _ _ k => lv_iconst (v := 0) X.1.1 X.1.2.1 dX2_twin_44 (by decide) k) ?_
        refine J.istore_n (i := 2) (lv' := [(2, .int 0), (0, .ref this), (1, va_rf x1_18)]) X.1.1 X.1.2.1 dX2_twin_45 rfl hl (by decide) (by first | rfl | simp [va_rf_cat, jcI, jcA, jcJ, jcD, jcF]) (fun ls hl => ?_)
        exact L46 x1_18 n 0 B18 ls (lv_sub hl [1, 2, 0] rfl)
      · refine J.pu (fun _ _ _ _ k => W.rload_n X.1.1 X.1.2.1 dX2_twin_26 rfl (lv_at hl 1 rfl) k) ?_
        refine J.getR (k := 2) (ci := 1) X in_X2 (show jCl[1]? = some (RX2, TX2, 9) from rfl) (by decide) q689 (fun _ h => h) dX2_twin_27 (fun v27 h27 => ?_)
        refine J.pu (fun _ _ _ _ k => lv_iload_n X.1.1 X.1.2.1 dX2_twin_30 rfl (lv_at hl 2 rfl) k) ?_
        refine J.pu (fun _ _ _ _ k => lv_aload_n X.1.1 X.1.2.1 dX2_twin_31 rfl (lv_at hl 0 rfl) k) ?_
        refine J.getR (k := 2) (ci := 1) X in_X2 (show jCl[1]? = some (RX2, TX2, 9) from rfl) (by decide) q689 (fun _ h => h) dX2_twin_32 (fun v32 h32 => ?_)
        refine J.pu (fun _ _ _ _ k => lv_iload_n X.1.1 X.1.2.1 dX2_twin_35 rfl (lv_at hl 2 rfl) k) ?_
        refine J.aI2 X dX2_twin_36 (fun v36 h36 => ?_)
        refine J.sI2 X dX2_twin_37 (fun S37 h37 => ?_)
        refine J.iinc (k := 2) (lv' := [(2, .int (x2_18 + 1)), (0, .ref this), (1, va_rf x1_18)]) (w := (x2_18 + 1)) X.1.1 X.1.2.1 dX2_twin_38 hl rfl rfl (by decide) (by first | rfl | simp [va_rf_cat, jcI, jcA, jcJ, jcD, jcF]) (fun ls hl => ?_)
        refine J.pu (fun _ _ _ _ k => lv_goto (tgt := 18) X.1.1 X.1.2.1 dX2_twin_41 (by decide) k) ?_
        exact ih18 (x2_18 + 1) S37 ls (lv_sub hl [1, 2, 0] rfl)
  unfold X2_twin_b
  refine J.nO' (fs := [.int 0, .int 0, .null, .null, .null, .null, .null, .int 0, .int 0]) X ⟨rfl, rfl⟩ in_X2 (show jCl[1]? = some (RX2, TX2, 9) from rfl) tyX2 tyX2_ok q826 q203 q139 rfl dX2_twin_0 (fun v0 S0 h0 => ?_)
  refine J.pu (fun _ _ _ _ k => lv_dup X.1.1 X.1.2.1 dX2_twin_3 rfl k) ?_
  refine J.pu (fun _ _ _ _ k => lv_aload_n X.1.1 X.1.2.1 dX2_twin_4 rfl (lv_at hl 0 rfl) k) ?_
  refine J.getI (k := 0) (ci := 1) X in_X2 (show jCl[1]? = some (RX2, TX2, 9) from rfl) (by decide) q684 (fun _ h => h) dX2_twin_5 (fun v5 h5 => ?_)
  refine J.pu (fun _ _ _ _ k => lv_aload_n X.1.1 X.1.2.1 dX2_twin_8 rfl (lv_at hl 0 rfl) k) ?_
  refine J.getI (k := 1) (ci := 1) X in_X2 (show jCl[1]? = some (RX2, TX2, 9) from rfl) (by decide) q687 (fun _ h => h) dX2_twin_9 (fun v9 h9 => ?_)
  refine J.bd' (fun v12 S12 h12 => ?_)
  refine J.cI (a := v0) (As := [.int v5, .int v9]) (rest := [.ref v0]) (s2 := [.ref v0]) X ⟨rfl, rfl⟩ (ct_X2_init l G n S0 v0 v5 v9) h12 (fun _ _ => jcwI 2 X.1.2.2.2.2 q827 q205 q139 q206 rfl rfl rfl (by decide +kernel) ⟨(Nat.le_of_ble_eq_true rfl), (Nat.le_of_ble_eq_true rfl)⟩) rfl hl.1 rfl rfl (Nat.le_of_ble_eq_true rfl) dX2_twin_12 ?_
  refine J.astore_n (r := (some v0)) (i := 1) (lv' := [(1, va_rf (some v0)), (0, .ref this)]) X.1.1 X.1.2.1 dX2_twin_15 rfl hl (by decide) (by first | rfl | simp [va_rf_cat, jcI, jcA, jcJ, jcD, jcF]) (fun ls hl => ?_)
  refine J.pu (fun _ _ _ _ k => lv_iconst (v := 0) X.1.1 X.1.2.1 dX2_twin_16 (by decide) k) ?_
  refine J.istore_n (i := 2) (lv' := [(2, .int 0), (1, va_rf (some v0)), (0, .ref this)]) X.1.1 X.1.2.1 dX2_twin_17 rfl hl (by decide) (by first | rfl | simp [va_rf_cat, jcI, jcA, jcJ, jcD, jcF]) (fun ls hl => ?_)
  exact L18 (some v0) n 0 S12 ls (lv_sub hl [2, 1, 0] rfl)
noncomputable def X2_meets_b (G : jG) (n : Nat) (σ : jH) (this : Nat) (a1 : Option Nat) (a2 : Option Nat) : Option (Unit × jH) :=
  (rc σ a1 3).bind fun o1 => (X4_canTake G n σ o1).bind fun v1 => if v1 = 0 then ((gR σ (some this) 1 6).bind fun v8 => (aI σ v8 0 4).bind fun v13 => (sI G σ v8 0 4 (v13 + 1)).bind fun S16 => some ((), S16)) else ((gI σ a1 3 6).bind fun v21 => if v21 ≤ 0 then ((gI σ a1 3 3).bind fun v42 => (pI G σ a1 3 6 (v42 + 1)).bind fun S47 => (rc S47 (some this) 1).bind fun o53 => bd (X2_fires G n S47 o53 a1 a2) fun v53 S53 => some ((), S53)) else ((gR σ (some this) 1 6).bind fun v28 => (aI σ v28 0 5).bind fun v33 => (sI G σ v28 0 5 (v33 + 1)).bind fun S36 => some ((), S36)))
noncomputable def X2_meets (G : jG) (n : Nat) (σ : jH) (this : Nat) (a1 : Option Nat) (a2 : Option Nat) : Option (Unit × jH) := jck σ (X2_meets_b G n σ this a1 a2)
set_option maxHeartbeats 4000000 in
set_option maxRecDepth 100000 in
theorem ct_X2_meets (l : Launch) (G : jG) (n : Nat) (σ : jH) (this : Nat) (a1 : Option Nat) (a2 : Option Nat) : jCt l G yX2_meets (ws_ yX2_meets cX2_meets 3 none) 24 1290 jrV [.ref this, va_rf a1, va_rf a2] σ (X2_meets G n σ this a1 a2) := by
  refine jCt.wr (lv := [(0, .ref this), (1, va_rf a1), (2, va_rf a2)]) (plainFor_of_name (by decide)) (by simp [lg_sl, va_rf_cat, jcI, jcA, jcJ, jcD, jcF]) (by simp [lv_args, va_rf_cat, jcI, jcA, jcJ, jcD, jcF]) ?_
  intro t p e s m args below meth c ls X hr hnm hl
  have X : jCx p c cX2_meets 3 s m args RX2 G meth := X
  unfold X2_meets_b
  refine J.pu (fun _ _ _ _ k => W.rload_n X.1.1 X.1.2.1 dX2_meets_0 rfl (lv_at hl 1 rfl) k) ?_
  refine J.bind (fun o1 g1 => ?_)
  refine J.bind (fun v1 h1 => ?_)
  refine J.cV (q := (RX4, TX4, 9)) (ci := 3) (As := []) (rest := []) (s2 := [.int v1]) X ⟨rfl, rfl⟩ (ct_X4_canTake l G n σ o1) (jrd_of h1) (fun _ _ => cwV 0 X.1.2.2.2.2 (lw_V q2131 q2132 q2133 q161 q2134) rfl rfl rfl (by decide +kernel) ⟨(Nat.le_of_ble_eq_true rfl), (Nat.le_of_ble_eq_true rfl)⟩) g1 rfl rfl hl.1 rfl rfl (Nat.le_of_ble_eq_true rfl) dX2_meets_1 ?_
  refine J.br (fun _ _ _ _ ka kb => lv_if_ne (tgt := 20) X.1.1 X.1.2.1 dX2_meets_4 (by decide) kb ka) (fun c4 => ?_) (fun c4 => ?_)
  · refine J.pu (fun _ _ _ _ k => lv_aload_n X.1.1 X.1.2.1 dX2_meets_7 rfl (lv_at hl 0 rfl) k) ?_
    refine J.getR (k := 6) (ci := 1) X in_X2 (show jCl[1]? = some (RX2, TX2, 9) from rfl) (by decide) q701 (fun _ h => h) dX2_meets_8 (fun v8 h8 => ?_)
    refine J.pu (fun _ _ _ _ k => lv_iconst (v := 4) X.1.1 X.1.2.1 dX2_meets_11 (by decide) k) ?_
    refine J.pu (fun _ _ _ _ k => lv_dup2_11 X.1.1 X.1.2.1 dX2_meets_12 rfl (va_rf_cat _) k) ?_
    refine J.aI0 X dX2_meets_13 (fun v13 h13 => ?_)
    refine J.pu (fun _ _ _ _ k => lv_iconst (v := 1) X.1.1 X.1.2.1 dX2_meets_14 (by decide) k) ?_
    refine J.pu (fun _ _ _ _ k => lv_iadd X.1.1 X.1.2.1 dX2_meets_15 k) ?_
    refine J.sI0 X dX2_meets_16 (fun S16 h16 => ?_)
    refine J.pu (fun _ _ _ _ k => lv_goto (tgt := 56) X.1.1 X.1.2.1 dX2_meets_17 (by decide) k) ?_
    exact J.vret (vr := fun t : Unit × jH => jrV t.1) (fin := Prod.snd) (t := t) X hr (by rfl) (by rfl) dX2_meets_56
  · refine J.pu (fun _ _ _ _ k => W.rload_n X.1.1 X.1.2.1 dX2_meets_20 rfl (lv_at hl 1 rfl) k) ?_
    refine J.getIN (k := 6) (ci := 3) X in_X4 (show jCl[3]? = some (RX4, TX4, 9) from rfl) (by decide) jnf27 (fun _ h => h) dX2_meets_21 (fun v21 h21 => ?_)
    refine J.br (fun _ _ _ _ ka kb => lv_if_le (tgt := 40) X.1.1 X.1.2.1 dX2_meets_24 (by decide) ka kb) (fun c24 => ?_) (fun c24 => ?_)
    · refine J.pu (fun _ _ _ _ k => W.rload_n X.1.1 X.1.2.1 dX2_meets_40 rfl (lv_at hl 1 rfl) k) ?_
      refine J.pu (fun _ _ _ _ k => W.rload_n X.1.1 X.1.2.1 dX2_meets_41 rfl (lv_at hl 1 rfl) k) ?_
      refine J.getIN (k := 3) (ci := 3) X in_X4 (show jCl[3]? = some (RX4, TX4, 9) from rfl) (by decide) jnf21 (fun _ h => h) dX2_meets_42 (fun v42 h42 => ?_)
      refine J.pu (fun _ _ _ _ k => lv_iconst (v := 1) X.1.1 X.1.2.1 dX2_meets_45 (by decide) k) ?_
      refine J.pu (fun _ _ _ _ k => lv_iadd X.1.1 X.1.2.1 dX2_meets_46 k) ?_
      refine J.putIN (k := 6) (ci := 3) X in_X4 (show jCl[3]? = some (RX4, TX4, 9) from rfl) tyX4_ok (fun a ha b hb h => Or.inl (nmX4 a ha b hb h)) (by decide) jnf27 (fun _ h => h) rfl rfl dX2_meets_47 (fun S47 h47 => ?_)
      refine J.pu (fun _ _ _ _ k => lv_aload_n X.1.1 X.1.2.1 dX2_meets_50 rfl (lv_at hl 0 rfl) k) ?_
      refine J.pu (fun _ _ _ _ k => W.rload_n X.1.1 X.1.2.1 dX2_meets_51 rfl (lv_at hl 1 rfl) k) ?_
      refine J.pu (fun _ _ _ _ k => W.rload_n X.1.1 X.1.2.1 dX2_meets_52 rfl (lv_at hl 2 rfl) k) ?_
      refine J.bind (fun o53 g53 => ?_)
      refine J.bd' (fun v53 S53 h53 => ?_)
      refine J.cV (q := (RX2, TX2, 9)) (ci := 1) (As := [va_rf a1, va_rf a2]) (rest := []) (s2 := []) X ⟨rfl, rfl⟩ (ct_X2_fires l G n S47 o53 a1 a2) h53 (fun _ _ => cwV 2 X.1.2.2.2.2 (lw_V q2137 q2139 qs37 q139 q2140) rfl rfl rfl (by decide +kernel) ⟨(Nat.le_of_ble_eq_true rfl), (Nat.le_of_ble_eq_true rfl)⟩) g53 rfl rfl hl.1 rfl rfl (Nat.le_of_ble_eq_true rfl) dX2_meets_53 ?_
      exact J.vret (vr := fun t : Unit × jH => jrV t.1) (fin := Prod.snd) (t := t) X hr (by rfl) (by rfl) dX2_meets_56
    · refine J.pu (fun _ _ _ _ k => lv_aload_n X.1.1 X.1.2.1 dX2_meets_27 rfl (lv_at hl 0 rfl) k) ?_
      refine J.getR (k := 6) (ci := 1) X in_X2 (show jCl[1]? = some (RX2, TX2, 9) from rfl) (by decide) q701 (fun _ h => h) dX2_meets_28 (fun v28 h28 => ?_)
      refine J.pu (fun _ _ _ _ k => lv_iconst (v := 5) X.1.1 X.1.2.1 dX2_meets_31 (by decide) k) ?_
      refine J.pu (fun _ _ _ _ k => lv_dup2_11 X.1.1 X.1.2.1 dX2_meets_32 rfl (va_rf_cat _) k) ?_
      refine J.aI0 X dX2_meets_33 (fun v33 h33 => ?_)
      refine J.pu (fun _ _ _ _ k => lv_iconst (v := 1) X.1.1 X.1.2.1 dX2_meets_34 (by decide) k) ?_
      refine J.pu (fun _ _ _ _ k => lv_iadd X.1.1 X.1.2.1 dX2_meets_35 k) ?_
      refine J.sI0 X dX2_meets_36 (fun S36 h36 => ?_)
      refine J.pu (fun _ _ _ _ k => lv_goto (tgt := 56) X.1.1 X.1.2.1 dX2_meets_37 (by decide) k) ?_
      exact J.vret (vr := fun t : Unit × jH => jrV t.1) (fin := Prod.snd) (t := t) X hr (by rfl) (by rfl) dX2_meets_56
noncomputable def X8_statement_j83 (G : jG) (n : Nat) (this : Nat) (a1 : Option Nat) (x3_83 : Int32) (B83 : jH) : Option (jTh Unit × jH) :=
  if x3_83 = 0 then ((rc B83 (some this) 6).bind fun o113 => tb (X8_scanner G n B83 o113) fun v113 S113 => (rc S113 (some this) 6).bind fun o154 => tb (X7_end_X8 G n S113 o154) fun v154 S154 => some (.inl (), S154)) else if x3_83 = 1 then ((rc B83 (some this) 6).bind fun o120 => tb (X8_chute G n B83 o120) fun v120 S120 => (rc S120 (some this) 6).bind fun o154 => tb (X7_end_X8 G n S120 o154) fun v154 S154 => some (.inl (), S154)) else if x3_83 = 2 then ((rc B83 (some this) 6).bind fun o127 => bd (X7_advance_X8 G n B83 o127) fun v127 S127 => (gR S127 (some this) 6 6).bind fun v131 => (rc S127 (some this) 6).bind fun o138 => tb (X7_number_X8 G n S127 o138 1 9) fun v138 S138 => (pI G S138 v131 1 8 v138).bind fun S141 => (rc S141 (some this) 6).bind fun o154 => tb (X7_end_X8 G n S141 o154) fun v154 S154 => some (.inl (), S154)) else (rc B83 (some this) 6).bind fun o150 => tb (X7_expect_X8 G n B83 o150 0 1) fun v150 S150 => (rc S150 (some this) 6).bind fun o154 => tb (X7_end_X8 G n S150 o154) fun v154 S154 => some (.inl (), S154)
noncomputable def X8_statement_b (G : jG) (n : Nat) (σ : jH) (this : Nat) (a1 : Option Nat) : Option (jTh Unit × jH) :=
  (rc σ a1 21).bind fun o5 => bd (jck σ (stHash G σ o5)) fun v5 S5 => if v5 = (-925138779) then ((rc S5 a1 21).bind fun o75 => (stEq S5 o75 (G.2.2.2 20)).bind fun v75 => if v75 = 0 then (X8_statement_j83 G n this a1 (-1) S5) else (X8_statement_j83 G n this a1 2 S5)) else if v5 = 94642977 then ((rc S5 a1 21).bind fun o61 => (stEq S5 o61 (G.2.2.2 19)).bind fun v61 => if v61 = 0 then (X8_statement_j83 G n this a1 (-1) S5) else (X8_statement_j83 G n this a1 1 S5)) else if v5 = 1910961662 then ((rc S5 a1 21).bind fun o47 => (stEq S5 o47 (G.2.2.2 18)).bind fun v47 => if v47 = 0 then (X8_statement_j83 G n this a1 (-1) S5) else (X8_statement_j83 G n this a1 0 S5)) else X8_statement_j83 G n this a1 (-1) S5
noncomputable def X8_statement (G : jG) (n : Nat) (σ : jH) (this : Nat) (a1 : Option Nat) : Option (jTh Unit × jH) := jck σ (X8_statement_b G n σ this a1)
set_option maxHeartbeats 4000000 in
set_option maxRecDepth 100000 in
theorem ct_X8_statement (l : Launch) (hfl : l.stackTraces = false) (G : jG) (n : Nat) (σ : jH) (this : Nat) (a1 : Option Nat) : jTt l G yX8_statement (ws_ yX8_statement cX8_statement 4 none) 25 1312 jrV [.ref this, va_rf a1] σ (X8_statement G n σ this a1) := by
  refine jTt.wr (lv := [(0, .ref this), (1, va_rf a1)]) rfl (by simp [lg_sl, va_rf_cat, jcI, jcA, jcJ, jcD, jcF]) (by simp [lv_args, va_rf_cat, jcI, jcA, jcJ, jcD, jcF]) ?_
  intro t p e s m args below meth c ls X hr hnm hout hl
  have X : jCx p c cX8_statement 4 s m args RX8 G meth := X
  have j83 : ∀ (x3_83 : Int32) (B83 : jH) (ls : Array Slot), lv_has ls 4 [(0, .ref this), (3, .int x3_83)] → jGoT l G 25 1312 σ jrV t p e s m args below meth c (X8_statement_j83 G n this a1 x3_83 B83) B83 (F0 m 83 ls []) := by
    intro x3_83 B83 ls hl
    unfold X8_statement_j83
    refine J.pu (fun _ _ _ _ k => lv_iload_n X.1.1 X.1.2.1 dX8_statement_83 rfl (lv_at hl 1 rfl) k) ?_
    refine J.ite (fun c84_0 => ?_) (fun c84_0 => ?_)
    · refine J.pu (fun _ _ _ _ k => lv_tableIn (tgt := 112) (off := 28) X.1.1 X.1.2.1 dX8_statement_84 (by rw [c84_0]; decide) (by rw [c84_0]; decide) (by rw [c84_0]; decide) (by decide) k) ?_
      refine J.pu (fun _ _ _ _ k => lv_aload_n X.1.1 X.1.2.1 dX8_statement_112 rfl (lv_at hl 0 rfl) k) ?_
      refine J.bind (fun o113 g113 => ?_)
      refine J.tV (q := (RX8, TX8, 8)) (ci := 6) (As := []) (rest := []) X hout ⟨rfl, rfl⟩ (ct_X8_scanner l hfl G n B83 o113) (fun _ _ => cwV 0 X.1.2.2.2.2 (lw_V q1694 q1696 qs20 q176 q1697) rfl rfl rfl (by decide +kernel) ⟨(Nat.le_of_ble_eq_true rfl), (Nat.le_of_ble_eq_true rfl)⟩) g113 rfl rfl hl.1 rfl (Nat.le_of_ble_eq_true rfl) dX8_statement_113 (fun v113 S113 h113 => ?_)
      refine J.geq (g2 := F0 m 116 ls []) rfl ?_
      refine J.pu (fun _ _ _ _ k => lv_goto (tgt := 153) X.1.1 X.1.2.1 dX8_statement_116 (by decide) k) ?_
      refine J.pu (fun _ _ _ _ k => lv_aload_n X.1.1 X.1.2.1 dX8_statement_153 rfl (lv_at hl 0 rfl) k) ?_
      refine J.bind (fun o154 g154 => ?_)
      refine J.tU (q := (RX8, TX8, 8)) (ci := 6) (As := []) (rest := []) X hout ⟨rfl, rfl⟩ (ct_X7_end_X8 l hfl G n S113 o154) (fun _ _ => va_cwU 0 X.1.2.2.2.2 (lw_U q1618 q1619 q1621 q1622 q175 q1623) rfl rfl rfl rfl (by decide +kernel) ⟨(Nat.le_of_ble_eq_true rfl), (Nat.le_of_ble_eq_true rfl)⟩) g154 rfl rfl hl.1 rfl (Nat.le_of_ble_eq_true rfl) dX8_statement_154 (fun v154 S154 h154 => ?_)
      refine J.geq (g2 := F0 m 157 ls []) rfl ?_
      exact J.tret (J.vret (vr := fun t : Unit × jH => jrV t.1) (fin := (Prod.snd : Unit × jH → jH)) (t := ((), S154)) X hr (by rfl) (by rfl) dX8_statement_157)
    refine J.ite (fun c84_1 => ?_) (fun c84_1 => ?_)
    · refine J.pu (fun _ _ _ _ k => lv_tableIn (tgt := 119) (off := 35) X.1.1 X.1.2.1 dX8_statement_84 (by rw [c84_1]; decide) (by rw [c84_1]; decide) (by rw [c84_1]; decide) (by decide) k) ?_
      refine J.pu (fun _ _ _ _ k => lv_aload_n X.1.1 X.1.2.1 dX8_statement_119 rfl (lv_at hl 0 rfl) k) ?_
      refine J.bind (fun o120 g120 => ?_)
      refine J.tV (q := (RX8, TX8, 8)) (ci := 6) (As := []) (rest := []) X hout ⟨rfl, rfl⟩ (ct_X8_chute l hfl G n B83 o120) (fun _ _ => cwV 0 X.1.2.2.2.2 (lw_V q1709 q1711 qs21 q176 q1712) rfl rfl rfl (by decide +kernel) ⟨(Nat.le_of_ble_eq_true rfl), (Nat.le_of_ble_eq_true rfl)⟩) g120 rfl rfl hl.1 rfl (Nat.le_of_ble_eq_true rfl) dX8_statement_120 (fun v120 S120 h120 => ?_)
      refine J.geq (g2 := F0 m 123 ls []) rfl ?_
      refine J.pu (fun _ _ _ _ k => lv_goto (tgt := 153) X.1.1 X.1.2.1 dX8_statement_123 (by decide) k) ?_
      refine J.pu (fun _ _ _ _ k => lv_aload_n X.1.1 X.1.2.1 dX8_statement_153 rfl (lv_at hl 0 rfl) k) ?_
      refine J.bind (fun o154 g154 => ?_)
      refine J.tU (q := (RX8, TX8, 8)) (ci := 6) (As := []) (rest := []) X hout ⟨rfl, rfl⟩ (ct_X7_end_X8 l hfl G n S120 o154) (fun _ _ => va_cwU 0 X.1.2.2.2.2 (lw_U q1618 q1619 q1621 q1622 q175 q1623) rfl rfl rfl rfl (by decide +kernel) ⟨(Nat.le_of_ble_eq_true rfl), (Nat.le_of_ble_eq_true rfl)⟩) g154 rfl rfl hl.1 rfl (Nat.le_of_ble_eq_true rfl) dX8_statement_154 (fun v154 S154 h154 => ?_)
      refine J.geq (g2 := F0 m 157 ls []) rfl ?_
      exact J.tret (J.vret (vr := fun t : Unit × jH => jrV t.1) (fin := (Prod.snd : Unit × jH → jH)) (t := ((), S154)) X hr (by rfl) (by rfl) dX8_statement_157)
    refine J.ite (fun c84_2 => ?_) (fun c84_2 => ?_)
    · refine J.pu (fun _ _ _ _ k => lv_tableIn (tgt := 126) (off := 42) X.1.1 X.1.2.1 dX8_statement_84 (by rw [c84_2]; decide) (by rw [c84_2]; decide) (by rw [c84_2]; decide) (by decide) k) ?_
      refine J.pu (fun _ _ _ _ k => lv_aload_n X.1.1 X.1.2.1 dX8_statement_126 rfl (lv_at hl 0 rfl) k) ?_
      refine J.bind (fun o127 g127 => ?_)
      refine J.bd' (fun v127 S127 h127 => ?_)
      refine J.cU (q := (RX8, TX8, 8)) (ci := 6) (As := []) (rest := []) (s2 := []) X ⟨rfl, rfl⟩ (ct_X7_advance_X8 l G n B83 o127) h127 (fun _ _ => va_cwU 0 X.1.2.2.2.2 (lw_U q1599 q1600 q1602 q1388 q175 q1392) rfl rfl rfl rfl (by decide +kernel) ⟨(Nat.le_of_ble_eq_true rfl), (Nat.le_of_ble_eq_true rfl)⟩) g127 rfl rfl hl.1 rfl rfl (Nat.le_of_ble_eq_true rfl) dX8_statement_127 ?_
      refine J.pu (fun _ _ _ _ k => lv_aload_n X.1.1 X.1.2.1 dX8_statement_130 rfl (lv_at hl 0 rfl) k) ?_
      refine J.getR (k := 6) (ci := 6) X in_X8 (show jCl[6]? = some (RX8, TX8, 8) from rfl) (by decide) q1517 (fun _ h => h) dX8_statement_131 (fun v131 h131 => ?_)
      refine J.pu (fun _ _ _ _ k => lv_aload_n X.1.1 X.1.2.1 dX8_statement_134 rfl (lv_at hl 0 rfl) k) ?_
      refine J.pu (fun _ _ _ _ k => lv_iconst (v := 1) X.1.1 X.1.2.1 dX8_statement_135 (by decide) k) ?_
      refine J.pu (fun _ _ _ _ k => lv_bipush (v := 9) X.1.1 X.1.2.1 dX8_statement_136 (by decide) k) ?_
      refine J.bind (fun o138 g138 => ?_)
      refine J.tU (q := (RX8, TX8, 8)) (ci := 6) (As := [.int 1, .int 9]) (rest := [va_rf v131]) X hout ⟨rfl, rfl⟩ (ct_X7_number_X8 l hfl G n S127 o138 1 9) (fun _ _ => va_cwU 2 X.1.2.2.2.2 (lw_U q1603 q1604 q1606 q1607 q175 q1608) rfl rfl rfl rfl (by decide +kernel) ⟨(Nat.le_of_ble_eq_true rfl), (Nat.le_of_ble_eq_true rfl)⟩) g138 rfl rfl hl.1 rfl (by simp [va_rf_cat, jcI, jcA, jcJ, jcD, jcF]) dX8_statement_138 (fun v138 S138 h138 => ?_)
      refine J.geq (g2 := F0 m 141 ls [.int v138, va_rf v131]) rfl ?_
      refine J.putIN (k := 8) (ci := 1) X in_X2 (show jCl[1]? = some (RX2, TX2, 9) from rfl) tyX2_ok (fun a ha b hb h => Or.inl (nmX2 a ha b hb h)) (by decide) jnf15 (fun _ h => h) rfl rfl dX8_statement_141 (fun S141 h141 => ?_)
      refine J.pu (fun _ _ _ _ k => lv_goto (tgt := 153) X.1.1 X.1.2.1 dX8_statement_144 (by decide) k) ?_
      refine J.pu (fun _ _ _ _ k => lv_aload_n X.1.1 X.1.2.1 dX8_statement_153 rfl (lv_at hl 0 rfl) k) ?_
      refine J.bind (fun o154 g154 => ?_)
      refine J.tU (q := (RX8, TX8, 8)) (ci := 6) (As := []) (rest := []) X hout ⟨rfl, rfl⟩ (ct_X7_end_X8 l hfl G n S141 o154) (fun _ _ => va_cwU 0 X.1.2.2.2.2 (lw_U q1618 q1619 q1621 q1622 q175 q1623) rfl rfl rfl rfl (by decide +kernel) ⟨(Nat.le_of_ble_eq_true rfl), (Nat.le_of_ble_eq_true rfl)⟩) g154 rfl rfl hl.1 rfl (Nat.le_of_ble_eq_true rfl) dX8_statement_154 (fun v154 S154 h154 => ?_)
      refine J.geq (g2 := F0 m 157 ls []) rfl ?_
      exact J.tret (J.vret (vr := fun t : Unit × jH => jrV t.1) (fin := (Prod.snd : Unit × jH → jH)) (t := ((), S154)) X hr (by rfl) (by rfl) dX8_statement_157)
    by_cases b84 : x3_83.toInt < 0 ∨ 2 < x3_83.toInt
    · refine J.pu (fun _ _ _ _ k => lv_tableOut (tgt := 147) X.1.1 X.1.2.1 dX8_statement_84 b84 (by decide) k) ?_
      refine J.pu (fun _ _ _ _ k => lv_aload_n X.1.1 X.1.2.1 dX8_statement_147 rfl (lv_at hl 0 rfl) k) ?_
      refine J.pu (fun _ _ _ _ k => lv_iconst (v := 0) X.1.1 X.1.2.1 dX8_statement_148 (by decide) k) ?_
      refine J.pu (fun _ _ _ _ k => lv_iconst (v := 1) X.1.1 X.1.2.1 dX8_statement_149 (by decide) k) ?_
      refine J.bind (fun o150 g150 => ?_)
      refine J.tU (q := (RX8, TX8, 8)) (ci := 6) (As := [.int 0, .int 1]) (rest := []) X hout ⟨rfl, rfl⟩ (ct_X7_expect_X8 l hfl G n B83 o150 0 1) (fun _ _ => va_cwU 2 X.1.2.2.2.2 (lw_U q1565 q1566 q1568 q1569 q175 q1570) rfl rfl rfl rfl (by decide +kernel) ⟨(Nat.le_of_ble_eq_true rfl), (Nat.le_of_ble_eq_true rfl)⟩) g150 rfl rfl hl.1 rfl (Nat.le_of_ble_eq_true rfl) dX8_statement_150 (fun v150 S150 h150 => ?_)
      refine J.geq (g2 := F0 m 153 ls []) rfl ?_
      refine J.pu (fun _ _ _ _ k => lv_aload_n X.1.1 X.1.2.1 dX8_statement_153 rfl (lv_at hl 0 rfl) k) ?_
      refine J.bind (fun o154 g154 => ?_)
      refine J.tU (q := (RX8, TX8, 8)) (ci := 6) (As := []) (rest := []) X hout ⟨rfl, rfl⟩ (ct_X7_end_X8 l hfl G n S150 o154) (fun _ _ => va_cwU 0 X.1.2.2.2.2 (lw_U q1618 q1619 q1621 q1622 q175 q1623) rfl rfl rfl rfl (by decide +kernel) ⟨(Nat.le_of_ble_eq_true rfl), (Nat.le_of_ble_eq_true rfl)⟩) g154 rfl rfl hl.1 rfl (Nat.le_of_ble_eq_true rfl) dX8_statement_154 (fun v154 S154 h154 => ?_)
      refine J.geq (g2 := F0 m 157 ls []) rfl ?_
      exact J.tret (J.vret (vr := fun t : Unit × jH => jrV t.1) (fin := (Prod.snd : Unit × jH → jH)) (t := ((), S154)) X hr (by rfl) (by rfl) dX8_statement_157)
    · exfalso; have := lv_neT c84_0 (a := 0) rfl; have := lv_neT c84_1 (a := 1) rfl; have := lv_neT c84_2 (a := 2) rfl; omega
  unfold X8_statement_b
  refine J.pu (fun _ _ _ _ k => W.rload_n X.1.1 X.1.2.1 dX8_statement_0 rfl (lv_at hl 1 rfl) k) ?_
  refine J.astore_n (r := a1) (i := 2) (lv' := [(2, va_rf a1), (0, .ref this), (1, va_rf a1)]) X.1.1 X.1.2.1 dX8_statement_1 rfl hl (by decide) (by first | rfl | simp [va_rf_cat, jcI, jcA, jcJ, jcD, jcF]) (fun ls hl => ?_)
  refine J.pu (fun _ _ _ _ k => lv_iconst (v := (-1)) X.1.1 X.1.2.1 dX8_statement_2 (by decide) k) ?_
  refine J.istore_n (i := 3) (lv' := [(3, .int (-1)), (2, va_rf a1), (0, .ref this), (1, va_rf a1)]) X.1.1 X.1.2.1 dX8_statement_3 rfl hl (by decide) (by first | rfl | simp [va_rf_cat, jcI, jcA, jcJ, jcD, jcF]) (fun ls hl => ?_)
  refine J.pu (fun _ _ _ _ k => W.rload_n X.1.1 X.1.2.1 dX8_statement_4 rfl (lv_at hl 1 rfl) k) ?_
  refine J.bind (fun o5 g5 => ?_)
  refine J.bd' (fun v5 S5 h5 => ?_)
  refine J.cV (q := (RJ9, TJ9, 4)) (ci := 21) (As := []) (rest := []) (s2 := [.int v5]) X ⟨rfl, rfl⟩ (ct_J9_hashCode l G σ o5) h5 (fun _ _ => cwV 0 X.1.2.2.2.2 (lw_V q1634 q1635 q1636 q149 q1637) rfl rfl rfl (by decide +kernel) ⟨(Nat.le_of_ble_eq_true rfl), (Nat.le_of_ble_eq_true rfl)⟩) g5 rfl rfl hl.1 rfl rfl (Nat.le_of_ble_eq_true rfl) dX8_statement_5 ?_
  refine J.ite (fun c8_m925138779 => ?_) (fun c8_m925138779 => ?_)
  · refine J.pu (fun _ _ _ _ k => lv_lookup (tgt := 72) (off := 64) X.1.1 X.1.2.1 dX8_statement_8 (by decide +kernel) (by rw [c8_m925138779]; decide +kernel) (by decide) k) ?_
    refine J.pu (fun _ _ _ _ k => W.rload_n X.1.1 X.1.2.1 dX8_statement_72 rfl (lv_at hl 1 rfl) k) ?_
    refine J.pu (fun _ _ _ _ k => W.ldcS (i := 20) X rfl dX8_statement_73 k) ?_
    refine J.bind (fun o75 g75 => ?_)
    refine J.bind (fun v75 h75 => ?_)
    refine J.cV (q := (RJ9, TJ9, 4)) (ci := 21) (As := [va_rf (G.2.2.2 20)]) (rest := []) (s2 := [.int v75]) X ⟨rfl, rfl⟩ (ct_J9_equals l G S5 o75 (G.2.2.2 20)) (jrd_of h75) (fun _ _ => cwV 1 X.1.2.2.2.2 (lw_V q1557 q1558 q1559 q149 q1560) rfl rfl rfl (by decide +kernel) ⟨(Nat.le_of_ble_eq_true rfl), (Nat.le_of_ble_eq_true rfl)⟩) g75 rfl rfl hl.1 rfl rfl (Nat.le_of_ble_eq_true rfl) dX8_statement_75 ?_
    refine J.br (fun _ _ _ _ ka kb => lv_if_eq (tgt := 83) X.1.1 X.1.2.1 dX8_statement_78 (by decide) ka kb) (fun c78 => ?_) (fun c78 => ?_)
    · exact j83 (-1) S5 ls (lv_sub hl [2, 0] rfl)
    · refine J.pu (fun _ _ _ _ k => lv_iconst (v := 2) X.1.1 X.1.2.1 dX8_statement_81 (by decide) k) ?_
      refine J.istore_n (i := 3) (lv' := [(3, .int 2), (2, va_rf a1), (0, .ref this), (1, va_rf a1)]) X.1.1 X.1.2.1 dX8_statement_82 rfl hl (by decide) (by first | rfl | simp [va_rf_cat, jcI, jcA, jcJ, jcD, jcF]) (fun ls hl => ?_)
      exact j83 2 S5 ls (lv_sub hl [2, 0] rfl)
  refine J.ite (fun c8_94642977 => ?_) (fun c8_94642977 => ?_)
  · refine J.pu (fun _ _ _ _ k => lv_lookup (tgt := 58) (off := 50) X.1.1 X.1.2.1 dX8_statement_8 (by decide +kernel) (by rw [c8_94642977]; decide +kernel) (by decide) k) ?_
    refine J.pu (fun _ _ _ _ k => W.rload_n X.1.1 X.1.2.1 dX8_statement_58 rfl (lv_at hl 1 rfl) k) ?_
    refine J.pu (fun _ _ _ _ k => W.ldcS (i := 19) X rfl dX8_statement_59 k) ?_
    refine J.bind (fun o61 g61 => ?_)
    refine J.bind (fun v61 h61 => ?_)
    refine J.cV (q := (RJ9, TJ9, 4)) (ci := 21) (As := [va_rf (G.2.2.2 19)]) (rest := []) (s2 := [.int v61]) X ⟨rfl, rfl⟩ (ct_J9_equals l G S5 o61 (G.2.2.2 19)) (jrd_of h61) (fun _ _ => cwV 1 X.1.2.2.2.2 (lw_V q1557 q1558 q1559 q149 q1560) rfl rfl rfl (by decide +kernel) ⟨(Nat.le_of_ble_eq_true rfl), (Nat.le_of_ble_eq_true rfl)⟩) g61 rfl rfl hl.1 rfl rfl (Nat.le_of_ble_eq_true rfl) dX8_statement_61 ?_
    refine J.br (fun _ _ _ _ ka kb => lv_if_eq (tgt := 83) X.1.1 X.1.2.1 dX8_statement_64 (by decide) ka kb) (fun c64 => ?_) (fun c64 => ?_)
    · exact j83 (-1) S5 ls (lv_sub hl [2, 0] rfl)
    · refine J.pu (fun _ _ _ _ k => lv_iconst (v := 1) X.1.1 X.1.2.1 dX8_statement_67 (by decide) k) ?_
      refine J.istore_n (i := 3) (lv' := [(3, .int 1), (2, va_rf a1), (0, .ref this), (1, va_rf a1)]) X.1.1 X.1.2.1 dX8_statement_68 rfl hl (by decide) (by first | rfl | simp [va_rf_cat, jcI, jcA, jcJ, jcD, jcF]) (fun ls hl => ?_)
      refine J.pu (fun _ _ _ _ k => lv_goto (tgt := 83) X.1.1 X.1.2.1 dX8_statement_69 (by decide) k) ?_
      exact j83 1 S5 ls (lv_sub hl [2, 0] rfl)
  refine J.ite (fun c8_1910961662 => ?_) (fun c8_1910961662 => ?_)
  · refine J.pu (fun _ _ _ _ k => lv_lookup (tgt := 44) (off := 36) X.1.1 X.1.2.1 dX8_statement_8 (by decide +kernel) (by rw [c8_1910961662]; decide +kernel) (by decide) k) ?_
    refine J.pu (fun _ _ _ _ k => W.rload_n X.1.1 X.1.2.1 dX8_statement_44 rfl (lv_at hl 1 rfl) k) ?_
    refine J.pu (fun _ _ _ _ k => W.ldcS (i := 18) X rfl dX8_statement_45 k) ?_
    refine J.bind (fun o47 g47 => ?_)
    refine J.bind (fun v47 h47 => ?_)
    refine J.cV (q := (RJ9, TJ9, 4)) (ci := 21) (As := [va_rf (G.2.2.2 18)]) (rest := []) (s2 := [.int v47]) X ⟨rfl, rfl⟩ (ct_J9_equals l G S5 o47 (G.2.2.2 18)) (jrd_of h47) (fun _ _ => cwV 1 X.1.2.2.2.2 (lw_V q1557 q1558 q1559 q149 q1560) rfl rfl rfl (by decide +kernel) ⟨(Nat.le_of_ble_eq_true rfl), (Nat.le_of_ble_eq_true rfl)⟩) g47 rfl rfl hl.1 rfl rfl (Nat.le_of_ble_eq_true rfl) dX8_statement_47 ?_
    refine J.br (fun _ _ _ _ ka kb => lv_if_eq (tgt := 83) X.1.1 X.1.2.1 dX8_statement_50 (by decide) ka kb) (fun c50 => ?_) (fun c50 => ?_)
    · exact j83 (-1) S5 ls (lv_sub hl [2, 0] rfl)
    · refine J.pu (fun _ _ _ _ k => lv_iconst (v := 0) X.1.1 X.1.2.1 dX8_statement_53 (by decide) k) ?_
      refine J.istore_n (i := 3) (lv' := [(3, .int 0), (2, va_rf a1), (0, .ref this), (1, va_rf a1)]) X.1.1 X.1.2.1 dX8_statement_54 rfl hl (by decide) (by first | rfl | simp [va_rf_cat, jcI, jcA, jcJ, jcD, jcF]) (fun ls hl => ?_)
      refine J.pu (fun _ _ _ _ k => lv_goto (tgt := 83) X.1.1 X.1.2.1 dX8_statement_55 (by decide) k) ?_
      exact j83 0 S5 ls (lv_sub hl [2, 0] rfl)
  refine J.pu (fun _ _ _ _ k => lv_lookup (tgt := 83) (off := 75) X.1.1 X.1.2.1 dX8_statement_8 (by decide +kernel) (by show Op.lookupswitch.offset [(-925138779, 64), (94642977, 50), (1910961662, 36)] _ _ = _; rw [lv_osw c8_m925138779 (by decide), lv_osw c8_94642977 (by decide), lv_osw c8_1910961662 (by decide)]; rfl) (by decide) k) ?_
  exact j83 (-1) S5 ls (lv_sub hl [2, 0] rfl)
noncomputable def X0_count_b (G : jG) (n : Nat) (σ : jH) (a0 : Option Nat) (a1 : Int32) (a2 : Option Nat) : Option (Int32 × jH) :=
  (rc σ a0 0).bind fun o4 => tc (X1_count G n σ o4 a1) (fun v4 S4 => (sJ G S4 a2 0 v4.toInt64).bind fun S8 => some (0, S8)) (fun k4 q4 S4 => if k4 = 0 then (some (1, S4)) else none)
noncomputable def X0_count (G : jG) (n : Nat) (σ : jH) (a0 : Option Nat) (a1 : Int32) (a2 : Option Nat) : Option (Int32 × jH) := jck σ (X0_count_b G n σ a0 a1 a2)
set_option maxHeartbeats 4000000 in
set_option maxRecDepth 100000 in
theorem ct_X0_count (l : Launch) (hfl : l.stackTraces = false) (G : jG) (n : Nat) (σ : jH) (a0 : Option Nat) (a1 : Int32) (a2 : Option Nat) : jCt l G yX0_count (wsW_ yX0_count cX0_count 4 (some .int) [(0, 9, 12, 13)]) 24 1286 jrI [va_rf a0, .int a1, va_rf a2] σ (X0_count G n σ a0 a1 a2) := by
  refine jCt.wrH (hh := [(0, 9, 12, 13)]) (lv := [(0, va_rf a0), (1, .int a1), (2, va_rf a2)]) (plainFor_of_name (by decide)) (by simp [lg_sl, va_rf_cat, jcI, jcA, jcJ, jcD, jcF]) (by simp [lv_args, va_rf_cat, jcI, jcA, jcJ, jcD, jcF]) ?_
  intro t p e s m args below meth c ls X hr hnm htab hl
  have X : jCx p c cX0_count 4 s m args RX0 G meth := X
  unfold X0_count_b
  refine J.pu (fun _ _ _ _ k => W.rload_n X.1.1 X.1.2.1 dX0_count_0 rfl (lv_at hl 2 rfl) k) ?_
  refine J.pu (fun _ _ _ _ k => lv_iconst (v := 0) X.1.1 X.1.2.1 dX0_count_1 (by decide) k) ?_
  refine J.pu (fun _ _ _ _ k => W.rload_n X.1.1 X.1.2.1 dX0_count_2 rfl (lv_at hl 0 rfl) k) ?_
  refine J.pu (fun _ _ _ _ k => lv_iload_n X.1.1 X.1.2.1 dX0_count_3 rfl (lv_at hl 1 rfl) k) ?_
  refine J.bind (fun o4 g4 => ?_)
  refine J.hV (q := (RX1, TX1, 9)) (ci := 0) (As := [.int a1]) (rest := [.int 0, va_rf a2]) X ⟨rfl, rfl⟩ (ct_X1_count l hfl G n σ o4 a1) (fun _ _ => cwV 1 X.1.2.2.2.2 (lw_V q2386 q2387 q2388 q138 q2389) rfl rfl rfl (by decide +kernel) ⟨(Nat.le_of_ble_eq_true rfl), (Nat.le_of_ble_eq_true rfl)⟩) g4 rfl rfl hl.1 rfl (by simp [va_rf_cat, jcI, jcA, jcJ, jcD, jcF]) dX0_count_4 (fun v4 S4 h4 => ?_) (fun k4 q4 S4 h4 => ?_)
  · refine J.geq (g2 := F0 m 7 ls [.int v4, .int 0, va_rf a2]) rfl ?_
    refine J.pu (fun _ _ _ _ k => lv_i2l (v := v4.toInt64) X.1.1 X.1.2.1 dX0_count_7 rfl k) ?_
    refine J.sJ' X dX0_count_8 (fun S8 h8 => ?_)
    refine J.pu (fun _ _ _ _ k => lv_goto (tgt := 15) X.1.1 X.1.2.1 dX0_count_9 (by decide) k) ?_
    refine J.pu (fun _ _ _ _ k => lv_iconst (v := 0) X.1.1 X.1.2.1 dX0_count_15 (by decide) k) ?_
    exact J.iret (vr := fun t : Int32 × jH => jrI t.1) (fin := Prod.snd) (t := t) X hr (by rfl) (by rfl) dX0_count_16
  · refine Jx.ite (fun k4_0 => ?_) (fun k4_0 => ?_)
    · refine Jx.catch_ (E := "java/lang/IllegalArgumentException") (nm := "java/lang/IllegalArgumentException") X k4_0 rfl [] (⟨0, 9, 12, 13⟩ : ExceptionTableEntry) [] (htab.trans rfl) jnil_all rfl (by decide) q2385 jnc0 ?_
      refine J.astore_n (r := (some q4)) (i := 3) (lv' := [(3, va_rf (some q4)), (0, va_rf a0), (1, .int a1), (2, va_rf a2)]) X.1.1 X.1.2.1 dX0_count_12 rfl hl (by decide) (by first | rfl | simp [va_rf_cat, jcI, jcA, jcJ, jcD, jcF]) (fun ls hl => ?_)
      refine J.pu (fun _ _ _ _ k => lv_iconst (v := 1) X.1.1 X.1.2.1 dX0_count_13 (by decide) k) ?_
      exact J.iret (vr := fun t : Int32 × jH => jrI t.1) (fin := Prod.snd) (t := t) X hr (by rfl) (by rfl) dX0_count_14
    exact Jx.nil_
noncomputable def X0_why_b (G : jG) (n : Nat) (σ : jH) (a0 : Option Nat) (a1 : Int32) (a2 : Int32) (a3 : Option Nat) : Option (Int32 × jH) :=
  (rc σ a0 0).bind fun o5 => tc (X1_why G n σ o5 a1 a2) (fun v5 S5 => (sJ G S5 a3 0 v5.toInt64).bind fun S9 => some (0, S9)) (fun k5 q5 S5 => if k5 = 0 then (some (2, S5)) else if k5 = 2 then (some (1, S5)) else none)
noncomputable def X0_why (G : jG) (n : Nat) (σ : jH) (a0 : Option Nat) (a1 : Int32) (a2 : Int32) (a3 : Option Nat) : Option (Int32 × jH) := jck σ (X0_why_b G n σ a0 a1 a2 a3)
set_option maxHeartbeats 4000000 in
set_option maxRecDepth 100000 in
theorem ct_X0_why (l : Launch) (hfl : l.stackTraces = false) (G : jG) (n : Nat) (σ : jH) (a0 : Option Nat) (a1 : Int32) (a2 : Int32) (a3 : Option Nat) : jCt l G yX0_why (wsW_ yX0_why cX0_why 5 (some .int) [(0, 10, 13, 22), (0, 10, 17, 13)]) 25 1310 jrI [va_rf a0, .int a1, .int a2, va_rf a3] σ (X0_why G n σ a0 a1 a2 a3) := by
  refine jCt.wrH (hh := [(0, 10, 13, 22), (0, 10, 17, 13)]) (lv := [(0, va_rf a0), (1, .int a1), (2, .int a2), (3, va_rf a3)]) (plainFor_of_name (by decide)) (by simp [lg_sl, va_rf_cat, jcI, jcA, jcJ, jcD, jcF]) (by simp [lv_args, va_rf_cat, jcI, jcA, jcJ, jcD, jcF]) ?_
  intro t p e s m args below meth c ls X hr hnm htab hl
  have X : jCx p c cX0_why 5 s m args RX0 G meth := X
  unfold X0_why_b
  refine J.pu (fun _ _ _ _ k => W.rload_n X.1.1 X.1.2.1 dX0_why_0 rfl (lv_at hl 3 rfl) k) ?_
  refine J.pu (fun _ _ _ _ k => lv_iconst (v := 0) X.1.1 X.1.2.1 dX0_why_1 (by decide) k) ?_
  refine J.pu (fun _ _ _ _ k => W.rload_n X.1.1 X.1.2.1 dX0_why_2 rfl (lv_at hl 0 rfl) k) ?_
  refine J.pu (fun _ _ _ _ k => lv_iload_n X.1.1 X.1.2.1 dX0_why_3 rfl (lv_at hl 1 rfl) k) ?_
  refine J.pu (fun _ _ _ _ k => lv_iload_n X.1.1 X.1.2.1 dX0_why_4 rfl (lv_at hl 2 rfl) k) ?_
  refine J.bind (fun o5 g5 => ?_)
  refine J.hV (q := (RX1, TX1, 9)) (ci := 0) (As := [.int a1, .int a2]) (rest := [.int 0, va_rf a3]) X ⟨rfl, rfl⟩ (ct_X1_why l hfl G n σ o5 a1 a2) (fun _ _ => cwV 2 X.1.2.2.2.2 (lw_V q2525 q2526 q2527 q138 q2528) rfl rfl rfl (by decide +kernel) ⟨(Nat.le_of_ble_eq_true rfl), (Nat.le_of_ble_eq_true rfl)⟩) g5 rfl rfl hl.1 rfl (by simp [va_rf_cat, jcI, jcA, jcJ, jcD, jcF]) dX0_why_5 (fun v5 S5 h5 => ?_) (fun k5 q5 S5 h5 => ?_)
  · refine J.geq (g2 := F0 m 8 ls [.int v5, .int 0, va_rf a3]) rfl ?_
    refine J.pu (fun _ _ _ _ k => lv_i2l (v := v5.toInt64) X.1.1 X.1.2.1 dX0_why_8 rfl k) ?_
    refine J.sJ' X dX0_why_9 (fun S9 h9 => ?_)
    refine J.pu (fun _ _ _ _ k => lv_goto (tgt := 21) X.1.1 X.1.2.1 dX0_why_10 (by decide) k) ?_
    refine J.pu (fun _ _ _ _ k => lv_iconst (v := 0) X.1.1 X.1.2.1 dX0_why_21 (by decide) k) ?_
    exact J.iret (vr := fun t : Int32 × jH => jrI t.1) (fin := Prod.snd) (t := t) X hr (by rfl) (by rfl) dX0_why_22
  · refine Jx.ite (fun k5_0 => ?_) (fun k5_0 => ?_)
    · refine Jx.catch_ (E := "java/lang/IllegalArgumentException") (nm := "java/lang/IllegalArgumentException") X k5_0 rfl [(⟨0, 10, 13, 22⟩ : ExceptionTableEntry)] (⟨0, 10, 17, 13⟩ : ExceptionTableEntry) [] (htab.trans rfl) (List.forall_mem_cons.mpr ⟨(Or.inr ⟨by decide, "java/lang/IndexOutOfBoundsException", q2420, List.mem_of_getElem? (i := 0) rfl⟩), jnil_all⟩) rfl (by decide) q2385 jnc0 ?_
      refine J.astore (r := (some q5)) (lv' := [(4, va_rf (some q5)), (0, va_rf a0), (1, .int a1), (2, .int a2), (3, va_rf a3)]) X.1.1 X.1.2.1 dX0_why_17 hl (by decide) (by first | rfl | simp [va_rf_cat, jcI, jcA, jcJ, jcD, jcF]) (fun ls hl => ?_)
      refine J.pu (fun _ _ _ _ k => lv_iconst (v := 2) X.1.1 X.1.2.1 dX0_why_19 (by decide) k) ?_
      exact J.iret (vr := fun t : Int32 × jH => jrI t.1) (fin := Prod.snd) (t := t) X hr (by rfl) (by rfl) dX0_why_20
    refine Jx.ite (fun k5_2 => ?_) (fun k5_2 => ?_)
    · refine Jx.catch_ (E := "java/lang/IndexOutOfBoundsException") (nm := "java/lang/IndexOutOfBoundsException") X k5_2 rfl [] (⟨0, 10, 13, 22⟩ : ExceptionTableEntry) [(⟨0, 10, 17, 13⟩ : ExceptionTableEntry)] (htab.trans rfl) jnil_all rfl (by decide) q2420 jnc4 ?_
      refine J.astore (r := (some q5)) (lv' := [(4, va_rf (some q5)), (0, va_rf a0), (1, .int a1), (2, .int a2), (3, va_rf a3)]) X.1.1 X.1.2.1 dX0_why_13 hl (by decide) (by first | rfl | simp [va_rf_cat, jcI, jcA, jcJ, jcD, jcF]) (fun ls hl => ?_)
      refine J.pu (fun _ _ _ _ k => lv_iconst (v := 1) X.1.1 X.1.2.1 dX0_why_15 (by decide) k) ?_
      exact J.iret (vr := fun t : Int32 × jH => jrI t.1) (fin := Prod.snd) (t := t) X hr (by rfl) (by rfl) dX0_why_16
    exact Jx.nil_
noncomputable def X1_init_2_b (G : jG) (n : Nat) (σ : jH) (this : Nat) (a1 : Option Nat) : Option (Unit × jH) :=
  bd (nI' σ 1 600) fun v8 S8 => (pR G S8 (some this) 0 0 (some v8)).bind fun S10 => (pI G S10 (some this) 0 3 (-1)).bind fun S15 => bd (nO S15 18 [.null, .int 0, .int 0] 3) fun v19 S19 => bd (jck S19 (dqInit G S19 v19)) fun v23 S23 => (pR G S23 (some this) 0 7 (some v19)).bind fun S26 => bd (nO S26 20 [.null, .int 0, .int 0, .int 0] 4) fun v30 S30 => bd (jck S30 (sbInit G S30 v30)) fun v34 S34 => (pR G S34 (some this) 0 8 (some v30)).bind fun S37 => (pR G S37 (some this) 0 4 a1).bind fun S42 => (rc S42 a1 1).bind fun o47 => bd (X2_twin G n S42 o47) fun v47 S47 => (pR G S47 (some this) 0 6 v47).bind fun S50 => some ((), S50)
noncomputable def X1_init_2 (G : jG) (n : Nat) (σ : jH) (this : Nat) (a1 : Option Nat) : Option (Unit × jH) := jck σ (X1_init_2_b G n σ this a1)
set_option maxHeartbeats 4000000 in
set_option maxRecDepth 100000 in
theorem ct_X1_init_2 (l : Launch) (G : jG) (n : Nat) (σ : jH) (this : Nat) (a1 : Option Nat) : jCt l G yX1_init_2 (ws_ yX1_init_2 cX1_init_2 2 none) 25 1312 jrV [.ref this, va_rf a1] σ (X1_init_2 G n σ this a1) := by
  refine jCt.wr (lv := [(0, .ref this), (1, va_rf a1)]) (plainFor_of_name (by decide)) (by simp [lg_sl, va_rf_cat, jcI, jcA, jcJ, jcD, jcF]) (by simp [lv_args, va_rf_cat, jcI, jcA, jcJ, jcD, jcF]) ?_
  intro t p e s m args below meth c ls X hr hnm hl
  have X : jCx p c cX1_init_2 2 s m args RX1 G meth := X
  unfold X1_init_2_b
  refine J.pu (fun _ _ _ _ k => lv_aload_n X.1.1 X.1.2.1 dX1_init_2_0 rfl (lv_at hl 0 rfl) k) ?_
  refine J.objI (a := this) X q802 hl.1 dX1_init_2_1 (Nat.le_of_ble_eq_true rfl) (Nat.le_of_ble_eq_true rfl) ?_
  refine J.pu (fun _ _ _ _ k => lv_aload_n X.1.1 X.1.2.1 dX1_init_2_4 rfl (lv_at hl 0 rfl) k) ?_
  refine J.pu (fun _ _ _ _ k => lv_sipush (v := 600) X.1.1 X.1.2.1 dX1_init_2_5 (by decide) k) ?_
  refine J.nI1 X ⟨rfl, rfl⟩ dX1_init_2_8 (fun v8 S8 h8 => ?_)
  refine J.putRF (k := 0) (ci := 0) X hnm in_X1 (show jCl[0]? = some (RX1, TX1, 9) from rfl) tyX1_ok (fun a ha b hb h => Or.inl (nmX1 a ha b hb h)) (by decide) q1323 (fun _ h => h) rfl rfl (Or.inr ⟨_, rfl⟩) dX1_init_2_10 (fun S10 h10 => ?_)
  refine J.pu (fun _ _ _ _ k => lv_aload_n X.1.1 X.1.2.1 dX1_init_2_13 rfl (lv_at hl 0 rfl) k) ?_
  refine J.pu (fun _ _ _ _ k => lv_iconst (v := (-1)) X.1.1 X.1.2.1 dX1_init_2_14 (by decide) k) ?_
  refine J.putI (k := 3) (ci := 0) X in_X1 (show jCl[0]? = some (RX1, TX1, 9) from rfl) tyX1_ok (fun a ha b hb h => Or.inl (nmX1 a ha b hb h)) (by decide) q1327 (fun _ h => h) rfl rfl dX1_init_2_15 (fun S15 h15 => ?_)
  refine J.pu (fun _ _ _ _ k => lv_aload_n X.1.1 X.1.2.1 dX1_init_2_18 rfl (lv_at hl 0 rfl) k) ?_
  refine J.nO' (fs := [.null, .int 0, .int 0]) X ⟨rfl, rfl⟩ in_J20 (show jCl[18]? = some (RJ20, TJ20, 3) from rfl) tyJ20 tyJ20_ok q803 q804 q164 rfl dX1_init_2_19 (fun v19 S19 h19 => ?_)
  refine J.pu (fun _ _ _ _ k => lv_dup X.1.1 X.1.2.1 dX1_init_2_22 rfl k) ?_
  refine J.bd' (fun v23 S23 h23 => ?_)
  refine J.cI (a := v19) (As := []) (rest := [.ref v19, .ref this]) (s2 := [.ref v19, .ref this]) X ⟨rfl, rfl⟩ (ct_J20_init l G S19 v19) h23 (fun _ _ => jcwI 0 X.1.2.2.2.2 q805 q806 q164 q807 rfl rfl rfl (by decide +kernel) ⟨(Nat.le_of_ble_eq_true rfl), (Nat.le_of_ble_eq_true rfl)⟩) rfl hl.1 rfl rfl (Nat.le_of_ble_eq_true rfl) dX1_init_2_23 ?_
  refine J.putRF (k := 7) (ci := 0) X hnm in_X1 (show jCl[0]? = some (RX1, TX1, 9) from rfl) tyX1_ok (fun a ha b hb h => Or.inl (nmX1 a ha b hb h)) (by decide) q1332 (fun _ h => h) rfl rfl (Or.inl ⟨_, rfl⟩) dX1_init_2_26 (fun S26 h26 => ?_)
  refine J.pu (fun _ _ _ _ k => lv_aload_n X.1.1 X.1.2.1 dX1_init_2_29 rfl (lv_at hl 0 rfl) k) ?_
  refine J.nO' (fs := [.null, .int 0, .int 0, .int 0]) X ⟨rfl, rfl⟩ in_J8 (show jCl[20]? = some (RJ8, TJ8, 4) from rfl) tyJ8 tyJ8_ok q820 q273 q148 rfl dX1_init_2_30 (fun v30 S30 h30 => ?_)
  refine J.pu (fun _ _ _ _ k => lv_dup X.1.1 X.1.2.1 dX1_init_2_33 rfl k) ?_
  refine J.bd' (fun v34 S34 h34 => ?_)
  refine J.cI (a := v30) (As := []) (rest := [.ref v30, .ref this]) (s2 := [.ref v30, .ref this]) X ⟨rfl, rfl⟩ (ct_J8_init l G S30 v30) h34 (fun _ _ => jcwI 0 X.1.2.2.2.2 q821 q275 q148 q276 rfl rfl rfl (by decide +kernel) ⟨(Nat.le_of_ble_eq_true rfl), (Nat.le_of_ble_eq_true rfl)⟩) rfl hl.1 rfl rfl (Nat.le_of_ble_eq_true rfl) dX1_init_2_34 ?_
  refine J.putRF (k := 8) (ci := 0) X hnm in_X1 (show jCl[0]? = some (RX1, TX1, 9) from rfl) tyX1_ok (fun a ha b hb h => Or.inl (nmX1 a ha b hb h)) (by decide) q1333 (fun _ h => h) rfl rfl (Or.inl ⟨_, rfl⟩) dX1_init_2_37 (fun S37 h37 => ?_)
  refine J.pu (fun _ _ _ _ k => lv_aload_n X.1.1 X.1.2.1 dX1_init_2_40 rfl (lv_at hl 0 rfl) k) ?_
  refine J.pu (fun _ _ _ _ k => W.rload_n X.1.1 X.1.2.1 dX1_init_2_41 rfl (lv_at hl 1 rfl) k) ?_
  refine J.putR (k := 4) (ci := 0) X in_X1 (show jCl[0]? = some (RX1, TX1, 9) from rfl) tyX1_ok (fun a ha b hb h => Or.inl (nmX1 a ha b hb h)) (by decide) q1329 (fun _ h => h) rfl (Or.inl ⟨_, rfl⟩) dX1_init_2_42 (fun S42 h42 => ?_)
  refine J.pu (fun _ _ _ _ k => lv_aload_n X.1.1 X.1.2.1 dX1_init_2_45 rfl (lv_at hl 0 rfl) k) ?_
  refine J.pu (fun _ _ _ _ k => W.rload_n X.1.1 X.1.2.1 dX1_init_2_46 rfl (lv_at hl 1 rfl) k) ?_
  refine J.bind (fun o47 g47 => ?_)
  refine J.bd' (fun v47 S47 h47 => ?_)
  refine J.cV (q := (RX2, TX2, 9)) (ci := 1) (As := []) (rest := [.ref this]) (s2 := [va_rf v47, .ref this]) X ⟨rfl, rfl⟩ (ct_X2_twin l G n S42 o47) h47 (fun _ _ => cwV 0 X.1.2.2.2.2 (lw_V q822 q823 q824 q139 q825) rfl rfl rfl (by decide +kernel) ⟨(Nat.le_of_ble_eq_true rfl), (Nat.le_of_ble_eq_true rfl)⟩) g47 rfl rfl hl.1 rfl rfl (Nat.le_of_ble_eq_true rfl) dX1_init_2_47 ?_
  refine J.putR (k := 6) (ci := 0) X in_X1 (show jCl[0]? = some (RX1, TX1, 9) from rfl) tyX1_ok (fun a ha b hb h => Or.inl (nmX1 a ha b hb h)) (by decide) q1331 (fun _ h => h) rfl (Or.inl ⟨_, rfl⟩) dX1_init_2_50 (fun S50 h50 => ?_)
  exact J.vret (vr := fun t : Unit × jH => jrV t.1) (fin := Prod.snd) (t := t) X hr (by rfl) (by rfl) dX1_init_2_53
noncomputable def X1_changed_j20 (G : jG) (n : Nat) (this : Nat) (B20 : jH) : Option ((Option Nat) × jH) :=
  (gR B20 (some this) 0 7).bind fun v21 => (gR B20 (some this) 0 4).bind fun v25 => (rc B20 v21 18).bind fun o28 => bd (jck B20 (dqAdd G B20 o28 v25)) fun v28 S28 => (gR S28 (some this) 0 4).bind fun v33 => (rc S28 v33 1).bind fun o36 => bd (X2_twin G n S28 o36) fun v36 S36 => (pR G S36 (some this) 0 4 v36).bind fun S39 => (gR S39 (some this) 0 4).bind fun v43 => some (v43, S39)
noncomputable def X1_changed_b (G : jG) (n : Nat) (σ : jH) (this : Nat) : Option ((Option Nat) × jH) :=
  (gR σ (some this) 0 7).bind fun v1 => (rc σ v1 18).bind fun o4 => (dqSize σ o4).bind fun v4 => if v4 = 8 then ((gR σ (some this) 0 7).bind fun v13 => (rc σ v13 18).bind fun o16 => bd (jck σ (dqFirst G σ o16)) fun v16 S16 => X1_changed_j20 G n this S16) else (X1_changed_j20 G n this σ)
noncomputable def X1_changed (G : jG) (n : Nat) (σ : jH) (this : Nat) : Option ((Option Nat) × jH) := jck σ (X1_changed_b G n σ this)
set_option maxHeartbeats 4000000 in
set_option maxRecDepth 100000 in
theorem ct_X1_changed (l : Launch) (G : jG) (n : Nat) (σ : jH) (this : Nat) : jCt l G yX1_changed (ws_ yX1_changed cX1_changed 1 (some (.object "SortingLoop$Loop"))) 25 1312 jrR [.ref this] σ (X1_changed G n σ this) := by
  refine jCt.wr (lv := [(0, .ref this)]) (plainFor_of_name (by decide)) (Nat.le_of_ble_eq_true rfl) rfl ?_
  intro t p e s m args below meth c ls X hr hnm hl
  have X : jCx p c cX1_changed 1 s m args RX1 G meth := X
  have j20 : ∀ (B20 : jH) (ls : Array Slot), lv_has ls 1 [(0, .ref this)] → jGo l G 25 1312 σ (Prod.snd : (Option Nat) × jH → jH) (fun t => jrR t.1) t p e s m args below meth c (X1_changed_j20 G n this B20) B20 (F0 m 20 ls []) := by
    intro B20 ls hl
    unfold X1_changed_j20
    refine J.pu (fun _ _ _ _ k => lv_aload_n X.1.1 X.1.2.1 dX1_changed_20 rfl (lv_at hl 0 rfl) k) ?_
    refine J.getR (k := 7) (ci := 0) X in_X1 (show jCl[0]? = some (RX1, TX1, 9) from rfl) (by decide) q1332 (fun _ h => h) dX1_changed_21 (fun v21 h21 => ?_)
    refine J.pu (fun _ _ _ _ k => lv_aload_n X.1.1 X.1.2.1 dX1_changed_24 rfl (lv_at hl 0 rfl) k) ?_
    refine J.getR (k := 4) (ci := 0) X in_X1 (show jCl[0]? = some (RX1, TX1, 9) from rfl) (by decide) q1329 (fun _ h => h) dX1_changed_25 (fun v25 h25 => ?_)
    refine J.bind (fun o28 g28 => ?_)
    refine J.bd' (fun v28 S28 h28 => ?_)
    refine J.cV (q := (RJ20, TJ20, 3)) (ci := 18) (As := [va_rf v25]) (rest := []) (s2 := []) X ⟨rfl, rfl⟩ (ct_J20_addLast l G B20 o28 v25) h28 (fun _ _ => cwV 1 X.1.2.2.2.2 (lw_V q1923 q1924 q1925 q164 q1926) rfl rfl rfl (by decide +kernel) ⟨(Nat.le_of_ble_eq_true rfl), (Nat.le_of_ble_eq_true rfl)⟩) g28 rfl rfl hl.1 rfl rfl (Nat.le_of_ble_eq_true rfl) dX1_changed_28 ?_
    refine J.pu (fun _ _ _ _ k => lv_aload_n X.1.1 X.1.2.1 dX1_changed_31 rfl (lv_at hl 0 rfl) k) ?_
    refine J.pu (fun _ _ _ _ k => lv_aload_n X.1.1 X.1.2.1 dX1_changed_32 rfl (lv_at hl 0 rfl) k) ?_
    refine J.getR (k := 4) (ci := 0) X in_X1 (show jCl[0]? = some (RX1, TX1, 9) from rfl) (by decide) q1329 (fun _ h => h) dX1_changed_33 (fun v33 h33 => ?_)
    refine J.bind (fun o36 g36 => ?_)
    refine J.bd' (fun v36 S36 h36 => ?_)
    refine J.cV (q := (RX2, TX2, 9)) (ci := 1) (As := []) (rest := [.ref this]) (s2 := [va_rf v36, .ref this]) X ⟨rfl, rfl⟩ (ct_X2_twin l G n S28 o36) h36 (fun _ _ => cwV 0 X.1.2.2.2.2 (lw_V q822 q823 q824 q139 q825) rfl rfl rfl (by decide +kernel) ⟨(Nat.le_of_ble_eq_true rfl), (Nat.le_of_ble_eq_true rfl)⟩) g36 rfl rfl hl.1 rfl rfl (Nat.le_of_ble_eq_true rfl) dX1_changed_36 ?_
    refine J.putR (k := 4) (ci := 0) X in_X1 (show jCl[0]? = some (RX1, TX1, 9) from rfl) tyX1_ok (fun a ha b hb h => Or.inl (nmX1 a ha b hb h)) (by decide) q1329 (fun _ h => h) rfl (Or.inl ⟨_, rfl⟩) dX1_changed_39 (fun S39 h39 => ?_)
    refine J.pu (fun _ _ _ _ k => lv_aload_n X.1.1 X.1.2.1 dX1_changed_42 rfl (lv_at hl 0 rfl) k) ?_
    refine J.getR (k := 4) (ci := 0) X in_X1 (show jCl[0]? = some (RX1, TX1, 9) from rfl) (by decide) q1329 (fun _ h => h) dX1_changed_43 (fun v43 h43 => ?_)
    exact J.aret (vr := fun t : (Option Nat) × jH => jrR t.1) (fin := Prod.snd) (t := t) X hr (Or.inl ⟨_, rfl⟩) (by rfl) (by rfl) dX1_changed_46
  unfold X1_changed_b
  refine J.pu (fun _ _ _ _ k => lv_aload_n X.1.1 X.1.2.1 dX1_changed_0 rfl (lv_at hl 0 rfl) k) ?_
  refine J.getR (k := 7) (ci := 0) X in_X1 (show jCl[0]? = some (RX1, TX1, 9) from rfl) (by decide) q1332 (fun _ h => h) dX1_changed_1 (fun v1 h1 => ?_)
  refine J.bind (fun o4 g4 => ?_)
  refine J.bind (fun v4 h4 => ?_)
  refine J.cV (q := (RJ20, TJ20, 3)) (ci := 18) (As := []) (rest := []) (s2 := [.int v4]) X ⟨rfl, rfl⟩ (ct_J20_size l G σ o4) (jrd_of h4) (fun _ _ => cwV 0 X.1.2.2.2.2 (lw_V q1906 q1738 q3342 q164 q1739) rfl rfl rfl (by decide +kernel) ⟨(Nat.le_of_ble_eq_true rfl), (Nat.le_of_ble_eq_true rfl)⟩) g4 rfl rfl hl.1 rfl rfl (Nat.le_of_ble_eq_true rfl) dX1_changed_4 ?_
  refine J.pu (fun _ _ _ _ k => lv_bipush (v := 8) X.1.1 X.1.2.1 dX1_changed_7 (by decide) k) ?_
  refine J.br (fun _ _ _ _ ka kb => lv_icmp_ne (tgt := 20) X.1.1 X.1.2.1 dX1_changed_9 (by decide) kb ka) (fun c9 => ?_) (fun c9 => ?_)
  · refine J.pu (fun _ _ _ _ k => lv_aload_n X.1.1 X.1.2.1 dX1_changed_12 rfl (lv_at hl 0 rfl) k) ?_
    refine J.getR (k := 7) (ci := 0) X in_X1 (show jCl[0]? = some (RX1, TX1, 9) from rfl) (by decide) q1332 (fun _ h => h) dX1_changed_13 (fun v13 h13 => ?_)
    refine J.bind (fun o16 g16 => ?_)
    refine J.bd' (fun v16 S16 h16 => ?_)
    refine J.cV (q := (RJ20, TJ20, 3)) (ci := 18) (As := []) (rest := []) (s2 := [va_rf v16]) X ⟨rfl, rfl⟩ (ct_J20_removeFirst l G σ o16) h16 (fun _ _ => cwV 0 X.1.2.2.2.2 (lw_V q1907 q1908 q1909 q164 q1910) rfl rfl rfl (by decide +kernel) ⟨(Nat.le_of_ble_eq_true rfl), (Nat.le_of_ble_eq_true rfl)⟩) g16 rfl rfl hl.1 rfl rfl (Nat.le_of_ble_eq_true rfl) dX1_changed_16 ?_
    refine J.pu (fun _ _ _ _ k => lv_pop X.1.1 X.1.2.1 dX1_changed_19 (va_rf_cat _) k) ?_
    exact j20 S16 ls (lv_sub hl [0] rfl)
  · exact j20 σ ls (lv_sub hl [0] rfl)
noncomputable def X1_saveState_b (G : jG) (n : Nat) (σ : jH) (this : Nat) : Option (Int32 × jH) :=
  (gR σ (some this) 0 4).bind fun v2 => (rc σ v2 1).bind fun o5 => bd (X2_twin G n σ o5) fun v5 S5 => (pR G S5 (some this) 0 5 v5).bind fun S8 => (gR S8 (some this) 0 4).bind fun v12 => (gI S8 v12 1 7).bind fun v15 => some (v15, S8)
noncomputable def X1_saveState (G : jG) (n : Nat) (σ : jH) (this : Nat) : Option (Int32 × jH) := jck σ (X1_saveState_b G n σ this)
set_option maxHeartbeats 4000000 in
set_option maxRecDepth 100000 in
theorem ct_X1_saveState (l : Launch) (G : jG) (n : Nat) (σ : jH) (this : Nat) : jCt l G yX1_saveState (ws_ yX1_saveState cX1_saveState 1 (some .int)) 25 1312 jrI [.ref this] σ (X1_saveState G n σ this) := by
  refine jCt.wr (lv := [(0, .ref this)]) (plainFor_of_name (by decide)) (Nat.le_of_ble_eq_true rfl) rfl ?_
  intro t p e s m args below meth c ls X hr hnm hl
  have X : jCx p c cX1_saveState 1 s m args RX1 G meth := X
  unfold X1_saveState_b
  refine J.pu (fun _ _ _ _ k => lv_aload_n X.1.1 X.1.2.1 dX1_saveState_0 rfl (lv_at hl 0 rfl) k) ?_
  refine J.pu (fun _ _ _ _ k => lv_aload_n X.1.1 X.1.2.1 dX1_saveState_1 rfl (lv_at hl 0 rfl) k) ?_
  refine J.getR (k := 4) (ci := 0) X in_X1 (show jCl[0]? = some (RX1, TX1, 9) from rfl) (by decide) q1329 (fun _ h => h) dX1_saveState_2 (fun v2 h2 => ?_)
  refine J.bind (fun o5 g5 => ?_)
  refine J.bd' (fun v5 S5 h5 => ?_)
  refine J.cV (q := (RX2, TX2, 9)) (ci := 1) (As := []) (rest := [.ref this]) (s2 := [va_rf v5, .ref this]) X ⟨rfl, rfl⟩ (ct_X2_twin l G n σ o5) h5 (fun _ _ => cwV 0 X.1.2.2.2.2 (lw_V q822 q823 q824 q139 q825) rfl rfl rfl (by decide +kernel) ⟨(Nat.le_of_ble_eq_true rfl), (Nat.le_of_ble_eq_true rfl)⟩) g5 rfl rfl hl.1 rfl rfl (Nat.le_of_ble_eq_true rfl) dX1_saveState_5 ?_
  refine J.putR (k := 5) (ci := 0) X in_X1 (show jCl[0]? = some (RX1, TX1, 9) from rfl) tyX1_ok (fun a ha b hb h => Or.inl (nmX1 a ha b hb h)) (by decide) q1330 (fun _ h => h) rfl (Or.inl ⟨_, rfl⟩) dX1_saveState_8 (fun S8 h8 => ?_)
  refine J.pu (fun _ _ _ _ k => lv_aload_n X.1.1 X.1.2.1 dX1_saveState_11 rfl (lv_at hl 0 rfl) k) ?_
  refine J.getR (k := 4) (ci := 0) X in_X1 (show jCl[0]? = some (RX1, TX1, 9) from rfl) (by decide) q1329 (fun _ h => h) dX1_saveState_12 (fun v12 h12 => ?_)
  refine J.getIN (k := 7) (ci := 1) X in_X2 (show jCl[1]? = some (RX2, TX2, 9) from rfl) (by decide) jnf14 (fun _ h => h) dX1_saveState_15 (fun v15 h15 => ?_)
  exact J.iret (vr := fun t : Int32 × jH => jrI t.1) (fin := Prod.snd) (t := t) X hr (by rfl) (by rfl) dX1_saveState_18
noncomputable def X1_put_j33 (G : jG) (n : Nat) (this : Nat) (a1 : Int32) (a2 : Int32) (s0_33 : Int32) (B33 : jH) : Option (jTh Int32 × jH) :=
  tb (X1_checkState G n B33 s0_33) fun v33 S33 => (rc S33 (some this) 0).bind fun o37 => bd (X1_changed G n S33 o37) fun v37 S37 => (rc S37 v37 1).bind fun o42 => bd (X2_puts G n S37 o42 a1 a2) fun v42 S42 => some (.inl v42, S42)
noncomputable def X1_put_b (G : jG) (n : Nat) (σ : jH) (this : Nat) (a1 : Int32) (a2 : Int32) : Option (jTh Int32 × jH) :=
  (rc σ (some this) 0).bind fun o2 => tb (X1_chuteAt G n σ o2 a1) fun v2 S2 => (X1_isIn G n S2 a2.toInt64 0 5).bind fun v12 => tb (X1_checkArgument G n S2 v12) fun v15 S15 => (gR S15 (some this) 0 4).bind fun v19 => (rc S15 v19 1).bind fun o22 => (X2_againstPut G n S15 o22).bind fun v22 => if v22 = 0 then (X1_put_j33 G n this a1 a2 1 S15) else (X1_put_j33 G n this a1 a2 0 S15)
noncomputable def X1_put (G : jG) (n : Nat) (σ : jH) (this : Nat) (a1 : Int32) (a2 : Int32) : Option (jTh Int32 × jH) := jck σ (X1_put_b G n σ this a1 a2)
set_option maxHeartbeats 4000000 in
set_option maxRecDepth 100000 in
theorem ct_X1_put (l : Launch) (hfl : l.stackTraces = false) (G : jG) (n : Nat) (σ : jH) (this : Nat) (a1 : Int32) (a2 : Int32) : jTt l G yX1_put (ws_ yX1_put cX1_put 4 (some .int)) 26 1332 jrI [.ref this, .int a1, .int a2] σ (X1_put G n σ this a1 a2) := by
  refine jTt.wr (lv := [(0, .ref this), (1, .int a1), (2, .int a2)]) rfl (Nat.le_of_ble_eq_true rfl) rfl ?_
  intro t p e s m args below meth c ls X hr hnm hout hl
  have X : jCx p c cX1_put 4 s m args RX1 G meth := X
  have j33 : ∀ (s0_33 : Int32) (B33 : jH) (ls : Array Slot), lv_has ls 4 [(0, .ref this), (1, .int a1), (2, .int a2)] → jGoT l G 26 1332 σ jrI t p e s m args below meth c (X1_put_j33 G n this a1 a2 s0_33 B33) B33 (F0 m 33 ls [.int s0_33]) := by
    intro s0_33 B33 ls hl
    unfold X1_put_j33
    refine J.tS (As := [.int s0_33]) (rest := []) X hout ⟨rfl, rfl⟩ (ct_X1_checkState l hfl G n B33 s0_33) (fun _ _ => va_cwS 1 X.1.2.2.2.2 (lw_S q2630 q2631 q138 q2632) rfl rfl rfl (by decide +kernel) ⟨(Nat.le_of_ble_eq_true rfl), (Nat.le_of_ble_eq_true rfl)⟩) rfl hl.1 rfl (Nat.le_of_ble_eq_true rfl) dX1_put_33 (fun v33 S33 h33 => ?_)
    refine J.geq (g2 := F0 m 36 ls []) rfl ?_
    refine J.pu (fun _ _ _ _ k => lv_aload_n X.1.1 X.1.2.1 dX1_put_36 rfl (lv_at hl 0 rfl) k) ?_
    refine J.bind (fun o37 g37 => ?_)
    refine J.bd' (fun v37 S37 h37 => ?_)
    refine J.cV (q := (RX1, TX1, 9)) (ci := 0) (As := []) (rest := []) (s2 := [va_rf v37]) X ⟨rfl, rfl⟩ (ct_X1_changed l G n S33 o37) h37 (fun _ _ => cwV 0 X.1.2.2.2.2 (lw_V q1902 q1904 qs29 q138 q1905) rfl rfl rfl (by decide +kernel) ⟨(Nat.le_of_ble_eq_true rfl), (Nat.le_of_ble_eq_true rfl)⟩) g37 rfl rfl hl.1 rfl rfl (Nat.le_of_ble_eq_true rfl) dX1_put_37 ?_
    refine J.pu (fun _ _ _ _ k => lv_iload_n X.1.1 X.1.2.1 dX1_put_40 rfl (lv_at hl 1 rfl) k) ?_
    refine J.pu (fun _ _ _ _ k => lv_iload_n X.1.1 X.1.2.1 dX1_put_41 rfl (lv_at hl 2 rfl) k) ?_
    refine J.bind (fun o42 g42 => ?_)
    refine J.bd' (fun v42 S42 h42 => ?_)
    refine J.cV (q := (RX2, TX2, 9)) (ci := 1) (As := [.int a1, .int a2]) (rest := []) (s2 := [.int v42]) X ⟨rfl, rfl⟩ (ct_X2_puts l G n S37 o42 a1 a2) h42 (fun _ _ => cwV 2 X.1.2.2.2.2 (lw_V q2638 q2012 q2013 q139 q2014) rfl rfl rfl (by decide +kernel) ⟨(Nat.le_of_ble_eq_true rfl), (Nat.le_of_ble_eq_true rfl)⟩) g42 rfl rfl hl.1 rfl rfl (Nat.le_of_ble_eq_true rfl) dX1_put_42 ?_
    exact J.tret (J.iret (vr := fun t : Int32 × jH => jrI t.1) (fin := (Prod.snd : Int32 × jH → jH)) (t := (v42, S42)) X hr (by rfl) (by rfl) dX1_put_45)
  unfold X1_put_b
  refine J.pu (fun _ _ _ _ k => lv_aload_n X.1.1 X.1.2.1 dX1_put_0 rfl (lv_at hl 0 rfl) k) ?_
  refine J.pu (fun _ _ _ _ k => lv_iload_n X.1.1 X.1.2.1 dX1_put_1 rfl (lv_at hl 1 rfl) k) ?_
  refine J.bind (fun o2 g2 => ?_)
  refine J.tV (q := (RX1, TX1, 9)) (ci := 0) (As := [.int a1]) (rest := []) X hout ⟨rfl, rfl⟩ (ct_X1_chuteAt l hfl G n σ o2 a1) (fun _ _ => cwV 1 X.1.2.2.2.2 (lw_V q2465 q2467 qs48 q138 q2468) rfl rfl rfl (by decide +kernel) ⟨(Nat.le_of_ble_eq_true rfl), (Nat.le_of_ble_eq_true rfl)⟩) g2 rfl rfl hl.1 rfl (Nat.le_of_ble_eq_true rfl) dX1_put_2 (fun v2 S2 h2 => ?_)
  refine J.geq (g2 := F0 m 5 ls [va_rf v2]) rfl ?_
  refine J.astore_n (r := v2) (i := 3) (lv' := [(3, va_rf v2), (0, .ref this), (1, .int a1), (2, .int a2)]) X.1.1 X.1.2.1 dX1_put_5 rfl hl (by decide) (by first | rfl | simp [va_rf_cat, jcI, jcA, jcJ, jcD, jcF]) (fun ls hl => ?_)
  refine J.pu (fun _ _ _ _ k => lv_iload_n X.1.1 X.1.2.1 dX1_put_6 rfl (lv_at hl 3 rfl) k) ?_
  refine J.pu (fun _ _ _ _ k => lv_i2l (v := a2.toInt64) X.1.1 X.1.2.1 dX1_put_7 rfl k) ?_
  refine J.pu (fun _ _ _ _ k => lv_lconst (v := 0) X.1.1 X.1.2.1 dX1_put_8 (by decide) k) ?_
  refine J.pu (fun _ _ _ _ k => lv_ldc2 (v := 5) X.1.1 X.1.2.1 X.1.2.2.2.1 (X.1.2.2.2.2 _ q2629) dX1_put_9 k) ?_
  refine J.bind (fun v12 h12 => ?_)
  refine J.cS (As := [.long a2.toInt64, .long 0, .long 5]) (rest := []) (s2 := [.int v12]) X ⟨rfl, rfl⟩ (ct_X1_isIn l G n S2 a2.toInt64 0 5) (jrd_of h12) (fun _ _ => va_cwS 3 X.1.2.2.2.2 (lw_S q1365 q1366 q138 q1367) rfl rfl rfl (by decide +kernel) ⟨(Nat.le_of_ble_eq_true rfl), (Nat.le_of_ble_eq_true rfl)⟩) rfl hl.1 rfl rfl (Nat.le_of_ble_eq_true rfl) dX1_put_12 ?_
  refine J.tS (As := [.int v12]) (rest := []) X hout ⟨rfl, rfl⟩ (ct_X1_checkArgument l hfl G n S2 v12) (fun _ _ => va_cwS 1 X.1.2.2.2.2 (lw_S q2414 q2415 q138 q2416) rfl rfl rfl (by decide +kernel) ⟨(Nat.le_of_ble_eq_true rfl), (Nat.le_of_ble_eq_true rfl)⟩) rfl hl.1 rfl (Nat.le_of_ble_eq_true rfl) dX1_put_15 (fun v15 S15 h15 => ?_)
  refine J.geq (g2 := F0 m 18 ls []) rfl ?_
  refine J.pu (fun _ _ _ _ k => lv_aload_n X.1.1 X.1.2.1 dX1_put_18 rfl (lv_at hl 1 rfl) k) ?_
  refine J.getR (k := 4) (ci := 0) X in_X1 (show jCl[0]? = some (RX1, TX1, 9) from rfl) (by decide) q1329 (fun _ h => h) dX1_put_19 (fun v19 h19 => ?_)
  refine J.bind (fun o22 g22 => ?_)
  refine J.bind (fun v22 h22 => ?_)
  refine J.cV (q := (RX2, TX2, 9)) (ci := 1) (As := []) (rest := []) (s2 := [.int v22]) X ⟨rfl, rfl⟩ (ct_X2_againstPut l G n S15 o22) (jrd_of h22) (fun _ _ => cwV 0 X.1.2.2.2.2 (lw_V q2157 q1996 q1997 q139 q1998) rfl rfl rfl (by decide +kernel) ⟨(Nat.le_of_ble_eq_true rfl), (Nat.le_of_ble_eq_true rfl)⟩) g22 rfl rfl hl.1 rfl rfl (Nat.le_of_ble_eq_true rfl) dX1_put_22 ?_
  refine J.br (fun _ _ _ _ ka kb => lv_if_ne (tgt := 32) X.1.1 X.1.2.1 dX1_put_25 (by decide) kb ka) (fun c25 => ?_) (fun c25 => ?_)
  · refine J.pu (fun _ _ _ _ k => lv_iconst (v := 1) X.1.1 X.1.2.1 dX1_put_28 (by decide) k) ?_
    refine J.pu (fun _ _ _ _ k => lv_goto (tgt := 33) X.1.1 X.1.2.1 dX1_put_29 (by decide) k) ?_
    exact j33 1 S15 ls (lv_sub hl [1, 2, 3] rfl)
  · refine J.pu (fun _ _ _ _ k => lv_iconst (v := 0) X.1.1 X.1.2.1 dX1_put_32 (by decide) k) ?_
    exact j33 0 S15 ls (lv_sub hl [1, 2, 3] rfl)
noncomputable def X1_slip_j20 (G : jG) (n : Nat) (this : Nat) (a1 : Int32) (s0_20 : Int32) (B20 : jH) : Option (jTh Int32 × jH) :=
  tb (X1_checkState G n B20 s0_20) fun v20 S20 => (rc S20 (some this) 0).bind fun o24 => bd (X1_changed G n S20 o24) fun v24 S24 => (rc S24 v24 1).bind fun o31 => (X2_parcel G n S24 o31 a1).bind fun v31 => (rc S24 v24 1).bind fun o34 => bd (X2_slips G n S24 o34 v31) fun v34 S34 => some (.inl v34, S34)
noncomputable def X1_slip_b (G : jG) (n : Nat) (σ : jH) (this : Nat) (a1 : Int32) : Option (jTh Int32 × jH) :=
  (gR σ (some this) 0 4).bind fun v1 => (rc σ (some this) 0).bind fun o6 => tb (X1_parcelAt G n σ o6 a1) fun v6 S6 => (rc S6 v1 1).bind fun o9 => (X2_againstSlip G n S6 o9 v6).bind fun v9 => if v9 = 0 then (X1_slip_j20 G n this a1 1 S6) else (X1_slip_j20 G n this a1 0 S6)
noncomputable def X1_slip (G : jG) (n : Nat) (σ : jH) (this : Nat) (a1 : Int32) : Option (jTh Int32 × jH) := jck σ (X1_slip_b G n σ this a1)
set_option maxHeartbeats 4000000 in
set_option maxRecDepth 100000 in
theorem ct_X1_slip (l : Launch) (hfl : l.stackTraces = false) (G : jG) (n : Nat) (σ : jH) (this : Nat) (a1 : Int32) : jTt l G yX1_slip (ws_ yX1_slip cX1_slip 3 (some .int)) 26 1332 jrI [.ref this, .int a1] σ (X1_slip G n σ this a1) := by
  refine jTt.wr (lv := [(0, .ref this), (1, .int a1)]) rfl (Nat.le_of_ble_eq_true rfl) rfl ?_
  intro t p e s m args below meth c ls X hr hnm hout hl
  have X : jCx p c cX1_slip 3 s m args RX1 G meth := X
  have j20 : ∀ (s0_20 : Int32) (B20 : jH) (ls : Array Slot), lv_has ls 3 [(0, .ref this), (1, .int a1)] → jGoT l G 26 1332 σ jrI t p e s m args below meth c (X1_slip_j20 G n this a1 s0_20 B20) B20 (F0 m 20 ls [.int s0_20]) := by
    intro s0_20 B20 ls hl
    unfold X1_slip_j20
    refine J.tS (As := [.int s0_20]) (rest := []) X hout ⟨rfl, rfl⟩ (ct_X1_checkState l hfl G n B20 s0_20) (fun _ _ => va_cwS 1 X.1.2.2.2.2 (lw_S q2630 q2631 q138 q2632) rfl rfl rfl (by decide +kernel) ⟨(Nat.le_of_ble_eq_true rfl), (Nat.le_of_ble_eq_true rfl)⟩) rfl hl.1 rfl (Nat.le_of_ble_eq_true rfl) dX1_slip_20 (fun v20 S20 h20 => ?_)
    refine J.geq (g2 := F0 m 23 ls []) rfl ?_
    refine J.pu (fun _ _ _ _ k => lv_aload_n X.1.1 X.1.2.1 dX1_slip_23 rfl (lv_at hl 0 rfl) k) ?_
    refine J.bind (fun o24 g24 => ?_)
    refine J.bd' (fun v24 S24 h24 => ?_)
    refine J.cV (q := (RX1, TX1, 9)) (ci := 0) (As := []) (rest := []) (s2 := [va_rf v24]) X ⟨rfl, rfl⟩ (ct_X1_changed l G n S20 o24) h24 (fun _ _ => cwV 0 X.1.2.2.2.2 (lw_V q1902 q1904 qs29 q138 q1905) rfl rfl rfl (by decide +kernel) ⟨(Nat.le_of_ble_eq_true rfl), (Nat.le_of_ble_eq_true rfl)⟩) g24 rfl rfl hl.1 rfl rfl (Nat.le_of_ble_eq_true rfl) dX1_slip_24 ?_
    refine J.astore_n (r := v24) (i := 2) (lv' := [(2, va_rf v24), (0, .ref this), (1, .int a1)]) X.1.1 X.1.2.1 dX1_slip_27 rfl hl (by decide) (by first | rfl | simp [va_rf_cat, jcI, jcA, jcJ, jcD, jcF]) (fun ls hl => ?_)
    refine J.pu (fun _ _ _ _ k => W.rload_n X.1.1 X.1.2.1 dX1_slip_28 rfl (lv_at hl 0 rfl) k) ?_
    refine J.pu (fun _ _ _ _ k => W.rload_n X.1.1 X.1.2.1 dX1_slip_29 rfl (lv_at hl 0 rfl) k) ?_
    refine J.pu (fun _ _ _ _ k => lv_iload_n X.1.1 X.1.2.1 dX1_slip_30 rfl (lv_at hl 2 rfl) k) ?_
    refine J.bind (fun o31 g31 => ?_)
    refine J.bind (fun v31 h31 => ?_)
    refine J.cV (q := (RX2, TX2, 9)) (ci := 1) (As := [.int a1]) (rest := [va_rf v24]) (s2 := [va_rf v31, va_rf v24]) X ⟨rfl, rfl⟩ (ct_X2_parcel l G n S24 o31 a1) (jrd_of h31) (fun _ _ => cwV 1 X.1.2.2.2.2 (lw_V q2179 q943 q944 q139 q945) rfl rfl rfl (by decide +kernel) ⟨(Nat.le_of_ble_eq_true rfl), (Nat.le_of_ble_eq_true rfl)⟩) g31 rfl rfl hl.1 rfl rfl (by simp [va_rf_cat, jcI, jcA, jcJ, jcD, jcF]) dX1_slip_31 ?_
    refine J.bind (fun o34 g34 => ?_)
    refine J.bd' (fun v34 S34 h34 => ?_)
    refine J.cV (q := (RX2, TX2, 9)) (ci := 1) (As := [va_rf v31]) (rest := []) (s2 := [.int v34]) X ⟨rfl, rfl⟩ (ct_X2_slips l G n S24 o34 v31) h34 (fun _ _ => cwV 1 X.1.2.2.2.2 (lw_V q2653 q2043 q2044 q139 q2045) rfl rfl rfl (by decide +kernel) ⟨(Nat.le_of_ble_eq_true rfl), (Nat.le_of_ble_eq_true rfl)⟩) g34 rfl rfl hl.1 rfl rfl (Nat.le_of_ble_eq_true rfl) dX1_slip_34 ?_
    exact J.tret (J.iret (vr := fun t : Int32 × jH => jrI t.1) (fin := (Prod.snd : Int32 × jH → jH)) (t := (v34, S34)) X hr (by rfl) (by rfl) dX1_slip_37)
  unfold X1_slip_b
  refine J.pu (fun _ _ _ _ k => lv_aload_n X.1.1 X.1.2.1 dX1_slip_0 rfl (lv_at hl 0 rfl) k) ?_
  refine J.getR (k := 4) (ci := 0) X in_X1 (show jCl[0]? = some (RX1, TX1, 9) from rfl) (by decide) q1329 (fun _ h => h) dX1_slip_1 (fun v1 h1 => ?_)
  refine J.pu (fun _ _ _ _ k => lv_aload_n X.1.1 X.1.2.1 dX1_slip_4 rfl (lv_at hl 0 rfl) k) ?_
  refine J.pu (fun _ _ _ _ k => lv_iload_n X.1.1 X.1.2.1 dX1_slip_5 rfl (lv_at hl 1 rfl) k) ?_
  refine J.bind (fun o6 g6 => ?_)
  refine J.tV (q := (RX1, TX1, 9)) (ci := 0) (As := [.int a1]) (rest := [va_rf v1]) X hout ⟨rfl, rfl⟩ (ct_X1_parcelAt l hfl G n σ o6 a1) (fun _ _ => cwV 1 X.1.2.2.2.2 (lw_V q2454 q2456 qs47 q138 q2457) rfl rfl rfl (by decide +kernel) ⟨(Nat.le_of_ble_eq_true rfl), (Nat.le_of_ble_eq_true rfl)⟩) g6 rfl rfl hl.1 rfl (by simp [va_rf_cat, jcI, jcA, jcJ, jcD, jcF]) dX1_slip_6 (fun v6 S6 h6 => ?_)
  refine J.geq (g2 := F0 m 9 ls [va_rf v6, va_rf v1]) rfl ?_
  refine J.bind (fun o9 g9 => ?_)
  refine J.bind (fun v9 h9 => ?_)
  refine J.cV (q := (RX2, TX2, 9)) (ci := 1) (As := [va_rf v6]) (rest := []) (s2 := [.int v9]) X ⟨rfl, rfl⟩ (ct_X2_againstSlip l G n S6 o9 v6) (jrd_of h9) (fun _ _ => cwV 1 X.1.2.2.2.2 (lw_V q2555 q2039 q2040 q139 q2041) rfl rfl rfl (by decide +kernel) ⟨(Nat.le_of_ble_eq_true rfl), (Nat.le_of_ble_eq_true rfl)⟩) g9 rfl rfl hl.1 rfl rfl (Nat.le_of_ble_eq_true rfl) dX1_slip_9 ?_
  refine J.br (fun _ _ _ _ ka kb => lv_if_ne (tgt := 19) X.1.1 X.1.2.1 dX1_slip_12 (by decide) kb ka) (fun c12 => ?_) (fun c12 => ?_)
  · refine J.pu (fun _ _ _ _ k => lv_iconst (v := 1) X.1.1 X.1.2.1 dX1_slip_15 (by decide) k) ?_
    refine J.pu (fun _ _ _ _ k => lv_goto (tgt := 20) X.1.1 X.1.2.1 dX1_slip_16 (by decide) k) ?_
    exact j20 1 S6 ls (lv_sub hl [0, 1] rfl)
  · refine J.pu (fun _ _ _ _ k => lv_iconst (v := 0) X.1.1 X.1.2.1 dX1_slip_19 (by decide) k) ?_
    exact j20 0 S6 ls (lv_sub hl [0, 1] rfl)
noncomputable def X1_empty_b (G : jG) (n : Nat) (σ : jH) (this : Nat) (a1 : Int32) : Option (jTh Int32 × jH) :=
  (rc σ (some this) 0).bind fun o2 => tb (X1_chuteAt G n σ o2 a1) fun v2 S2 => (rc S2 (some this) 0).bind fun o7 => bd (X1_changed G n S2 o7) fun v7 S7 => (rc S7 v7 1).bind fun o14 => (X2_chute G n S7 o14 a1).bind fun v14 => (rc S7 v7 1).bind fun o17 => bd (X2_empties G n S7 o17 v14) fun v17 S17 => some (.inl v17, S17)
noncomputable def X1_empty (G : jG) (n : Nat) (σ : jH) (this : Nat) (a1 : Int32) : Option (jTh Int32 × jH) := jck σ (X1_empty_b G n σ this a1)
set_option maxHeartbeats 4000000 in
set_option maxRecDepth 100000 in
theorem ct_X1_empty (l : Launch) (hfl : l.stackTraces = false) (G : jG) (n : Nat) (σ : jH) (this : Nat) (a1 : Int32) : jTt l G yX1_empty (ws_ yX1_empty cX1_empty 4 (some .int)) 26 1332 jrI [.ref this, .int a1] σ (X1_empty G n σ this a1) := by
  refine jTt.wr (lv := [(0, .ref this), (1, .int a1)]) rfl (Nat.le_of_ble_eq_true rfl) rfl ?_
  intro t p e s m args below meth c ls X hr hnm hout hl
  have X : jCx p c cX1_empty 4 s m args RX1 G meth := X
  unfold X1_empty_b
  refine J.pu (fun _ _ _ _ k => lv_aload_n X.1.1 X.1.2.1 dX1_empty_0 rfl (lv_at hl 0 rfl) k) ?_
  refine J.pu (fun _ _ _ _ k => lv_iload_n X.1.1 X.1.2.1 dX1_empty_1 rfl (lv_at hl 1 rfl) k) ?_
  refine J.bind (fun o2 g2 => ?_)
  refine J.tV (q := (RX1, TX1, 9)) (ci := 0) (As := [.int a1]) (rest := []) X hout ⟨rfl, rfl⟩ (ct_X1_chuteAt l hfl G n σ o2 a1) (fun _ _ => cwV 1 X.1.2.2.2.2 (lw_V q2465 q2467 qs48 q138 q2468) rfl rfl rfl (by decide +kernel) ⟨(Nat.le_of_ble_eq_true rfl), (Nat.le_of_ble_eq_true rfl)⟩) g2 rfl rfl hl.1 rfl (Nat.le_of_ble_eq_true rfl) dX1_empty_2 (fun v2 S2 h2 => ?_)
  refine J.geq (g2 := F0 m 5 ls [va_rf v2]) rfl ?_
  refine J.astore_n (r := v2) (i := 2) (lv' := [(2, va_rf v2), (0, .ref this), (1, .int a1)]) X.1.1 X.1.2.1 dX1_empty_5 rfl hl (by decide) (by first | rfl | simp [va_rf_cat, jcI, jcA, jcJ, jcD, jcF]) (fun ls hl => ?_)
  refine J.pu (fun _ _ _ _ k => lv_aload_n X.1.1 X.1.2.1 dX1_empty_6 rfl (lv_at hl 1 rfl) k) ?_
  refine J.bind (fun o7 g7 => ?_)
  refine J.bd' (fun v7 S7 h7 => ?_)
  refine J.cV (q := (RX1, TX1, 9)) (ci := 0) (As := []) (rest := []) (s2 := [va_rf v7]) X ⟨rfl, rfl⟩ (ct_X1_changed l G n S2 o7) h7 (fun _ _ => cwV 0 X.1.2.2.2.2 (lw_V q1902 q1904 qs29 q138 q1905) rfl rfl rfl (by decide +kernel) ⟨(Nat.le_of_ble_eq_true rfl), (Nat.le_of_ble_eq_true rfl)⟩) g7 rfl rfl hl.1 rfl rfl (Nat.le_of_ble_eq_true rfl) dX1_empty_7 ?_
  refine J.astore_n (r := v7) (i := 3) (lv' := [(3, va_rf v7), (2, va_rf v2), (0, .ref this), (1, .int a1)]) X.1.1 X.1.2.1 dX1_empty_10 rfl hl (by decide) (by first | rfl | simp [va_rf_cat, jcI, jcA, jcJ, jcD, jcF]) (fun ls hl => ?_)
  refine J.pu (fun _ _ _ _ k => W.rload_n X.1.1 X.1.2.1 dX1_empty_11 rfl (lv_at hl 0 rfl) k) ?_
  refine J.pu (fun _ _ _ _ k => W.rload_n X.1.1 X.1.2.1 dX1_empty_12 rfl (lv_at hl 0 rfl) k) ?_
  refine J.pu (fun _ _ _ _ k => lv_iload_n X.1.1 X.1.2.1 dX1_empty_13 rfl (lv_at hl 3 rfl) k) ?_
  refine J.bind (fun o14 g14 => ?_)
  refine J.bind (fun v14 h14 => ?_)
  refine J.cV (q := (RX2, TX2, 9)) (ci := 1) (As := [.int a1]) (rest := [va_rf v7]) (s2 := [va_rf v14, va_rf v7]) X ⟨rfl, rfl⟩ (ct_X2_chute l G n S7 o14 a1) (jrd_of h14) (fun _ _ => cwV 1 X.1.2.2.2.2 (lw_V q2185 q844 q845 q139 q846) rfl rfl rfl (by decide +kernel) ⟨(Nat.le_of_ble_eq_true rfl), (Nat.le_of_ble_eq_true rfl)⟩) g14 rfl rfl hl.1 rfl rfl (by simp [va_rf_cat, jcI, jcA, jcJ, jcD, jcF]) dX1_empty_14 ?_
  refine J.bind (fun o17 g17 => ?_)
  refine J.bd' (fun v17 S17 h17 => ?_)
  refine J.cV (q := (RX2, TX2, 9)) (ci := 1) (As := [va_rf v14]) (rest := []) (s2 := [.int v17]) X ⟨rfl, rfl⟩ (ct_X2_empties l G n S7 o17 v14) h17 (fun _ _ => cwV 1 X.1.2.2.2.2 (lw_V q2603 q1972 q1973 q139 q1974) rfl rfl rfl (by decide +kernel) ⟨(Nat.le_of_ble_eq_true rfl), (Nat.le_of_ble_eq_true rfl)⟩) g17 rfl rfl hl.1 rfl rfl (Nat.le_of_ble_eq_true rfl) dX1_empty_17 ?_
  exact J.tret (J.iret (vr := fun t : Int32 × jH => jrI t.1) (fin := (Prod.snd : Int32 × jH → jH)) (t := (v17, S17)) X hr (by rfl) (by rfl) dX1_empty_20)
noncomputable def X1_shut_b (G : jG) (n : Nat) (σ : jH) (this : Nat) (a1 : Int32) (a2 : Int32) : Option (jTh Int32 × jH) :=
  (rc σ (some this) 0).bind fun o2 => tb (X1_chuteAt G n σ o2 a1) fun v2 S2 => (rc S2 (some this) 0).bind fun o7 => bd (X1_changed G n S2 o7) fun v7 S7 => (rc S7 v7 1).bind fun o17 => (X2_chute G n S7 o17 a1).bind fun v17 => (rc S7 v7 1).bind fun o21 => bd (X2_opens G n S7 o21 v17 a2) fun v21 S21 => some (.inl v21, S21)
noncomputable def X1_shut (G : jG) (n : Nat) (σ : jH) (this : Nat) (a1 : Int32) (a2 : Int32) : Option (jTh Int32 × jH) := jck σ (X1_shut_b G n σ this a1 a2)
set_option maxHeartbeats 4000000 in
set_option maxRecDepth 100000 in
theorem ct_X1_shut (l : Launch) (hfl : l.stackTraces = false) (G : jG) (n : Nat) (σ : jH) (this : Nat) (a1 : Int32) (a2 : Int32) : jTt l G yX1_shut (ws_ yX1_shut cX1_shut 5 (some .int)) 26 1332 jrI [.ref this, .int a1, .int a2] σ (X1_shut G n σ this a1 a2) := by
  refine jTt.wr (lv := [(0, .ref this), (1, .int a1), (2, .int a2)]) rfl (Nat.le_of_ble_eq_true rfl) rfl ?_
  intro t p e s m args below meth c ls X hr hnm hout hl
  have X : jCx p c cX1_shut 5 s m args RX1 G meth := X
  unfold X1_shut_b
  refine J.pu (fun _ _ _ _ k => lv_aload_n X.1.1 X.1.2.1 dX1_shut_0 rfl (lv_at hl 0 rfl) k) ?_
  refine J.pu (fun _ _ _ _ k => lv_iload_n X.1.1 X.1.2.1 dX1_shut_1 rfl (lv_at hl 1 rfl) k) ?_
  refine J.bind (fun o2 g2 => ?_)
  refine J.tV (q := (RX1, TX1, 9)) (ci := 0) (As := [.int a1]) (rest := []) X hout ⟨rfl, rfl⟩ (ct_X1_chuteAt l hfl G n σ o2 a1) (fun _ _ => cwV 1 X.1.2.2.2.2 (lw_V q2465 q2467 qs48 q138 q2468) rfl rfl rfl (by decide +kernel) ⟨(Nat.le_of_ble_eq_true rfl), (Nat.le_of_ble_eq_true rfl)⟩) g2 rfl rfl hl.1 rfl (Nat.le_of_ble_eq_true rfl) dX1_shut_2 (fun v2 S2 h2 => ?_)
  refine J.geq (g2 := F0 m 5 ls [va_rf v2]) rfl ?_
  refine J.astore_n (r := v2) (i := 3) (lv' := [(3, va_rf v2), (0, .ref this), (1, .int a1), (2, .int a2)]) X.1.1 X.1.2.1 dX1_shut_5 rfl hl (by decide) (by first | rfl | simp [va_rf_cat, jcI, jcA, jcJ, jcD, jcF]) (fun ls hl => ?_)
  refine J.pu (fun _ _ _ _ k => lv_aload_n X.1.1 X.1.2.1 dX1_shut_6 rfl (lv_at hl 1 rfl) k) ?_
  refine J.bind (fun o7 g7 => ?_)
  refine J.bd' (fun v7 S7 h7 => ?_)
  refine J.cV (q := (RX1, TX1, 9)) (ci := 0) (As := []) (rest := []) (s2 := [va_rf v7]) X ⟨rfl, rfl⟩ (ct_X1_changed l G n S2 o7) h7 (fun _ _ => cwV 0 X.1.2.2.2.2 (lw_V q1902 q1904 qs29 q138 q1905) rfl rfl rfl (by decide +kernel) ⟨(Nat.le_of_ble_eq_true rfl), (Nat.le_of_ble_eq_true rfl)⟩) g7 rfl rfl hl.1 rfl rfl (Nat.le_of_ble_eq_true rfl) dX1_shut_7 ?_
  refine J.astore (r := v7) (lv' := [(4, va_rf v7), (3, va_rf v2), (0, .ref this), (1, .int a1), (2, .int a2)]) X.1.1 X.1.2.1 dX1_shut_10 hl (by decide) (by first | rfl | simp [va_rf_cat, jcI, jcA, jcJ, jcD, jcF]) (fun ls hl => ?_)
  refine J.pu (fun _ _ _ _ k => W.rload X.1.1 X.1.2.1 dX1_shut_12 (lv_at hl 0 rfl) k) ?_
  refine J.pu (fun _ _ _ _ k => W.rload X.1.1 X.1.2.1 dX1_shut_14 (lv_at hl 0 rfl) k) ?_
  refine J.pu (fun _ _ _ _ k => lv_iload_n X.1.1 X.1.2.1 dX1_shut_16 rfl (lv_at hl 3 rfl) k) ?_
  refine J.bind (fun o17 g17 => ?_)
  refine J.bind (fun v17 h17 => ?_)
  refine J.cV (q := (RX2, TX2, 9)) (ci := 1) (As := [.int a1]) (rest := [va_rf v7]) (s2 := [va_rf v17, va_rf v7]) X ⟨rfl, rfl⟩ (ct_X2_chute l G n S7 o17 a1) (jrd_of h17) (fun _ _ => cwV 1 X.1.2.2.2.2 (lw_V q2185 q844 q845 q139 q846) rfl rfl rfl (by decide +kernel) ⟨(Nat.le_of_ble_eq_true rfl), (Nat.le_of_ble_eq_true rfl)⟩) g17 rfl rfl hl.1 rfl rfl (by simp [va_rf_cat, jcI, jcA, jcJ, jcD, jcF]) dX1_shut_17 ?_
  refine J.pu (fun _ _ _ _ k => lv_iload_n X.1.1 X.1.2.1 dX1_shut_20 rfl (lv_at hl 4 rfl) k) ?_
  refine J.bind (fun o21 g21 => ?_)
  refine J.bd' (fun v21 S21 h21 => ?_)
  refine J.cV (q := (RX2, TX2, 9)) (ci := 1) (As := [va_rf v17, .int a2]) (rest := []) (s2 := [.int v21]) X ⟨rfl, rfl⟩ (ct_X2_opens l G n S7 o21 v17 a2) h21 (fun _ _ => cwV 2 X.1.2.2.2.2 (lw_V q2604 q1989 q1990 q139 q1991) rfl rfl rfl (by decide +kernel) ⟨(Nat.le_of_ble_eq_true rfl), (Nat.le_of_ble_eq_true rfl)⟩) g21 rfl rfl hl.1 rfl rfl (Nat.le_of_ble_eq_true rfl) dX1_shut_21 ?_
  exact J.tret (J.iret (vr := fun t : Int32 × jH => jrI t.1) (fin := (Prod.snd : Int32 × jH → jH)) (t := (v21, S21)) X hr (by rfl) (by rfl) dX1_shut_24)
noncomputable def X1_set_j52 (G : jG) (n : Nat) (this : Nat) (a1 : Int32) (a2 : Int32) (s0_52 : Int32) (B52 : jH) : Option (jTh Int32 × jH) :=
  tb (X1_checkArgument G n B52 s0_52) fun v52 S52 => (rc S52 (some this) 0).bind fun o56 => bd (X1_changed G n S52 o56) fun v56 S56 => (rc S56 v56 1).bind fun o61 => bd (X2_sets G n S56 o61 a1 a2) fun v61 S61 => some (.inl v61, S61)
noncomputable def X1_set_b (G : jG) (n : Nat) (σ : jH) (this : Nat) (a1 : Int32) (a2 : Int32) : Option (jTh Int32 × jH) :=
  (gR σ (some this) 0 4).bind fun v6 => (gR σ v6 1 3).bind fun v9 => (rc σ v9 15).bind fun o12 => (lSize 0 σ o12).bind fun v12 => (X1_isIn G n σ a1.toInt64 (-1) ((v12 - 1).toInt64)).bind fun v20 => tb (X1_checkIndex G n σ v20) fun v23 S23 => if a1 = (-1) then ((X1_isIn G n S23 a2.toInt64 1 9).bind fun v37 => X1_set_j52 G n this a1 a2 v37 S23) else ((X1_isIn G n S23 a2.toInt64 0 3).bind fun v49 => X1_set_j52 G n this a1 a2 v49 S23)
noncomputable def X1_set (G : jG) (n : Nat) (σ : jH) (this : Nat) (a1 : Int32) (a2 : Int32) : Option (jTh Int32 × jH) := jck σ (X1_set_b G n σ this a1 a2)
set_option maxHeartbeats 4000000 in
set_option maxRecDepth 100000 in
theorem ct_X1_set (l : Launch) (hfl : l.stackTraces = false) (G : jG) (n : Nat) (σ : jH) (this : Nat) (a1 : Int32) (a2 : Int32) : jTt l G yX1_set (ws_ yX1_set cX1_set 3 (some .int)) 26 1332 jrI [.ref this, .int a1, .int a2] σ (X1_set G n σ this a1 a2) := by
  refine jTt.wr (lv := [(0, .ref this), (1, .int a1), (2, .int a2)]) rfl (Nat.le_of_ble_eq_true rfl) rfl ?_
  intro t p e s m args below meth c ls X hr hnm hout hl
  have X : jCx p c cX1_set 3 s m args RX1 G meth := X
  have j52 : ∀ (s0_52 : Int32) (B52 : jH) (ls : Array Slot), lv_has ls 3 [(0, .ref this), (1, .int a1), (2, .int a2)] → jGoT l G 26 1332 σ jrI t p e s m args below meth c (X1_set_j52 G n this a1 a2 s0_52 B52) B52 (F0 m 52 ls [.int s0_52]) := by
    intro s0_52 B52 ls hl
    unfold X1_set_j52
    refine J.tS (As := [.int s0_52]) (rest := []) X hout ⟨rfl, rfl⟩ (ct_X1_checkArgument l hfl G n B52 s0_52) (fun _ _ => va_cwS 1 X.1.2.2.2.2 (lw_S q2414 q2415 q138 q2416) rfl rfl rfl (by decide +kernel) ⟨(Nat.le_of_ble_eq_true rfl), (Nat.le_of_ble_eq_true rfl)⟩) rfl hl.1 rfl (Nat.le_of_ble_eq_true rfl) dX1_set_52 (fun v52 S52 h52 => ?_)
    refine J.geq (g2 := F0 m 55 ls []) rfl ?_
    refine J.pu (fun _ _ _ _ k => lv_aload_n X.1.1 X.1.2.1 dX1_set_55 rfl (lv_at hl 0 rfl) k) ?_
    refine J.bind (fun o56 g56 => ?_)
    refine J.bd' (fun v56 S56 h56 => ?_)
    refine J.cV (q := (RX1, TX1, 9)) (ci := 0) (As := []) (rest := []) (s2 := [va_rf v56]) X ⟨rfl, rfl⟩ (ct_X1_changed l G n S52 o56) h56 (fun _ _ => cwV 0 X.1.2.2.2.2 (lw_V q1902 q1904 qs29 q138 q1905) rfl rfl rfl (by decide +kernel) ⟨(Nat.le_of_ble_eq_true rfl), (Nat.le_of_ble_eq_true rfl)⟩) g56 rfl rfl hl.1 rfl rfl (Nat.le_of_ble_eq_true rfl) dX1_set_56 ?_
    refine J.pu (fun _ _ _ _ k => lv_iload_n X.1.1 X.1.2.1 dX1_set_59 rfl (lv_at hl 1 rfl) k) ?_
    refine J.pu (fun _ _ _ _ k => lv_iload_n X.1.1 X.1.2.1 dX1_set_60 rfl (lv_at hl 2 rfl) k) ?_
    refine J.bind (fun o61 g61 => ?_)
    refine J.bd' (fun v61 S61 h61 => ?_)
    refine J.cV (q := (RX2, TX2, 9)) (ci := 1) (As := [.int a1, .int a2]) (rest := []) (s2 := [.int v61]) X ⟨rfl, rfl⟩ (ct_X2_sets l G n S56 o61 a1 a2) h61 (fun _ _ => cwV 2 X.1.2.2.2.2 (lw_V q2620 q2026 q2027 q139 q2028) rfl rfl rfl (by decide +kernel) ⟨(Nat.le_of_ble_eq_true rfl), (Nat.le_of_ble_eq_true rfl)⟩) g61 rfl rfl hl.1 rfl rfl (Nat.le_of_ble_eq_true rfl) dX1_set_61 ?_
    exact J.tret (J.iret (vr := fun t : Int32 × jH => jrI t.1) (fin := (Prod.snd : Int32 × jH → jH)) (t := (v61, S61)) X hr (by rfl) (by rfl) dX1_set_64)
  unfold X1_set_b
  refine J.pu (fun _ _ _ _ k => lv_iload_n X.1.1 X.1.2.1 dX1_set_0 rfl (lv_at hl 1 rfl) k) ?_
  refine J.pu (fun _ _ _ _ k => lv_i2l (v := a1.toInt64) X.1.1 X.1.2.1 dX1_set_1 rfl k) ?_
  refine J.pu (fun _ _ _ _ k => lv_ldc2 (v := (-1)) X.1.1 X.1.2.1 X.1.2.2.2.1 (X.1.2.2.2.2 _ q2675) dX1_set_2 k) ?_
  refine J.pu (fun _ _ _ _ k => lv_aload_n X.1.1 X.1.2.1 dX1_set_5 rfl (lv_at hl 0 rfl) k) ?_
  refine J.getR (k := 4) (ci := 0) X in_X1 (show jCl[0]? = some (RX1, TX1, 9) from rfl) (by decide) q1329 (fun _ h => h) dX1_set_6 (fun v6 h6 => ?_)
  refine J.getRN (k := 3) (ci := 1) X in_X2 (show jCl[1]? = some (RX2, TX2, 9) from rfl) (by decide) jnf8 (fun _ h => h) dX1_set_9 (fun v9 h9 => ?_)
  refine J.bind (fun o12 g12 => ?_)
  refine J.bind (fun v12 h12 => ?_)
  refine J.cF (q := (RJ2, TJ2, 3)) (ci := 15) (As := []) (rest := [.long (-1), .long a1.toInt64]) (s2 := [.int v12, .long (-1), .long a1.toInt64]) X ⟨rfl, rfl⟩ (ct_J2_size l G σ o12) (jrd_of h12) (fun _ _ => va_cwF 0 X.1.2.2.2.2 (lw_F q1751 q832 q834 q142 q836) rfl rfl rfl (jfw2 X.2.1) (by decide +kernel) ⟨(Nat.le_of_ble_eq_true rfl), (Nat.le_of_ble_eq_true rfl)⟩) g12 rfl rfl hl.1 rfl rfl (Nat.le_of_ble_eq_true rfl) dX1_set_12 ?_
  refine J.pu (fun _ _ _ _ k => lv_iconst (v := 1) X.1.1 X.1.2.1 dX1_set_17 (by decide) k) ?_
  refine J.pu (fun _ _ _ _ k => lv_isub X.1.1 X.1.2.1 dX1_set_18 k) ?_
  refine J.pu (fun _ _ _ _ k => lv_i2l (v := (v12 - 1).toInt64) X.1.1 X.1.2.1 dX1_set_19 rfl k) ?_
  refine J.bind (fun v20 h20 => ?_)
  refine J.cS (As := [.long a1.toInt64, .long (-1), .long (v12 - 1).toInt64]) (rest := []) (s2 := [.int v20]) X ⟨rfl, rfl⟩ (ct_X1_isIn l G n σ a1.toInt64 (-1) ((v12 - 1).toInt64)) (jrd_of h20) (fun _ _ => va_cwS 3 X.1.2.2.2.2 (lw_S q1365 q1366 q138 q1367) rfl rfl rfl (by decide +kernel) ⟨(Nat.le_of_ble_eq_true rfl), (Nat.le_of_ble_eq_true rfl)⟩) rfl hl.1 rfl rfl (Nat.le_of_ble_eq_true rfl) dX1_set_20 ?_
  refine J.tS (As := [.int v20]) (rest := []) X hout ⟨rfl, rfl⟩ (ct_X1_checkIndex l hfl G n σ v20) (fun _ _ => va_cwS 1 X.1.2.2.2.2 (lw_S q2431 q2432 q138 q2433) rfl rfl rfl (by decide +kernel) ⟨(Nat.le_of_ble_eq_true rfl), (Nat.le_of_ble_eq_true rfl)⟩) rfl hl.1 rfl (Nat.le_of_ble_eq_true rfl) dX1_set_23 (fun v23 S23 h23 => ?_)
  refine J.geq (g2 := F0 m 26 ls []) rfl ?_
  refine J.pu (fun _ _ _ _ k => lv_iload_n X.1.1 X.1.2.1 dX1_set_26 rfl (lv_at hl 1 rfl) k) ?_
  refine J.pu (fun _ _ _ _ k => lv_iconst (v := (-1)) X.1.1 X.1.2.1 dX1_set_27 (by decide) k) ?_
  refine J.br (fun _ _ _ _ ka kb => lv_icmp_ne (tgt := 43) X.1.1 X.1.2.1 dX1_set_28 (by decide) kb ka) (fun c28 => ?_) (fun c28 => ?_)
  · refine J.pu (fun _ _ _ _ k => lv_iload_n X.1.1 X.1.2.1 dX1_set_31 rfl (lv_at hl 2 rfl) k) ?_
    refine J.pu (fun _ _ _ _ k => lv_i2l (v := a2.toInt64) X.1.1 X.1.2.1 dX1_set_32 rfl k) ?_
    refine J.pu (fun _ _ _ _ k => lv_lconst (v := 1) X.1.1 X.1.2.1 dX1_set_33 (by decide) k) ?_
    refine J.pu (fun _ _ _ _ k => lv_ldc2 (v := 9) X.1.1 X.1.2.1 X.1.2.2.2.1 (X.1.2.2.2.2 _ q2676) dX1_set_34 k) ?_
    refine J.bind (fun v37 h37 => ?_)
    refine J.cS (As := [.long a2.toInt64, .long 1, .long 9]) (rest := []) (s2 := [.int v37]) X ⟨rfl, rfl⟩ (ct_X1_isIn l G n S23 a2.toInt64 1 9) (jrd_of h37) (fun _ _ => va_cwS 3 X.1.2.2.2.2 (lw_S q1365 q1366 q138 q1367) rfl rfl rfl (by decide +kernel) ⟨(Nat.le_of_ble_eq_true rfl), (Nat.le_of_ble_eq_true rfl)⟩) rfl hl.1 rfl rfl (Nat.le_of_ble_eq_true rfl) dX1_set_37 ?_
    refine J.pu (fun _ _ _ _ k => lv_goto (tgt := 52) X.1.1 X.1.2.1 dX1_set_40 (by decide) k) ?_
    exact j52 v37 S23 ls (lv_sub hl [0, 1, 2] rfl)
  · refine J.pu (fun _ _ _ _ k => lv_iload_n X.1.1 X.1.2.1 dX1_set_43 rfl (lv_at hl 2 rfl) k) ?_
    refine J.pu (fun _ _ _ _ k => lv_i2l (v := a2.toInt64) X.1.1 X.1.2.1 dX1_set_44 rfl k) ?_
    refine J.pu (fun _ _ _ _ k => lv_lconst (v := 0) X.1.1 X.1.2.1 dX1_set_45 (by decide) k) ?_
    refine J.pu (fun _ _ _ _ k => lv_ldc2 (v := 3) X.1.1 X.1.2.1 X.1.2.2.2.1 (X.1.2.2.2.2 _ q2619) dX1_set_46 k) ?_
    refine J.bind (fun v49 h49 => ?_)
    refine J.cS (As := [.long a2.toInt64, .long 0, .long 3]) (rest := []) (s2 := [.int v49]) X ⟨rfl, rfl⟩ (ct_X1_isIn l G n S23 a2.toInt64 0 3) (jrd_of h49) (fun _ _ => va_cwS 3 X.1.2.2.2.2 (lw_S q1365 q1366 q138 q1367) rfl rfl rfl (by decide +kernel) ⟨(Nat.le_of_ble_eq_true rfl), (Nat.le_of_ble_eq_true rfl)⟩) rfl hl.1 rfl rfl (Nat.le_of_ble_eq_true rfl) dX1_set_49 ?_
    exact j52 v49 S23 ls (lv_sub hl [0, 1, 2] rfl)
noncomputable def X1_restoreState_j12 (G : jG) (n : Nat) (this : Nat) (s0_12 : Int32) (B12 : jH) : Option (jTh Int32 × jH) :=
  tb (X1_checkElement G n B12 s0_12) fun v12 S12 => (gR S12 (some this) 0 5).bind fun v17 => (rc S12 v17 1).bind fun o20 => bd (X2_twin G n S12 o20) fun v20 S20 => (pR G S20 (some this) 0 4 v20).bind fun S23 => (gR S23 (some this) 0 7).bind fun v27 => (rc S23 v27 18).bind fun o30 => bd (jck S23 (dqClear G S23 o30)) fun v30 S30 => (gR S30 (some this) 0 4).bind fun v34 => (gI S30 v34 1 7).bind fun v37 => some (.inl v37, S30)
noncomputable def X1_restoreState_b (G : jG) (n : Nat) (σ : jH) (this : Nat) : Option (jTh Int32 × jH) :=
  (gR σ (some this) 0 5).bind fun v1 => if v1 = none then (X1_restoreState_j12 G n this 0 σ) else (X1_restoreState_j12 G n this 1 σ)
noncomputable def X1_restoreState (G : jG) (n : Nat) (σ : jH) (this : Nat) : Option (jTh Int32 × jH) := jck σ (X1_restoreState_b G n σ this)
set_option maxHeartbeats 4000000 in
set_option maxRecDepth 100000 in
theorem ct_X1_restoreState (l : Launch) (hfl : l.stackTraces = false) (G : jG) (n : Nat) (σ : jH) (this : Nat) : jTt l G yX1_restoreState (ws_ yX1_restoreState cX1_restoreState 1 (some .int)) 25 1312 jrI [.ref this] σ (X1_restoreState G n σ this) := by
  refine jTt.wr (lv := [(0, .ref this)]) rfl (Nat.le_of_ble_eq_true rfl) rfl ?_
  intro t p e s m args below meth c ls X hr hnm hout hl
  have X : jCx p c cX1_restoreState 1 s m args RX1 G meth := X
  have j12 : ∀ (s0_12 : Int32) (B12 : jH) (ls : Array Slot), lv_has ls 1 [(0, .ref this)] → jGoT l G 25 1312 σ jrI t p e s m args below meth c (X1_restoreState_j12 G n this s0_12 B12) B12 (F0 m 12 ls [.int s0_12]) := by
    intro s0_12 B12 ls hl
    unfold X1_restoreState_j12
    refine J.tS (As := [.int s0_12]) (rest := []) X hout ⟨rfl, rfl⟩ (ct_X1_checkElement l hfl G n B12 s0_12) (fun _ _ => va_cwS 1 X.1.2.2.2.2 (lw_S q2689 q2690 q138 q2691) rfl rfl rfl (by decide +kernel) ⟨(Nat.le_of_ble_eq_true rfl), (Nat.le_of_ble_eq_true rfl)⟩) rfl hl.1 rfl (Nat.le_of_ble_eq_true rfl) dX1_restoreState_12 (fun v12 S12 h12 => ?_)
    refine J.geq (g2 := F0 m 15 ls []) rfl ?_
    refine J.pu (fun _ _ _ _ k => lv_aload_n X.1.1 X.1.2.1 dX1_restoreState_15 rfl (lv_at hl 0 rfl) k) ?_
    refine J.pu (fun _ _ _ _ k => lv_aload_n X.1.1 X.1.2.1 dX1_restoreState_16 rfl (lv_at hl 0 rfl) k) ?_
    refine J.getR (k := 5) (ci := 0) X in_X1 (show jCl[0]? = some (RX1, TX1, 9) from rfl) (by decide) q1330 (fun _ h => h) dX1_restoreState_17 (fun v17 h17 => ?_)
    refine J.bind (fun o20 g20 => ?_)
    refine J.bd' (fun v20 S20 h20 => ?_)
    refine J.cV (q := (RX2, TX2, 9)) (ci := 1) (As := []) (rest := [.ref this]) (s2 := [va_rf v20, .ref this]) X ⟨rfl, rfl⟩ (ct_X2_twin l G n S12 o20) h20 (fun _ _ => cwV 0 X.1.2.2.2.2 (lw_V q822 q823 q824 q139 q825) rfl rfl rfl (by decide +kernel) ⟨(Nat.le_of_ble_eq_true rfl), (Nat.le_of_ble_eq_true rfl)⟩) g20 rfl rfl hl.1 rfl rfl (Nat.le_of_ble_eq_true rfl) dX1_restoreState_20 ?_
    refine J.putR (k := 4) (ci := 0) X in_X1 (show jCl[0]? = some (RX1, TX1, 9) from rfl) tyX1_ok (fun a ha b hb h => Or.inl (nmX1 a ha b hb h)) (by decide) q1329 (fun _ h => h) rfl (Or.inl ⟨_, rfl⟩) dX1_restoreState_23 (fun S23 h23 => ?_)
    refine J.pu (fun _ _ _ _ k => lv_aload_n X.1.1 X.1.2.1 dX1_restoreState_26 rfl (lv_at hl 0 rfl) k) ?_
    refine J.getR (k := 7) (ci := 0) X in_X1 (show jCl[0]? = some (RX1, TX1, 9) from rfl) (by decide) q1332 (fun _ h => h) dX1_restoreState_27 (fun v27 h27 => ?_)
    refine J.bind (fun o30 g30 => ?_)
    refine J.bd' (fun v30 S30 h30 => ?_)
    refine J.cV (q := (RJ20, TJ20, 3)) (ci := 18) (As := []) (rest := []) (s2 := []) X ⟨rfl, rfl⟩ (ct_J20_clear l G S23 o30) h30 (fun _ _ => cwV 0 X.1.2.2.2.2 (lw_V q1743 q1744 q1745 q164 q1746) rfl rfl rfl (by decide +kernel) ⟨(Nat.le_of_ble_eq_true rfl), (Nat.le_of_ble_eq_true rfl)⟩) g30 rfl rfl hl.1 rfl rfl (Nat.le_of_ble_eq_true rfl) dX1_restoreState_30 ?_
    refine J.pu (fun _ _ _ _ k => lv_aload_n X.1.1 X.1.2.1 dX1_restoreState_33 rfl (lv_at hl 0 rfl) k) ?_
    refine J.getR (k := 4) (ci := 0) X in_X1 (show jCl[0]? = some (RX1, TX1, 9) from rfl) (by decide) q1329 (fun _ h => h) dX1_restoreState_34 (fun v34 h34 => ?_)
    refine J.getIN (k := 7) (ci := 1) X in_X2 (show jCl[1]? = some (RX2, TX2, 9) from rfl) (by decide) jnf14 (fun _ h => h) dX1_restoreState_37 (fun v37 h37 => ?_)
    exact J.tret (J.iret (vr := fun t : Int32 × jH => jrI t.1) (fin := (Prod.snd : Int32 × jH → jH)) (t := (v37, S30)) X hr (by rfl) (by rfl) dX1_restoreState_40)
  unfold X1_restoreState_b
  refine J.pu (fun _ _ _ _ k => lv_aload_n X.1.1 X.1.2.1 dX1_restoreState_0 rfl (lv_at hl 0 rfl) k) ?_
  refine J.getR (k := 5) (ci := 0) X in_X1 (show jCl[0]? = some (RX1, TX1, 9) from rfl) (by decide) q1330 (fun _ h => h) dX1_restoreState_1 (fun v1 h1 => ?_)
  refine J.br (fun _ _ _ _ ka kb => W.rnull (tgt := 11) X.1.1 X.1.2.1 dX1_restoreState_4 (by decide) ka kb) (fun c4 => ?_) (fun c4 => ?_)
  · refine J.pu (fun _ _ _ _ k => lv_iconst (v := 0) X.1.1 X.1.2.1 dX1_restoreState_11 (by decide) k) ?_
    exact j12 0 σ ls (lv_sub hl [0] rfl)
  · refine J.pu (fun _ _ _ _ k => lv_iconst (v := 1) X.1.1 X.1.2.1 dX1_restoreState_7 (by decide) k) ?_
    refine J.pu (fun _ _ _ _ k => lv_goto (tgt := 12) X.1.1 X.1.2.1 dX1_restoreState_8 (by decide) k) ?_
    exact j12 1 σ ls (lv_sub hl [0] rfl)
noncomputable def X10_putting_b (G : jG) (n : Nat) (σ : jH) (this : Nat) : Option (jTh (Option Nat) × jH) :=
  (rc σ (some this) 7).bind fun o1 => tb (X10_chute G n σ o1) fun v1 S1 => bd (nO S1 9 [.int 0, .int 0] 2) fun v5 S5 => bd (nI' S5 0 2) fun v10 S10 => (sI G S10 (some v10) 0 0 v1).bind fun S15 => (rc S15 (some this) 7).bind fun o21 => tb (X7_number_X10 G n S15 o21 0 5) fun v21 S21 => (sI G S21 (some v10) 0 1 v21).bind fun S24 => bd (X12_init G n S24 v5 (some v10)) fun v25 S25 => some (.inl (some v5), S25)
noncomputable def X10_putting (G : jG) (n : Nat) (σ : jH) (this : Nat) : Option (jTh (Option Nat) × jH) := jck σ (X10_putting_b G n σ this)
set_option maxHeartbeats 4000000 in
set_option maxRecDepth 100000 in
theorem ct_X10_putting (l : Launch) (hfl : l.stackTraces = false) (G : jG) (n : Nat) (σ : jH) (this : Nat) : jTt l G yX10_putting (ws_ yX10_putting cX10_putting 2 (some (.object "SortingLoop$Deed"))) 25 1309 jrR [.ref this] σ (X10_putting G n σ this) := by
  refine jTt.wr (lv := [(0, .ref this)]) rfl (Nat.le_of_ble_eq_true rfl) rfl ?_
  intro t p e s m args below meth c ls X hr hnm hout hl
  have X : jCx p c cX10_putting 2 s m args RX10 G meth := X
  unfold X10_putting_b
  refine J.pu (fun _ _ _ _ k => lv_aload_n X.1.1 X.1.2.1 dX10_putting_0 rfl (lv_at hl 0 rfl) k) ?_
  refine J.bind (fun o1 g1 => ?_)
  refine J.tV (q := (RX10, TX10, 8)) (ci := 7) (As := []) (rest := []) X hout ⟨rfl, rfl⟩ (ct_X10_chute l hfl G n σ o1) (fun _ _ => cwV 0 X.1.2.2.2.2 (lw_V q1821 q1823 qs26 q182 q1824) rfl rfl rfl (by decide +kernel) ⟨(Nat.le_of_ble_eq_true rfl), (Nat.le_of_ble_eq_true rfl)⟩) g1 rfl rfl hl.1 rfl (Nat.le_of_ble_eq_true rfl) dX10_putting_1 (fun v1 S1 h1 => ?_)
  refine J.geq (g2 := F0 m 4 ls [.int v1]) rfl ?_
  refine J.istore_n (i := 1) (lv' := [(1, .int v1), (0, .ref this)]) X.1.1 X.1.2.1 dX10_putting_4 rfl hl (by decide) (by first | rfl | simp [va_rf_cat, jcI, jcA, jcJ, jcD, jcF]) (fun ls hl => ?_)
  refine J.nO' (fs := [.int 0, .int 0]) X ⟨rfl, rfl⟩ in_X12 (show jCl[9]? = some (RX12, TX12, 2) from rfl) tyX12 tyX12_ok q1828 q1829 q184 rfl dX10_putting_5 (fun v5 S5 h5 => ?_)
  refine J.pu (fun _ _ _ _ k => lv_dup X.1.1 X.1.2.1 dX10_putting_8 rfl k) ?_
  refine J.pu (fun _ _ _ _ k => lv_iconst (v := 2) X.1.1 X.1.2.1 dX10_putting_9 (by decide) k) ?_
  refine J.nI0 X ⟨rfl, rfl⟩ dX10_putting_10 (fun v10 S10 h10 => ?_)
  refine J.pu (fun _ _ _ _ k => lv_dup X.1.1 X.1.2.1 dX10_putting_12 rfl k) ?_
  refine J.pu (fun _ _ _ _ k => lv_iconst (v := 0) X.1.1 X.1.2.1 dX10_putting_13 (by decide) k) ?_
  refine J.pu (fun _ _ _ _ k => lv_iload_n X.1.1 X.1.2.1 dX10_putting_14 rfl (lv_at hl 0 rfl) k) ?_
  refine J.sI0 X dX10_putting_15 (fun S15 h15 => ?_)
  refine J.pu (fun _ _ _ _ k => lv_dup X.1.1 X.1.2.1 dX10_putting_16 rfl k) ?_
  refine J.pu (fun _ _ _ _ k => lv_iconst (v := 1) X.1.1 X.1.2.1 dX10_putting_17 (by decide) k) ?_
  refine J.pu (fun _ _ _ _ k => lv_aload_n X.1.1 X.1.2.1 dX10_putting_18 rfl (lv_at hl 1 rfl) k) ?_
  refine J.pu (fun _ _ _ _ k => lv_iconst (v := 0) X.1.1 X.1.2.1 dX10_putting_19 (by decide) k) ?_
  refine J.pu (fun _ _ _ _ k => lv_iconst (v := 5) X.1.1 X.1.2.1 dX10_putting_20 (by decide) k) ?_
  refine J.bind (fun o21 g21 => ?_)
  refine J.tU (q := (RX10, TX10, 8)) (ci := 7) (As := [.int 0, .int 5]) (rest := [.int 1, .ref v10, .ref v10, .ref v5, .ref v5]) X hout ⟨rfl, rfl⟩ (ct_X7_number_X10 l hfl G n S15 o21 0 5) (fun _ _ => va_cwU 2 X.1.2.2.2.2 (lw_U q1825 q1826 q1827 q1607 q175 q1608) rfl rfl rfl rfl (by decide +kernel) ⟨(Nat.le_of_ble_eq_true rfl), (Nat.le_of_ble_eq_true rfl)⟩) g21 rfl rfl hl.1 rfl (Nat.le_of_ble_eq_true rfl) dX10_putting_21 (fun v21 S21 h21 => ?_)
  refine J.geq (g2 := F0 m 24 ls [.int v21, .int 1, .ref v10, .ref v10, .ref v5, .ref v5]) rfl ?_
  refine J.sI0 X dX10_putting_24 (fun S24 h24 => ?_)
  refine J.bd' (fun v25 S25 h25 => ?_)
  refine J.cI (a := v5) (As := [.ref v10]) (rest := [.ref v5]) (s2 := [.ref v5]) X ⟨rfl, rfl⟩ (ct_X12_init l G n S24 v5 (some v10)) h25 (fun _ _ => jcwI 1 X.1.2.2.2.2 q1830 q1831 q184 q1832 rfl rfl rfl (by decide +kernel) ⟨(Nat.le_of_ble_eq_true rfl), (Nat.le_of_ble_eq_true rfl)⟩) rfl hl.1 rfl rfl (Nat.le_of_ble_eq_true rfl) dX10_putting_25 ?_
  exact J.tret (J.aret (vr := fun t : (Option Nat) × jH => jrR t.1) (fin := (Prod.snd : (Option Nat) × jH → jH)) (t := ((some v5), S25)) X hr (Or.inl ⟨_, rfl⟩) (by rfl) (by rfl) dX10_putting_28)
noncomputable def X2_ticks_j185 (G : jG) (n : Nat) (this : Nat) (rec126 : Int32 × jH → Option (Int32 × jH)) (rec141 : Int32 × jH → Option (Int32 × jH)) (x1_126 : Int32) (x2_141 : Int32) (x3_185 : Int32) (B185 : jH) : Option (Int32 × jH) :=
  rec141 ((x3_185 + 1), B185)
noncomputable def X2_ticks_h141 (G : jG) (n : Nat) (this : Nat) (rec126 : Int32 × jH → Option (Int32 × jH)) (x1_126 : Int32) (x2_141 : Int32) (rec141 : Int32 × jH → Option (Int32 × jH)) (q141 : Int32 × jH) : Option (Int32 × jH) :=
  let x3_141 := q141.1; let B141 := q141.2; (gR B141 (some this) 1 4).bind fun v143 => (rc B141 v143 15).bind fun o146 => (lSize 0 B141 o146).bind fun v146 => if v146 ≤ x3_141 then (rec126 ((x2_141 + 1), B141)) else ((rc B141 (some this) 1).bind fun o157 => (X2_chute G n B141 o157 x2_141).bind fun v157 => (rc B141 (some this) 1).bind fun o162 => (X2_parcel G n B141 o162 x3_141).bind fun v162 => (rc B141 (some this) 1).bind fun o165 => (X2_isAt G n B141 o165 v157 v162).bind fun v165 => if v165 = 0 then (X2_ticks_j185 G n this rec126 rec141 x1_126 x2_141 x3_141 B141) else ((rc B141 (some this) 1).bind fun o174 => (X2_chute G n B141 o174 x2_141).bind fun v174 => (rc B141 (some this) 1).bind fun o179 => (X2_parcel G n B141 o179 x3_141).bind fun v179 => (rc B141 (some this) 1).bind fun o182 => bd (X2_meets G n B141 o182 v174 v179) fun v182 S182 => X2_ticks_j185 G n this rec126 rec141 x1_126 x2_141 x3_141 S182))
noncomputable def X2_ticks_h126 (G : jG) (n : Nat) (this : Nat) (x1_126 : Int32) (rec126 : Int32 × jH → Option (Int32 × jH)) (q126 : Int32 × jH) : Option (Int32 × jH) :=
  let x2_126 := q126.1; let B126 := q126.2; (gR B126 (some this) 1 3).bind fun v128 => (rc B126 v128 15).bind fun o131 => (lSize 0 B126 o131).bind fun v131 => if v131 ≤ x2_126 then ((rc B126 (some this) 1).bind fun o200 => (X2_those G n B126 o200 0).bind fun v200 => some ((x1_126 - v200), B126)) else (jloop (X2_ticks_h141 G n this rec126 x1_126 x2_126) n (0, B126))
noncomputable def X2_ticks_j118 (G : jG) (n : Nat) (this : Nat) (rec75 : Int32 × jH → Option (Int32 × jH)) (x1_75 : Int32) (x2_118 : Int32) (B118 : jH) : Option (Int32 × jH) :=
  rec75 ((x2_118 + 1), B118)
noncomputable def X2_ticks_h75 (G : jG) (n : Nat) (this : Nat) (x1_75 : Int32) (rec75 : Int32 × jH → Option (Int32 × jH)) (q75 : Int32 × jH) : Option (Int32 × jH) :=
  let x2_75 := q75.1; let B75 := q75.2; (gI B75 (some this) 1 0).bind fun v77 => if v77 ≤ x2_75 then (jloop (X2_ticks_h126 G n this x1_75) n (0, B75)) else ((gR B75 (some this) 1 2).bind fun v84 => (aI B75 v84 2 x2_75).bind fun v88 => if v88 = 0 then (X2_ticks_j118 G n this rec75 x1_75 x2_75 B75) else ((gR B75 (some this) 1 5).bind fun v93 => (rc B75 v93 2).bind fun o97 => (X3_isFree G n B75 o97 x2_75).bind fun v97 => if v97 = 0 then ((gR B75 (some this) 1 5).bind fun v105 => (rc B75 v105 2).bind fun o109 => (X3_at G n B75 o109 x2_75).bind fun v109 => (jck' B75 v109 [4]).bind fun _ => (rc B75 (some this) 1).bind fun o115 => bd (X2_scans G n B75 o115 v109) fun v115 S115 => X2_ticks_j118 G n this rec75 x1_75 x2_75 S115) else (X2_ticks_j118 G n this rec75 x1_75 x2_75 B75)))
noncomputable def X2_ticks_h28 (G : jG) (n : Nat) (this : Nat) (x1_28 : Int32) (rec28 : Int32 × jH → Option (Int32 × jH)) (q28 : Int32 × jH) : Option (Int32 × jH) :=
  let x2_28 := q28.1; let B28 := q28.2; (gR B28 (some this) 1 3).bind fun v30 => (rc B28 v30 15).bind fun o33 => (lSize 0 B28 o33).bind fun v33 => if v33 ≤ x2_28 then ((rc B28 (some this) 1).bind fun o70 => bd (X2_turns G n B28 o70) fun v70 S70 => jloop (X2_ticks_h75 G n this x1_28) n (0, S70)) else ((rc B28 (some this) 1).bind fun o43 => (X2_chute G n B28 o43 x2_28).bind fun v43 => (rc B28 (some this) 1).bind fun o49 => (X2_chute G n B28 o49 x2_28).bind fun v49 => (gI B28 v49 3 6).bind fun v52 => (J12_max n 0 (v52 - 1)).bind fun v57 => (pI G B28 v43 3 6 v57).bind fun S60 => rec28 ((x2_28 + 1), S60))
noncomputable def X2_ticks_b (G : jG) (n : Nat) (σ : jH) (this : Nat) : Option (Int32 × jH) :=
  (rc σ (some this) 1).bind fun o2 => (X2_those G n σ o2 0).bind fun v2 => (gI σ (some this) 1 7).bind fun v8 => (pI G σ (some this) 1 7 (v8 + 1)).bind fun S13 => (gR S13 (some this) 1 6).bind fun v17 => (aI S13 v17 0 0).bind fun v22 => (sI G S13 v17 0 0 (v22 + 1)).bind fun S25 => jloop (X2_ticks_h28 G n this v2) n (0, S25)
noncomputable def X2_ticks (G : jG) (n : Nat) (σ : jH) (this : Nat) : Option (Int32 × jH) := jck σ (X2_ticks_b G n σ this)
set_option maxHeartbeats 4000000 in
set_option maxRecDepth 100000 in
theorem ct_X2_ticks (l : Launch) (G : jG) (n : Nat) (σ : jH) (this : Nat) : jCt l G yX2_ticks (ws_ yX2_ticks cX2_ticks 4 (some .int)) 25 1312 jrI [.ref this] σ (X2_ticks G n σ this) := by
  refine jCt.wr (lv := [(0, .ref this)]) (plainFor_of_name (by decide)) (Nat.le_of_ble_eq_true rfl) rfl ?_
  intro t p e s m args below meth c ls X hr hnm hl
  have X : jCx p c cX2_ticks 4 s m args RX2 G meth := X
  have L126 : ∀ (x1_126 : Int32) (n126 : Nat) (x2_126 : Int32) (B126 : jH) (ls : Array Slot), lv_has ls 4 [(0, .ref this), (1, .int x1_126), (2, .int x2_126)] → jGo l G 25 1312 σ (Prod.snd : Int32 × jH → jH) (fun t => jrI t.1) t p e s m args below meth c (jloop (X2_ticks_h126 G n this x1_126) n126 (x2_126, B126)) B126 (F0 m 126 ls []) := by
    intro x1_126
    intro n126
    induction n126 with
    | zero => intro x2_126 B126 ls hl; exact J.nil_
    | succ n126 ih126 =>
      have L141 : ∀ (x2_141 : Int32) (n141 : Nat) (x3_141 : Int32) (B141 : jH) (ls : Array Slot), lv_has ls 4 [(0, .ref this), (1, .int x1_126), (2, .int x2_141), (3, .int x3_141)] → jGo l G 25 1312 σ (Prod.snd : Int32 × jH → jH) (fun t => jrI t.1) t p e s m args below meth c (jloop (X2_ticks_h141 G n this (jloop (X2_ticks_h126 G n this x1_126) n126) x1_126 x2_141) n141 (x3_141, B141)) B141 (F0 m 141 ls []) := by
        intro x2_141
        intro n141
        induction n141 with
        | zero => intro x3_141 B141 ls hl; exact J.nil_
        | succ n141 ih141 =>
          have j185 : ∀ (x3_185 : Int32) (B185 : jH) (ls : Array Slot), lv_has ls 4 [(0, .ref this), (1, .int x1_126), (2, .int x2_141), (3, .int x3_185)] → jGo l G 25 1312 σ (Prod.snd : Int32 × jH → jH) (fun t => jrI t.1) t p e s m args below meth c (X2_ticks_j185 G n this (jloop (X2_ticks_h126 G n this x1_126) n126) (jloop (X2_ticks_h141 G n this (jloop (X2_ticks_h126 G n this x1_126) n126) x1_126 x2_141) n141) x1_126 x2_141 x3_185 B185) B185 (F0 m 185 ls []) := by
            intro x3_185 B185 ls hl
            unfold X2_ticks_j185
            refine J.iinc (k := 3) (lv' := [(3, .int (x3_185 + 1)), (0, .ref this), (1, .int x1_126), (2, .int x2_141)]) (w := (x3_185 + 1)) X.1.1 X.1.2.1 dX2_ticks_185 hl rfl rfl (by decide) (by first | rfl | simp [va_rf_cat, jcI, jcA, jcJ, jcD, jcF]) (fun ls hl => ?_)
            refine J.pu (fun _ _ _ _ k => lv_goto (tgt := 141) X.1.1 X.1.2.1 dX2_ticks_188 (by decide) k) ?_
            exact ih141 (x3_185 + 1) B185 ls (lv_sub hl [1, 2, 3, 0] rfl)
          intro x3_141 B141 ls hl
          refine J.eq (jloop_s _ _ _) ?_
          dsimp only [X2_ticks_h141]
          refine J.pu (fun _ _ _ _ k => lv_iload_n X.1.1 X.1.2.1 dX2_ticks_141 rfl (lv_at hl 3 rfl) k) ?_
          refine J.pu (fun _ _ _ _ k => lv_aload_n X.1.1 X.1.2.1 dX2_ticks_142 rfl (lv_at hl 0 rfl) k) ?_
          refine J.getR (k := 4) (ci := 1) X in_X2 (show jCl[1]? = some (RX2, TX2, 9) from rfl) (by decide) q696 (fun _ h => h) dX2_ticks_143 (fun v143 h143 => ?_)
          refine J.bind (fun o146 g146 => ?_)
          refine J.bind (fun v146 h146 => ?_)
          refine J.cF (q := (RJ2, TJ2, 3)) (ci := 15) (As := []) (rest := [.int x3_141]) (s2 := [.int v146, .int x3_141]) X ⟨rfl, rfl⟩ (ct_J2_size l G B141 o146) (jrd_of h146) (fun _ _ => va_cwF 0 X.1.2.2.2.2 (lw_F q829 q832 q834 q142 q836) rfl rfl rfl (jfw2 X.2.1) (by decide +kernel) ⟨(Nat.le_of_ble_eq_true rfl), (Nat.le_of_ble_eq_true rfl)⟩) g146 rfl rfl hl.1 rfl rfl (Nat.le_of_ble_eq_true rfl) dX2_ticks_146 ?_
          refine J.br (fun _ _ _ _ ka kb => lv_icmp_ge (tgt := 191) X.1.1 X.1.2.1 dX2_ticks_151 (by decide) ka kb) (fun c151 => ?_) (fun c151 => ?_)
          · refine J.iinc (k := 2) (lv' := [(2, .int (x2_141 + 1)), (0, .ref this), (1, .int x1_126), (3, .int x3_141)]) (w := (x2_141 + 1)) X.1.1 X.1.2.1 dX2_ticks_191 hl rfl rfl (by decide) (by first | rfl | simp [va_rf_cat, jcI, jcA, jcJ, jcD, jcF]) (fun ls hl => ?_)
            refine J.pu (fun _ _ _ _ k => lv_goto (tgt := 126) X.1.1 X.1.2.1 dX2_ticks_194 (by decide) k) ?_
            exact ih126 (x2_141 + 1) B141 ls (lv_sub hl [1, 2, 0] rfl)
          · refine J.pu (fun _ _ _ _ k => lv_aload_n X.1.1 X.1.2.1 dX2_ticks_154 rfl (lv_at hl 0 rfl) k) ?_
            refine J.pu (fun _ _ _ _ k => lv_aload_n X.1.1 X.1.2.1 dX2_ticks_155 rfl (lv_at hl 0 rfl) k) ?_
            refine J.pu (fun _ _ _ _ k => lv_iload_n X.1.1 X.1.2.1 dX2_ticks_156 rfl (lv_at hl 2 rfl) k) ?_
            refine J.bind (fun o157 g157 => ?_)
            refine J.bind (fun v157 h157 => ?_)
            refine J.cV (q := (RX2, TX2, 9)) (ci := 1) (As := [.int x2_141]) (rest := [.ref this]) (s2 := [va_rf v157, .ref this]) X ⟨rfl, rfl⟩ (ct_X2_chute l G n B141 o157 x2_141) (jrd_of h157) (fun _ _ => cwV 1 X.1.2.2.2.2 (lw_V q843 q844 q845 q139 q846) rfl rfl rfl (by decide +kernel) ⟨(Nat.le_of_ble_eq_true rfl), (Nat.le_of_ble_eq_true rfl)⟩) g157 rfl rfl hl.1 rfl rfl (Nat.le_of_ble_eq_true rfl) dX2_ticks_157 ?_
            refine J.pu (fun _ _ _ _ k => lv_aload_n X.1.1 X.1.2.1 dX2_ticks_160 rfl (lv_at hl 0 rfl) k) ?_
            refine J.pu (fun _ _ _ _ k => lv_iload_n X.1.1 X.1.2.1 dX2_ticks_161 rfl (lv_at hl 3 rfl) k) ?_
            refine J.bind (fun o162 g162 => ?_)
            refine J.bind (fun v162 h162 => ?_)
            refine J.cV (q := (RX2, TX2, 9)) (ci := 1) (As := [.int x3_141]) (rest := [va_rf v157, .ref this]) (s2 := [va_rf v162, va_rf v157, .ref this]) X ⟨rfl, rfl⟩ (ct_X2_parcel l G n B141 o162 x3_141) (jrd_of h162) (fun _ _ => cwV 1 X.1.2.2.2.2 (lw_V q942 q943 q944 q139 q945) rfl rfl rfl (by decide +kernel) ⟨(Nat.le_of_ble_eq_true rfl), (Nat.le_of_ble_eq_true rfl)⟩) g162 rfl rfl hl.1 rfl rfl (by simp [va_rf_cat, jcI, jcA, jcJ, jcD, jcF]) dX2_ticks_162 ?_
            refine J.bind (fun o165 g165 => ?_)
            refine J.bind (fun v165 h165 => ?_)
            refine J.cV (q := (RX2, TX2, 9)) (ci := 1) (As := [va_rf v157, va_rf v162]) (rest := []) (s2 := [.int v165]) X ⟨rfl, rfl⟩ (ct_X2_isAt l G n B141 o165 v157 v162) (jrd_of h165) (fun _ _ => cwV 2 X.1.2.2.2.2 (lw_V q2123 q2125 qs35 q139 q2126) rfl rfl rfl (by decide +kernel) ⟨(Nat.le_of_ble_eq_true rfl), (Nat.le_of_ble_eq_true rfl)⟩) g165 rfl rfl hl.1 rfl rfl (Nat.le_of_ble_eq_true rfl) dX2_ticks_165 ?_
            refine J.br (fun _ _ _ _ ka kb => lv_if_eq (tgt := 185) X.1.1 X.1.2.1 dX2_ticks_168 (by decide) ka kb) (fun c168 => ?_) (fun c168 => ?_)
            · exact j185 x3_141 B141 ls (lv_sub hl [0, 1, 2, 3] rfl)
            · refine J.pu (fun _ _ _ _ k => lv_aload_n X.1.1 X.1.2.1 dX2_ticks_171 rfl (lv_at hl 0 rfl) k) ?_
              refine J.pu (fun _ _ _ _ k => lv_aload_n X.1.1 X.1.2.1 dX2_ticks_172 rfl (lv_at hl 0 rfl) k) ?_
              refine J.pu (fun _ _ _ _ k => lv_iload_n X.1.1 X.1.2.1 dX2_ticks_173 rfl (lv_at hl 2 rfl) k) ?_
              refine J.bind (fun o174 g174 => ?_)
              refine J.bind (fun v174 h174 => ?_)
              refine J.cV (q := (RX2, TX2, 9)) (ci := 1) (As := [.int x2_141]) (rest := [.ref this]) (s2 := [va_rf v174, .ref this]) X ⟨rfl, rfl⟩ (ct_X2_chute l G n B141 o174 x2_141) (jrd_of h174) (fun _ _ => cwV 1 X.1.2.2.2.2 (lw_V q843 q844 q845 q139 q846) rfl rfl rfl (by decide +kernel) ⟨(Nat.le_of_ble_eq_true rfl), (Nat.le_of_ble_eq_true rfl)⟩) g174 rfl rfl hl.1 rfl rfl (Nat.le_of_ble_eq_true rfl) dX2_ticks_174 ?_
              refine J.pu (fun _ _ _ _ k => lv_aload_n X.1.1 X.1.2.1 dX2_ticks_177 rfl (lv_at hl 0 rfl) k) ?_
              refine J.pu (fun _ _ _ _ k => lv_iload_n X.1.1 X.1.2.1 dX2_ticks_178 rfl (lv_at hl 3 rfl) k) ?_
              refine J.bind (fun o179 g179 => ?_)
              refine J.bind (fun v179 h179 => ?_)
              refine J.cV (q := (RX2, TX2, 9)) (ci := 1) (As := [.int x3_141]) (rest := [va_rf v174, .ref this]) (s2 := [va_rf v179, va_rf v174, .ref this]) X ⟨rfl, rfl⟩ (ct_X2_parcel l G n B141 o179 x3_141) (jrd_of h179) (fun _ _ => cwV 1 X.1.2.2.2.2 (lw_V q942 q943 q944 q139 q945) rfl rfl rfl (by decide +kernel) ⟨(Nat.le_of_ble_eq_true rfl), (Nat.le_of_ble_eq_true rfl)⟩) g179 rfl rfl hl.1 rfl rfl (by simp [va_rf_cat, jcI, jcA, jcJ, jcD, jcF]) dX2_ticks_179 ?_
              refine J.bind (fun o182 g182 => ?_)
              refine J.bd' (fun v182 S182 h182 => ?_)
              refine J.cV (q := (RX2, TX2, 9)) (ci := 1) (As := [va_rf v174, va_rf v179]) (rest := []) (s2 := []) X ⟨rfl, rfl⟩ (ct_X2_meets l G n B141 o182 v174 v179) h182 (fun _ _ => cwV 2 X.1.2.2.2.2 (lw_V q2127 q2129 qs36 q139 q2130) rfl rfl rfl (by decide +kernel) ⟨(Nat.le_of_ble_eq_true rfl), (Nat.le_of_ble_eq_true rfl)⟩) g182 rfl rfl hl.1 rfl rfl (Nat.le_of_ble_eq_true rfl) dX2_ticks_182 ?_
              exact j185 x3_141 S182 ls (lv_sub hl [0, 1, 2, 3] rfl)
      intro x2_126 B126 ls hl
      refine J.eq (jloop_s _ _ _) ?_
      dsimp only [X2_ticks_h126]
      refine J.pu (fun _ _ _ _ k => lv_iload_n X.1.1 X.1.2.1 dX2_ticks_126 rfl (lv_at hl 2 rfl) k) ?_
      refine J.pu (fun _ _ _ _ k => lv_aload_n X.1.1 X.1.2.1 dX2_ticks_127 rfl (lv_at hl 0 rfl) k) ?_
      refine J.getR (k := 3) (ci := 1) X in_X2 (show jCl[1]? = some (RX2, TX2, 9) from rfl) (by decide) q692 (fun _ h => h) dX2_ticks_128 (fun v128 h128 => ?_)
      refine J.bind (fun o131 g131 => ?_)
      refine J.bind (fun v131 h131 => ?_)
      refine J.cF (q := (RJ2, TJ2, 3)) (ci := 15) (As := []) (rest := [.int x2_126]) (s2 := [.int v131, .int x2_126]) X ⟨rfl, rfl⟩ (ct_J2_size l G B126 o131) (jrd_of h131) (fun _ _ => va_cwF 0 X.1.2.2.2.2 (lw_F q829 q832 q834 q142 q836) rfl rfl rfl (jfw2 X.2.1) (by decide +kernel) ⟨(Nat.le_of_ble_eq_true rfl), (Nat.le_of_ble_eq_true rfl)⟩) g131 rfl rfl hl.1 rfl rfl (Nat.le_of_ble_eq_true rfl) dX2_ticks_131 ?_
      refine J.br (fun _ _ _ _ ka kb => lv_icmp_ge (tgt := 197) X.1.1 X.1.2.1 dX2_ticks_136 (by decide) ka kb) (fun c136 => ?_) (fun c136 => ?_)
      · refine J.pu (fun _ _ _ _ k => lv_iload_n X.1.1 X.1.2.1 dX2_ticks_197 rfl (lv_at hl 1 rfl) k) ?_
        refine J.pu (fun _ _ _ _ k => lv_aload_n X.1.1 X.1.2.1 dX2_ticks_198 rfl (lv_at hl 0 rfl) k) ?_
        refine J.pu (fun _ _ _ _ k => lv_iconst (v := 0) X.1.1 X.1.2.1 dX2_ticks_199 (by decide) k) ?_
        refine J.bind (fun o200 g200 => ?_)
        refine J.bind (fun v200 h200 => ?_)
        refine J.cV (q := (RX2, TX2, 9)) (ci := 1) (As := [.int 0]) (rest := [.int x1_126]) (s2 := [.int v200, .int x1_126]) X ⟨rfl, rfl⟩ (ct_X2_those l G n B126 o200 0) (jrd_of h200) (fun _ _ => cwV 1 X.1.2.2.2.2 (lw_V q2060 q2061 q2062 q139 q2063) rfl rfl rfl (by decide +kernel) ⟨(Nat.le_of_ble_eq_true rfl), (Nat.le_of_ble_eq_true rfl)⟩) g200 rfl rfl hl.1 rfl rfl (Nat.le_of_ble_eq_true rfl) dX2_ticks_200 ?_
        refine J.pu (fun _ _ _ _ k => lv_isub X.1.1 X.1.2.1 dX2_ticks_203 k) ?_
        exact J.iret (vr := fun t : Int32 × jH => jrI t.1) (fin := Prod.snd) (t := t) X hr (by rfl) (by rfl) dX2_ticks_204
      · refine J.pu (fun _ _ _ _ k => lv_iconst (v := 0) X.1.1 X.1.2.1 dX2_ticks_139 (by decide) k) ?_
        refine J.istore_n (i := 3) (lv' := [(3, .int 0), (0, .ref this), (1, .int x1_126), (2, .int x2_126)]) X.1.1 X.1.2.1 dX2_ticks_140 rfl hl (by decide) (by first | rfl | simp [va_rf_cat, jcI, jcA, jcJ, jcD, jcF]) (fun ls hl => ?_)
        exact L141 x2_126 n 0 B126 ls (lv_sub hl [1, 2, 3, 0] rfl)
  have L75 : ∀ (x1_75 : Int32) (n75 : Nat) (x2_75 : Int32) (B75 : jH) (ls : Array Slot), lv_has ls 4 [(0, .ref this), (1, .int x1_75), (2, .int x2_75)] → jGo l G 25 1312 σ (Prod.snd : Int32 × jH → jH) (fun t => jrI t.1) t p e s m args below meth c (jloop (X2_ticks_h75 G n this x1_75) n75 (x2_75, B75)) B75 (F0 m 75 ls []) := by
    intro x1_75
    intro n75
    induction n75 with
    | zero => intro x2_75 B75 ls hl; exact J.nil_
    | succ n75 ih75 =>
      have j118 : ∀ (x2_118 : Int32) (B118 : jH) (ls : Array Slot), lv_has ls 4 [(0, .ref this), (1, .int x1_75), (2, .int x2_118)] → jGo l G 25 1312 σ (Prod.snd : Int32 × jH → jH) (fun t => jrI t.1) t p e s m args below meth c (X2_ticks_j118 G n this (jloop (X2_ticks_h75 G n this x1_75) n75) x1_75 x2_118 B118) B118 (F0 m 118 ls []) := by
        intro x2_118 B118 ls hl
        unfold X2_ticks_j118
        refine J.iinc (k := 2) (lv' := [(2, .int (x2_118 + 1)), (0, .ref this), (1, .int x1_75)]) (w := (x2_118 + 1)) X.1.1 X.1.2.1 dX2_ticks_118 hl rfl rfl (by decide) (by first | rfl | simp [va_rf_cat, jcI, jcA, jcJ, jcD, jcF]) (fun ls hl => ?_)
        refine J.pu (fun _ _ _ _ k => lv_goto (tgt := 75) X.1.1 X.1.2.1 dX2_ticks_121 (by decide) k) ?_
        exact ih75 (x2_118 + 1) B118 ls (lv_sub hl [1, 2, 0] rfl)
      intro x2_75 B75 ls hl
      refine J.eq (jloop_s _ _ _) ?_
      dsimp only [X2_ticks_h75]
      refine J.pu (fun _ _ _ _ k => lv_iload_n X.1.1 X.1.2.1 dX2_ticks_75 rfl (lv_at hl 2 rfl) k) ?_
      refine J.pu (fun _ _ _ _ k => lv_aload_n X.1.1 X.1.2.1 dX2_ticks_76 rfl (lv_at hl 0 rfl) k) ?_
      refine J.getI (k := 0) (ci := 1) X in_X2 (show jCl[1]? = some (RX2, TX2, 9) from rfl) (by decide) q684 (fun _ h => h) dX2_ticks_77 (fun v77 h77 => ?_)
      refine J.br (fun _ _ _ _ ka kb => lv_icmp_ge (tgt := 124) X.1.1 X.1.2.1 dX2_ticks_80 (by decide) ka kb) (fun c80 => ?_) (fun c80 => ?_)
      · refine J.pu (fun _ _ _ _ k => lv_iconst (v := 0) X.1.1 X.1.2.1 dX2_ticks_124 (by decide) k) ?_
        refine J.istore_n (i := 2) (lv' := [(2, .int 0), (0, .ref this), (1, .int x1_75)]) X.1.1 X.1.2.1 dX2_ticks_125 rfl hl (by decide) (by first | rfl | simp [va_rf_cat, jcI, jcA, jcJ, jcD, jcF]) (fun ls hl => ?_)
        exact L126 x1_75 n 0 B75 ls (lv_sub hl [1, 2, 0] rfl)
      · refine J.pu (fun _ _ _ _ k => lv_aload_n X.1.1 X.1.2.1 dX2_ticks_83 rfl (lv_at hl 0 rfl) k) ?_
        refine J.getR (k := 2) (ci := 1) X in_X2 (show jCl[1]? = some (RX2, TX2, 9) from rfl) (by decide) q689 (fun _ h => h) dX2_ticks_84 (fun v84 h84 => ?_)
        refine J.pu (fun _ _ _ _ k => lv_iload_n X.1.1 X.1.2.1 dX2_ticks_87 rfl (lv_at hl 2 rfl) k) ?_
        refine J.aI2 X dX2_ticks_88 (fun v88 h88 => ?_)
        refine J.br (fun _ _ _ _ ka kb => lv_if_eq (tgt := 118) X.1.1 X.1.2.1 dX2_ticks_89 (by decide) ka kb) (fun c89 => ?_) (fun c89 => ?_)
        · exact j118 x2_75 B75 ls (lv_sub hl [0, 1, 2] rfl)
        · refine J.pu (fun _ _ _ _ k => lv_aload_n X.1.1 X.1.2.1 dX2_ticks_92 rfl (lv_at hl 0 rfl) k) ?_
          refine J.getR (k := 5) (ci := 1) X in_X2 (show jCl[1]? = some (RX2, TX2, 9) from rfl) (by decide) q699 (fun _ h => h) dX2_ticks_93 (fun v93 h93 => ?_)
          refine J.pu (fun _ _ _ _ k => lv_iload_n X.1.1 X.1.2.1 dX2_ticks_96 rfl (lv_at hl 2 rfl) k) ?_
          refine J.bind (fun o97 g97 => ?_)
          refine J.bind (fun v97 h97 => ?_)
          refine J.cV (q := (RX3, TX3, 1)) (ci := 2) (As := [.int x2_75]) (rest := []) (s2 := [.int v97]) X ⟨rfl, rfl⟩ (ct_X3_isFree l G n B75 o97 x2_75) (jrd_of h97) (fun _ _ => cwV 1 X.1.2.2.2.2 (lw_V q1999 q2000 q2001 q159 q2002) rfl rfl rfl (by decide +kernel) ⟨(Nat.le_of_ble_eq_true rfl), (Nat.le_of_ble_eq_true rfl)⟩) g97 rfl rfl hl.1 rfl rfl (Nat.le_of_ble_eq_true rfl) dX2_ticks_97 ?_
          refine J.br (fun _ _ _ _ ka kb => lv_if_ne (tgt := 118) X.1.1 X.1.2.1 dX2_ticks_100 (by decide) kb ka) (fun c100 => ?_) (fun c100 => ?_)
          · refine J.pu (fun _ _ _ _ k => lv_aload_n X.1.1 X.1.2.1 dX2_ticks_103 rfl (lv_at hl 0 rfl) k) ?_
            refine J.pu (fun _ _ _ _ k => lv_aload_n X.1.1 X.1.2.1 dX2_ticks_104 rfl (lv_at hl 0 rfl) k) ?_
            refine J.getR (k := 5) (ci := 1) X in_X2 (show jCl[1]? = some (RX2, TX2, 9) from rfl) (by decide) q699 (fun _ h => h) dX2_ticks_105 (fun v105 h105 => ?_)
            refine J.pu (fun _ _ _ _ k => lv_iload_n X.1.1 X.1.2.1 dX2_ticks_108 rfl (lv_at hl 2 rfl) k) ?_
            refine J.bind (fun o109 g109 => ?_)
            refine J.bind (fun v109 h109 => ?_)
            refine J.cV (q := (RX3, TX3, 1)) (ci := 2) (As := [.int x2_75]) (rest := [.ref this]) (s2 := [va_rf v109, .ref this]) X ⟨rfl, rfl⟩ (ct_X3_at l G n B75 o109 x2_75) (jrd_of h109) (fun _ _ => cwV 1 X.1.2.2.2.2 (lw_V q2095 q2096 q2097 q159 q2098) rfl rfl rfl (by decide +kernel) ⟨(Nat.le_of_ble_eq_true rfl), (Nat.le_of_ble_eq_true rfl)⟩) g109 rfl rfl hl.1 rfl rfl (Nat.le_of_ble_eq_true rfl) dX2_ticks_109 ?_
            refine J.cast (nm := "SortingLoop$Parcel") X q946 (List.forall_mem_cons.mpr ⟨⟨_, rfl, Or.inl rfl⟩, jnil_all⟩) dX2_ticks_112 ?_
            refine J.bind (fun o115 g115 => ?_)
            refine J.bd' (fun v115 S115 h115 => ?_)
            refine J.cV (q := (RX2, TX2, 9)) (ci := 1) (As := [va_rf v109]) (rest := []) (s2 := []) X ⟨rfl, rfl⟩ (ct_X2_scans l G n B75 o115 v109) h115 (fun _ _ => cwV 1 X.1.2.2.2.2 (lw_V q2111 q2113 qs34 q139 q2114) rfl rfl rfl (by decide +kernel) ⟨(Nat.le_of_ble_eq_true rfl), (Nat.le_of_ble_eq_true rfl)⟩) g115 rfl rfl hl.1 rfl rfl (Nat.le_of_ble_eq_true rfl) dX2_ticks_115 ?_
            exact j118 x2_75 S115 ls (lv_sub hl [0, 1, 2] rfl)
          · exact j118 x2_75 B75 ls (lv_sub hl [0, 1, 2] rfl)
  have L28 : ∀ (x1_28 : Int32) (n28 : Nat) (x2_28 : Int32) (B28 : jH) (ls : Array Slot), lv_has ls 4 [(0, .ref this), (1, .int x1_28), (2, .int x2_28)] → jGo l G 25 1312 σ (Prod.snd : Int32 × jH → jH) (fun t => jrI t.1) t p e s m args below meth c (jloop (X2_ticks_h28 G n this x1_28) n28 (x2_28, B28)) B28 (F0 m 28 ls []) := by
    intro x1_28
    intro n28
    induction n28 with
    | zero => intro x2_28 B28 ls hl; exact J.nil_
    | succ n28 ih28 =>
      intro x2_28 B28 ls hl
      refine J.eq (jloop_s _ _ _) ?_
      dsimp only [X2_ticks_h28]
      refine J.pu (fun _ _ _ _ k => lv_iload_n X.1.1 X.1.2.1 dX2_ticks_28 rfl (lv_at hl 2 rfl) k) ?_
      refine J.pu (fun _ _ _ _ k => lv_aload_n X.1.1 X.1.2.1 dX2_ticks_29 rfl (lv_at hl 0 rfl) k) ?_
      refine J.getR (k := 3) (ci := 1) X in_X2 (show jCl[1]? = some (RX2, TX2, 9) from rfl) (by decide) q692 (fun _ h => h) dX2_ticks_30 (fun v30 h30 => ?_)
      refine J.bind (fun o33 g33 => ?_)
      refine J.bind (fun v33 h33 => ?_)
      refine J.cF (q := (RJ2, TJ2, 3)) (ci := 15) (As := []) (rest := [.int x2_28]) (s2 := [.int v33, .int x2_28]) X ⟨rfl, rfl⟩ (ct_J2_size l G B28 o33) (jrd_of h33) (fun _ _ => va_cwF 0 X.1.2.2.2.2 (lw_F q829 q832 q834 q142 q836) rfl rfl rfl (jfw2 X.2.1) (by decide +kernel) ⟨(Nat.le_of_ble_eq_true rfl), (Nat.le_of_ble_eq_true rfl)⟩) g33 rfl rfl hl.1 rfl rfl (Nat.le_of_ble_eq_true rfl) dX2_ticks_33 ?_
      refine J.br (fun _ _ _ _ ka kb => lv_icmp_ge (tgt := 69) X.1.1 X.1.2.1 dX2_ticks_38 (by decide) ka kb) (fun c38 => ?_) (fun c38 => ?_)
      · refine J.pu (fun _ _ _ _ k => lv_aload_n X.1.1 X.1.2.1 dX2_ticks_69 rfl (lv_at hl 0 rfl) k) ?_
        refine J.bind (fun o70 g70 => ?_)
        refine J.bd' (fun v70 S70 h70 => ?_)
        refine J.cV (q := (RX2, TX2, 9)) (ci := 1) (As := []) (rest := []) (s2 := []) X ⟨rfl, rfl⟩ (ct_X2_turns l G n B28 o70) h70 (fun _ _ => cwV 0 X.1.2.2.2.2 (lw_V q2065 q2067 qs32 q139 q2068) rfl rfl rfl (by decide +kernel) ⟨(Nat.le_of_ble_eq_true rfl), (Nat.le_of_ble_eq_true rfl)⟩) g70 rfl rfl hl.1 rfl rfl (Nat.le_of_ble_eq_true rfl) dX2_ticks_70 ?_
        refine J.pu (fun _ _ _ _ k => lv_iconst (v := 0) X.1.1 X.1.2.1 dX2_ticks_73 (by decide) k) ?_
        refine J.istore_n (i := 2) (lv' := [(2, .int 0), (0, .ref this), (1, .int x1_28)]) X.1.1 X.1.2.1 dX2_ticks_74 rfl hl (by decide) (by first | rfl | simp [va_rf_cat, jcI, jcA, jcJ, jcD, jcF]) (fun ls hl => ?_)
        exact L75 x1_28 n 0 S70 ls (lv_sub hl [1, 2, 0] rfl)
      · refine J.pu (fun _ _ _ _ k => lv_aload_n X.1.1 X.1.2.1 dX2_ticks_41 rfl (lv_at hl 0 rfl) k) ?_
        refine J.pu (fun _ _ _ _ k => lv_iload_n X.1.1 X.1.2.1 dX2_ticks_42 rfl (lv_at hl 2 rfl) k) ?_
        refine J.bind (fun o43 g43 => ?_)
        refine J.bind (fun v43 h43 => ?_)
        refine J.cV (q := (RX2, TX2, 9)) (ci := 1) (As := [.int x2_28]) (rest := []) (s2 := [va_rf v43]) X ⟨rfl, rfl⟩ (ct_X2_chute l G n B28 o43 x2_28) (jrd_of h43) (fun _ _ => cwV 1 X.1.2.2.2.2 (lw_V q843 q844 q845 q139 q846) rfl rfl rfl (by decide +kernel) ⟨(Nat.le_of_ble_eq_true rfl), (Nat.le_of_ble_eq_true rfl)⟩) g43 rfl rfl hl.1 rfl rfl (Nat.le_of_ble_eq_true rfl) dX2_ticks_43 ?_
        refine J.pu (fun _ _ _ _ k => lv_iconst (v := 0) X.1.1 X.1.2.1 dX2_ticks_46 (by decide) k) ?_
        refine J.pu (fun _ _ _ _ k => lv_aload_n X.1.1 X.1.2.1 dX2_ticks_47 rfl (lv_at hl 0 rfl) k) ?_
        refine J.pu (fun _ _ _ _ k => lv_iload_n X.1.1 X.1.2.1 dX2_ticks_48 rfl (lv_at hl 2 rfl) k) ?_
        refine J.bind (fun o49 g49 => ?_)
        refine J.bind (fun v49 h49 => ?_)
        refine J.cV (q := (RX2, TX2, 9)) (ci := 1) (As := [.int x2_28]) (rest := [.int 0, va_rf v43]) (s2 := [va_rf v49, .int 0, va_rf v43]) X ⟨rfl, rfl⟩ (ct_X2_chute l G n B28 o49 x2_28) (jrd_of h49) (fun _ _ => cwV 1 X.1.2.2.2.2 (lw_V q843 q844 q845 q139 q846) rfl rfl rfl (by decide +kernel) ⟨(Nat.le_of_ble_eq_true rfl), (Nat.le_of_ble_eq_true rfl)⟩) g49 rfl rfl hl.1 rfl rfl (by simp [va_rf_cat, jcI, jcA, jcJ, jcD, jcF]) dX2_ticks_49 ?_
        refine J.getIN (k := 6) (ci := 3) X in_X4 (show jCl[3]? = some (RX4, TX4, 9) from rfl) (by decide) jnf27 (fun _ h => h) dX2_ticks_52 (fun v52 h52 => ?_)
        refine J.pu (fun _ _ _ _ k => lv_iconst (v := 1) X.1.1 X.1.2.1 dX2_ticks_55 (by decide) k) ?_
        refine J.pu (fun _ _ _ _ k => lv_isub X.1.1 X.1.2.1 dX2_ticks_56 k) ?_
        refine J.bind (fun v57 h57 => ?_)
        refine J.cS (As := [.int 0, .int (v52 - 1)]) (rest := [va_rf v43]) (s2 := [.int v57, va_rf v43]) X ⟨rfl, rfl⟩ (ct_J12_max l G B28 n 0 (v52 - 1)) (jrd_of h57) (fun _ _ => va_cwS 2 X.1.2.2.2.2 (lw_S q2064 q329 q152 q330) rfl rfl rfl (by decide +kernel) ⟨(Nat.le_of_ble_eq_true rfl), (Nat.le_of_ble_eq_true rfl)⟩) rfl hl.1 rfl rfl (by simp [va_rf_cat, jcI, jcA, jcJ, jcD, jcF]) dX2_ticks_57 ?_
        refine J.putIN (k := 6) (ci := 3) X in_X4 (show jCl[3]? = some (RX4, TX4, 9) from rfl) tyX4_ok (fun a ha b hb h => Or.inl (nmX4 a ha b hb h)) (by decide) jnf27 (fun _ h => h) rfl rfl dX2_ticks_60 (fun S60 h60 => ?_)
        refine J.iinc (k := 2) (lv' := [(2, .int (x2_28 + 1)), (0, .ref this), (1, .int x1_28)]) (w := (x2_28 + 1)) X.1.1 X.1.2.1 dX2_ticks_63 hl rfl rfl (by decide) (by first | rfl | simp [va_rf_cat, jcI, jcA, jcJ, jcD, jcF]) (fun ls hl => ?_)
        refine J.pu (fun _ _ _ _ k => lv_goto (tgt := 28) X.1.1 X.1.2.1 dX2_ticks_66 (by decide) k) ?_
        exact ih28 (x2_28 + 1) S60 ls (lv_sub hl [1, 2, 0] rfl)
  unfold X2_ticks_b
  refine J.pu (fun _ _ _ _ k => lv_aload_n X.1.1 X.1.2.1 dX2_ticks_0 rfl (lv_at hl 0 rfl) k) ?_
  refine J.pu (fun _ _ _ _ k => lv_iconst (v := 0) X.1.1 X.1.2.1 dX2_ticks_1 (by decide) k) ?_
  refine J.bind (fun o2 g2 => ?_)
  refine J.bind (fun v2 h2 => ?_)
  refine J.cV (q := (RX2, TX2, 9)) (ci := 1) (As := [.int 0]) (rest := []) (s2 := [.int v2]) X ⟨rfl, rfl⟩ (ct_X2_those l G n σ o2 0) (jrd_of h2) (fun _ _ => cwV 1 X.1.2.2.2.2 (lw_V q2060 q2061 q2062 q139 q2063) rfl rfl rfl (by decide +kernel) ⟨(Nat.le_of_ble_eq_true rfl), (Nat.le_of_ble_eq_true rfl)⟩) g2 rfl rfl hl.1 rfl rfl (Nat.le_of_ble_eq_true rfl) dX2_ticks_2 ?_
  refine J.istore_n (i := 1) (lv' := [(1, .int v2), (0, .ref this)]) X.1.1 X.1.2.1 dX2_ticks_5 rfl hl (by decide) (by first | rfl | simp [va_rf_cat, jcI, jcA, jcJ, jcD, jcF]) (fun ls hl => ?_)
  refine J.pu (fun _ _ _ _ k => lv_aload_n X.1.1 X.1.2.1 dX2_ticks_6 rfl (lv_at hl 1 rfl) k) ?_
  refine J.pu (fun _ _ _ _ k => lv_dup X.1.1 X.1.2.1 dX2_ticks_7 rfl k) ?_
  refine J.getI (k := 7) (ci := 1) X in_X2 (show jCl[1]? = some (RX2, TX2, 9) from rfl) (by decide) q704 (fun _ h => h) dX2_ticks_8 (fun v8 h8 => ?_)
  refine J.pu (fun _ _ _ _ k => lv_iconst (v := 1) X.1.1 X.1.2.1 dX2_ticks_11 (by decide) k) ?_
  refine J.pu (fun _ _ _ _ k => lv_iadd X.1.1 X.1.2.1 dX2_ticks_12 k) ?_
  refine J.putI (k := 7) (ci := 1) X in_X2 (show jCl[1]? = some (RX2, TX2, 9) from rfl) tyX2_ok (fun a ha b hb h => Or.inl (nmX2 a ha b hb h)) (by decide) q704 (fun _ h => h) rfl rfl dX2_ticks_13 (fun S13 h13 => ?_)
  refine J.pu (fun _ _ _ _ k => lv_aload_n X.1.1 X.1.2.1 dX2_ticks_16 rfl (lv_at hl 1 rfl) k) ?_
  refine J.getR (k := 6) (ci := 1) X in_X2 (show jCl[1]? = some (RX2, TX2, 9) from rfl) (by decide) q701 (fun _ h => h) dX2_ticks_17 (fun v17 h17 => ?_)
  refine J.pu (fun _ _ _ _ k => lv_iconst (v := 0) X.1.1 X.1.2.1 dX2_ticks_20 (by decide) k) ?_
  refine J.pu (fun _ _ _ _ k => lv_dup2_11 X.1.1 X.1.2.1 dX2_ticks_21 rfl (va_rf_cat _) k) ?_
  refine J.aI0 X dX2_ticks_22 (fun v22 h22 => ?_)
  refine J.pu (fun _ _ _ _ k => lv_iconst (v := 1) X.1.1 X.1.2.1 dX2_ticks_23 (by decide) k) ?_
  refine J.pu (fun _ _ _ _ k => lv_iadd X.1.1 X.1.2.1 dX2_ticks_24 k) ?_
  refine J.sI0 X dX2_ticks_25 (fun S25 h25 => ?_)
  refine J.pu (fun _ _ _ _ k => lv_iconst (v := 0) X.1.1 X.1.2.1 dX2_ticks_26 (by decide) k) ?_
  refine J.istore_n (i := 2) (lv' := [(2, .int 0), (1, .int v2), (0, .ref this)]) X.1.1 X.1.2.1 dX2_ticks_27 rfl hl (by decide) (by first | rfl | simp [va_rf_cat, jcI, jcA, jcJ, jcD, jcF]) (fun ls hl => ?_)
  exact L28 v2 n 0 S25 ls (lv_sub hl [2, 1, 0] rfl)
noncomputable def X8_read_j43 (G : jG) (n : Nat) (this : Nat) (s1_43 : Int32) (B43 : jH) : Option (jTh (Option Nat) × jH) :=
  (rc B43 (some this) 6).bind fun o44 => tb (X7_expect_X8 G n B43 o44 s1_43 5) fun v44 S44 => (gR S44 (some this) 6 6).bind fun v48 => some (.inl v48, S44)
noncomputable def X8_read_h4 (G : jG) (n : Nat) (this : Nat) (rec4 : jH → Option (jTh (Option Nat) × jH)) (q4 : jH) : Option (jTh (Option Nat) × jH) :=
  let B4 := q4; (rc B4 (some this) 6).bind fun o5 => (X7_isOver_X8 G n B4 o5).bind fun v5 => if v5 = 0 then ((rc B4 (some this) 6).bind fun o13 => (X7_word_X8 G n B4 o13).bind fun v13 => (rc B4 (some this) 6).bind fun o16 => tb (X8_statement G n B4 o16 v13) fun v16 S16 => rec4 S16) else ((gR B4 (some this) 6 6).bind fun v24 => (gR B4 v24 1 3).bind fun v27 => (rc B4 v27 15).bind fun o30 => (lEmpty 0 B4 o30).bind fun v30 => if v30 = 0 then (X8_read_j43 G n this 1 B4) else (X8_read_j43 G n this 0 B4))
noncomputable def X8_read_b (G : jG) (n : Nat) (σ : jH) (this : Nat) : Option (jTh (Option Nat) × jH) :=
  (rc σ (some this) 6).bind fun o1 => tb (X8_loop G n σ o1) fun v1 S1 => jloop (X8_read_h4 G n this) n S1
noncomputable def X8_read (G : jG) (n : Nat) (σ : jH) (this : Nat) : Option (jTh (Option Nat) × jH) := jck σ (X8_read_b G n σ this)
set_option maxHeartbeats 4000000 in
set_option maxRecDepth 100000 in
theorem ct_X8_read (l : Launch) (hfl : l.stackTraces = false) (G : jG) (n : Nat) (σ : jH) (this : Nat) : jTt l G yX8_read (ws_ yX8_read cX8_read 1 (some (.object "SortingLoop$Loop"))) 26 1335 jrR [.ref this] σ (X8_read G n σ this) := by
  refine jTt.wr (lv := [(0, .ref this)]) rfl (Nat.le_of_ble_eq_true rfl) rfl ?_
  intro t p e s m args below meth c ls X hr hnm hout hl
  have X : jCx p c cX8_read 1 s m args RX8 G meth := X
  have j43 : ∀ (s1_43 : Int32) (B43 : jH) (ls : Array Slot), lv_has ls 1 [(0, .ref this)] → jGoT l G 26 1335 σ jrR t p e s m args below meth c (X8_read_j43 G n this s1_43 B43) B43 (F0 m 43 ls [.int s1_43, .ref this]) := by
    intro s1_43 B43 ls hl
    unfold X8_read_j43
    refine J.pu (fun _ _ _ _ k => lv_iconst (v := 5) X.1.1 X.1.2.1 dX8_read_43 (by decide) k) ?_
    refine J.bind (fun o44 g44 => ?_)
    refine J.tU (q := (RX8, TX8, 8)) (ci := 6) (As := [.int s1_43, .int 5]) (rest := []) X hout ⟨rfl, rfl⟩ (ct_X7_expect_X8 l hfl G n B43 o44 s1_43 5) (fun _ _ => va_cwU 2 X.1.2.2.2.2 (lw_U q1565 q1566 q1568 q1569 q175 q1570) rfl rfl rfl rfl (by decide +kernel) ⟨(Nat.le_of_ble_eq_true rfl), (Nat.le_of_ble_eq_true rfl)⟩) g44 rfl rfl hl.1 rfl (Nat.le_of_ble_eq_true rfl) dX8_read_44 (fun v44 S44 h44 => ?_)
    refine J.geq (g2 := F0 m 47 ls []) rfl ?_
    refine J.pu (fun _ _ _ _ k => lv_aload_n X.1.1 X.1.2.1 dX8_read_47 rfl (lv_at hl 0 rfl) k) ?_
    refine J.getR (k := 6) (ci := 6) X in_X8 (show jCl[6]? = some (RX8, TX8, 8) from rfl) (by decide) q1517 (fun _ h => h) dX8_read_48 (fun v48 h48 => ?_)
    exact J.tret (J.aret (vr := fun t : (Option Nat) × jH => jrR t.1) (fin := (Prod.snd : (Option Nat) × jH → jH)) (t := (v48, S44)) X hr (Or.inl ⟨_, rfl⟩) (by rfl) (by rfl) dX8_read_51)
  have L4 : ∀ (n4 : Nat) (B4 : jH) (ls : Array Slot), lv_has ls 1 [(0, .ref this)] → jGoT l G 26 1335 σ jrR t p e s m args below meth c (jloop (X8_read_h4 G n this) n4 B4) B4 (F0 m 4 ls []) := by
    intro n4
    induction n4 with
    | zero => intro B4 ls hl; exact J.nil_
    | succ n4 ih4 =>
      intro B4 ls hl
      refine J.eq (jloop_s _ _ _) ?_
      dsimp only [X8_read_h4]
      refine J.pu (fun _ _ _ _ k => lv_aload_n X.1.1 X.1.2.1 dX8_read_4 rfl (lv_at hl 0 rfl) k) ?_
      refine J.bind (fun o5 g5 => ?_)
      refine J.bind (fun v5 h5 => ?_)
      refine J.cU (q := (RX8, TX8, 8)) (ci := 6) (As := []) (rest := []) (s2 := [.int v5]) X ⟨rfl, rfl⟩ (ct_X7_isOver_X8 l G n B4 o5) (jrd_of h5) (fun _ _ => va_cwU 0 X.1.2.2.2.2 (lw_U q1624 q1625 q1627 q1628 q175 q1629) rfl rfl rfl rfl (by decide +kernel) ⟨(Nat.le_of_ble_eq_true rfl), (Nat.le_of_ble_eq_true rfl)⟩) g5 rfl rfl hl.1 rfl rfl (Nat.le_of_ble_eq_true rfl) dX8_read_5 ?_
      refine J.br (fun _ _ _ _ ka kb => lv_if_ne (tgt := 22) X.1.1 X.1.2.1 dX8_read_8 (by decide) kb ka) (fun c8 => ?_) (fun c8 => ?_)
      · refine J.pu (fun _ _ _ _ k => lv_aload_n X.1.1 X.1.2.1 dX8_read_11 rfl (lv_at hl 0 rfl) k) ?_
        refine J.pu (fun _ _ _ _ k => lv_aload_n X.1.1 X.1.2.1 dX8_read_12 rfl (lv_at hl 0 rfl) k) ?_
        refine J.bind (fun o13 g13 => ?_)
        refine J.bind (fun v13 h13 => ?_)
        refine J.cU (q := (RX8, TX8, 8)) (ci := 6) (As := []) (rest := [.ref this]) (s2 := [va_rf v13, .ref this]) X ⟨rfl, rfl⟩ (ct_X7_word_X8 l G n B4 o13) (jrd_of h13) (fun _ _ => va_cwU 0 X.1.2.2.2.2 (lw_U q1550 q1551 q1553 q1554 q175 q1555) rfl rfl rfl rfl (by decide +kernel) ⟨(Nat.le_of_ble_eq_true rfl), (Nat.le_of_ble_eq_true rfl)⟩) g13 rfl rfl hl.1 rfl rfl (Nat.le_of_ble_eq_true rfl) dX8_read_13 ?_
        refine J.bind (fun o16 g16 => ?_)
        refine J.tV (q := (RX8, TX8, 8)) (ci := 6) (As := [va_rf v13]) (rest := []) X hout ⟨rfl, rfl⟩ (ct_X8_statement l hfl G n B4 o16 v13) (fun _ _ => cwV 1 X.1.2.2.2.2 (lw_V q1630 q1632 qs19 q176 q1633) rfl rfl rfl (by decide +kernel) ⟨(Nat.le_of_ble_eq_true rfl), (Nat.le_of_ble_eq_true rfl)⟩) g16 rfl rfl hl.1 rfl (Nat.le_of_ble_eq_true rfl) dX8_read_16 (fun v16 S16 h16 => ?_)
        refine J.geq (g2 := F0 m 19 ls []) rfl ?_
        refine J.pu (fun _ _ _ _ k => lv_goto (tgt := 4) X.1.1 X.1.2.1 dX8_read_19 (by decide) k) ?_
        exact ih4 S16 ls (lv_sub hl [0] rfl)
      · refine J.pu (fun _ _ _ _ k => lv_aload_n X.1.1 X.1.2.1 dX8_read_22 rfl (lv_at hl 0 rfl) k) ?_
        refine J.pu (fun _ _ _ _ k => lv_aload_n X.1.1 X.1.2.1 dX8_read_23 rfl (lv_at hl 0 rfl) k) ?_
        refine J.getR (k := 6) (ci := 6) X in_X8 (show jCl[6]? = some (RX8, TX8, 8) from rfl) (by decide) q1517 (fun _ h => h) dX8_read_24 (fun v24 h24 => ?_)
        refine J.getRN (k := 3) (ci := 1) X in_X2 (show jCl[1]? = some (RX2, TX2, 9) from rfl) (by decide) jnf7 (fun _ h => h) dX8_read_27 (fun v27 h27 => ?_)
        refine J.bind (fun o30 g30 => ?_)
        refine J.bind (fun v30 h30 => ?_)
        refine J.cF (q := (RJ2, TJ2, 3)) (ci := 15) (As := []) (rest := [.ref this]) (s2 := [.int v30, .ref this]) X ⟨rfl, rfl⟩ (ct_J2_isEmpty l G B4 o30) (jrd_of h30) (fun _ _ => va_cwF 0 X.1.2.2.2.2 (lw_F q1724 q1727 q1729 q142 q1731) rfl rfl rfl (jfw23 X.2.1) (by decide +kernel) ⟨(Nat.le_of_ble_eq_true rfl), (Nat.le_of_ble_eq_true rfl)⟩) g30 rfl rfl hl.1 rfl rfl (Nat.le_of_ble_eq_true rfl) dX8_read_30 ?_
        refine J.br (fun _ _ _ _ ka kb => lv_if_ne (tgt := 42) X.1.1 X.1.2.1 dX8_read_35 (by decide) kb ka) (fun c35 => ?_) (fun c35 => ?_)
        · refine J.pu (fun _ _ _ _ k => lv_iconst (v := 1) X.1.1 X.1.2.1 dX8_read_38 (by decide) k) ?_
          refine J.pu (fun _ _ _ _ k => lv_goto (tgt := 43) X.1.1 X.1.2.1 dX8_read_39 (by decide) k) ?_
          exact j43 1 B4 ls (lv_sub hl [0] rfl)
        · refine J.pu (fun _ _ _ _ k => lv_iconst (v := 0) X.1.1 X.1.2.1 dX8_read_42 (by decide) k) ?_
          exact j43 0 B4 ls (lv_sub hl [0] rfl)
  unfold X8_read_b
  refine J.pu (fun _ _ _ _ k => lv_aload_n X.1.1 X.1.2.1 dX8_read_0 rfl (lv_at hl 0 rfl) k) ?_
  refine J.bind (fun o1 g1 => ?_)
  refine J.tV (q := (RX8, TX8, 8)) (ci := 6) (As := []) (rest := []) X hout ⟨rfl, rfl⟩ (ct_X8_loop l hfl G n σ o1) (fun _ _ => cwV 0 X.1.2.2.2.2 (lw_V q1546 q1548 qs18 q176 q1549) rfl rfl rfl (by decide +kernel) ⟨(Nat.le_of_ble_eq_true rfl), (Nat.le_of_ble_eq_true rfl)⟩) g1 rfl rfl hl.1 rfl (Nat.le_of_ble_eq_true rfl) dX8_read_1 (fun v1 S1 h1 => ?_)
  refine J.geq (g2 := F0 m 4 ls []) rfl ?_
  exact L4 n S1 ls (lv_sub hl [0] rfl)
noncomputable def X0_put_b (G : jG) (n : Nat) (σ : jH) (a0 : Option Nat) (a1 : Int32) (a2 : Int32) (a3 : Option Nat) : Option (Int32 × jH) :=
  (rc σ a0 0).bind fun o5 => tc (X1_put G n σ o5 a1 a2) (fun v5 S5 => (sJ G S5 a3 0 v5.toInt64).bind fun S9 => some (0, S9)) (fun k5 q5 S5 => if k5 = 0 then (some (2, S5)) else if k5 = 1 then (some (3, S5)) else if k5 = 2 then (some (1, S5)) else none)
noncomputable def X0_put (G : jG) (n : Nat) (σ : jH) (a0 : Option Nat) (a1 : Int32) (a2 : Int32) (a3 : Option Nat) : Option (Int32 × jH) := jck σ (X0_put_b G n σ a0 a1 a2 a3)
set_option maxHeartbeats 4000000 in
set_option maxRecDepth 100000 in
theorem ct_X0_put (l : Launch) (hfl : l.stackTraces = false) (G : jG) (n : Nat) (σ : jH) (a0 : Option Nat) (a1 : Int32) (a2 : Int32) (a3 : Option Nat) : jCt l G yX0_put (wsW_ yX0_put cX0_put 5 (some .int) [(0, 10, 13, 22), (0, 10, 17, 13), (0, 10, 21, 73)]) 27 1355 jrI [va_rf a0, .int a1, .int a2, va_rf a3] σ (X0_put G n σ a0 a1 a2 a3) := by
  refine jCt.wrH (hh := [(0, 10, 13, 22), (0, 10, 17, 13), (0, 10, 21, 73)]) (lv := [(0, va_rf a0), (1, .int a1), (2, .int a2), (3, va_rf a3)]) (plainFor_of_name (by decide)) (by simp [lg_sl, va_rf_cat, jcI, jcA, jcJ, jcD, jcF]) (by simp [lv_args, va_rf_cat, jcI, jcA, jcJ, jcD, jcF]) ?_
  intro t p e s m args below meth c ls X hr hnm htab hl
  have X : jCx p c cX0_put 5 s m args RX0 G meth := X
  unfold X0_put_b
  refine J.pu (fun _ _ _ _ k => W.rload_n X.1.1 X.1.2.1 dX0_put_0 rfl (lv_at hl 3 rfl) k) ?_
  refine J.pu (fun _ _ _ _ k => lv_iconst (v := 0) X.1.1 X.1.2.1 dX0_put_1 (by decide) k) ?_
  refine J.pu (fun _ _ _ _ k => W.rload_n X.1.1 X.1.2.1 dX0_put_2 rfl (lv_at hl 0 rfl) k) ?_
  refine J.pu (fun _ _ _ _ k => lv_iload_n X.1.1 X.1.2.1 dX0_put_3 rfl (lv_at hl 1 rfl) k) ?_
  refine J.pu (fun _ _ _ _ k => lv_iload_n X.1.1 X.1.2.1 dX0_put_4 rfl (lv_at hl 2 rfl) k) ?_
  refine J.bind (fun o5 g5 => ?_)
  refine J.hV (q := (RX1, TX1, 9)) (ci := 0) (As := [.int a1, .int a2]) (rest := [.int 0, va_rf a3]) X ⟨rfl, rfl⟩ (ct_X1_put l hfl G n σ o5 a1 a2) (fun _ _ => cwV 2 X.1.2.2.2.2 (lw_V q2625 q2626 q2627 q138 q2628) rfl rfl rfl (by decide +kernel) ⟨(Nat.le_of_ble_eq_true rfl), (Nat.le_of_ble_eq_true rfl)⟩) g5 rfl rfl hl.1 rfl (by simp [va_rf_cat, jcI, jcA, jcJ, jcD, jcF]) dX0_put_5 (fun v5 S5 h5 => ?_) (fun k5 q5 S5 h5 => ?_)
  · refine J.geq (g2 := F0 m 8 ls [.int v5, .int 0, va_rf a3]) rfl ?_
    refine J.pu (fun _ _ _ _ k => lv_i2l (v := v5.toInt64) X.1.1 X.1.2.1 dX0_put_8 rfl k) ?_
    refine J.sJ' X dX0_put_9 (fun S9 h9 => ?_)
    refine J.pu (fun _ _ _ _ k => lv_goto (tgt := 25) X.1.1 X.1.2.1 dX0_put_10 (by decide) k) ?_
    refine J.pu (fun _ _ _ _ k => lv_iconst (v := 0) X.1.1 X.1.2.1 dX0_put_25 (by decide) k) ?_
    exact J.iret (vr := fun t : Int32 × jH => jrI t.1) (fin := Prod.snd) (t := t) X hr (by rfl) (by rfl) dX0_put_26
  · refine Jx.ite (fun k5_0 => ?_) (fun k5_0 => ?_)
    · refine Jx.catch_ (E := "java/lang/IllegalArgumentException") (nm := "java/lang/IllegalArgumentException") X k5_0 rfl [(⟨0, 10, 13, 22⟩ : ExceptionTableEntry)] (⟨0, 10, 17, 13⟩ : ExceptionTableEntry) [(⟨0, 10, 21, 73⟩ : ExceptionTableEntry)] (htab.trans rfl) (List.forall_mem_cons.mpr ⟨(Or.inr ⟨by decide, "java/lang/IndexOutOfBoundsException", q2420, List.mem_of_getElem? (i := 0) rfl⟩), jnil_all⟩) rfl (by decide) q2385 jnc0 ?_
      refine J.astore (r := (some q5)) (lv' := [(4, va_rf (some q5)), (0, va_rf a0), (1, .int a1), (2, .int a2), (3, va_rf a3)]) X.1.1 X.1.2.1 dX0_put_17 hl (by decide) (by first | rfl | simp [va_rf_cat, jcI, jcA, jcJ, jcD, jcF]) (fun ls hl => ?_)
      refine J.pu (fun _ _ _ _ k => lv_iconst (v := 2) X.1.1 X.1.2.1 dX0_put_19 (by decide) k) ?_
      exact J.iret (vr := fun t : Int32 × jH => jrI t.1) (fin := Prod.snd) (t := t) X hr (by rfl) (by rfl) dX0_put_20
    refine Jx.ite (fun k5_1 => ?_) (fun k5_1 => ?_)
    · refine Jx.catch_ (E := "java/lang/IllegalStateException") (nm := "java/lang/IllegalStateException") X k5_1 rfl [(⟨0, 10, 13, 22⟩ : ExceptionTableEntry), (⟨0, 10, 17, 13⟩ : ExceptionTableEntry)] (⟨0, 10, 21, 73⟩ : ExceptionTableEntry) [] (htab.trans rfl) (List.forall_mem_cons.mpr ⟨(Or.inr ⟨by decide, "java/lang/IndexOutOfBoundsException", q2420, List.mem_of_getElem? (i := 1) rfl⟩), (List.forall_mem_cons.mpr ⟨(Or.inr ⟨by decide, "java/lang/IllegalArgumentException", q2385, List.mem_of_getElem? (i := 2) rfl⟩), jnil_all⟩)⟩) rfl (by decide) q2624 jnc13 ?_
      refine J.astore (r := (some q5)) (lv' := [(4, va_rf (some q5)), (0, va_rf a0), (1, .int a1), (2, .int a2), (3, va_rf a3)]) X.1.1 X.1.2.1 dX0_put_21 hl (by decide) (by first | rfl | simp [va_rf_cat, jcI, jcA, jcJ, jcD, jcF]) (fun ls hl => ?_)
      refine J.pu (fun _ _ _ _ k => lv_iconst (v := 3) X.1.1 X.1.2.1 dX0_put_23 (by decide) k) ?_
      exact J.iret (vr := fun t : Int32 × jH => jrI t.1) (fin := Prod.snd) (t := t) X hr (by rfl) (by rfl) dX0_put_24
    refine Jx.ite (fun k5_2 => ?_) (fun k5_2 => ?_)
    · refine Jx.catch_ (E := "java/lang/IndexOutOfBoundsException") (nm := "java/lang/IndexOutOfBoundsException") X k5_2 rfl [] (⟨0, 10, 13, 22⟩ : ExceptionTableEntry) [(⟨0, 10, 17, 13⟩ : ExceptionTableEntry), (⟨0, 10, 21, 73⟩ : ExceptionTableEntry)] (htab.trans rfl) jnil_all rfl (by decide) q2420 jnc4 ?_
      refine J.astore (r := (some q5)) (lv' := [(4, va_rf (some q5)), (0, va_rf a0), (1, .int a1), (2, .int a2), (3, va_rf a3)]) X.1.1 X.1.2.1 dX0_put_13 hl (by decide) (by first | rfl | simp [va_rf_cat, jcI, jcA, jcJ, jcD, jcF]) (fun ls hl => ?_)
      refine J.pu (fun _ _ _ _ k => lv_iconst (v := 1) X.1.1 X.1.2.1 dX0_put_15 (by decide) k) ?_
      exact J.iret (vr := fun t : Int32 × jH => jrI t.1) (fin := Prod.snd) (t := t) X hr (by rfl) (by rfl) dX0_put_16
    exact Jx.nil_
