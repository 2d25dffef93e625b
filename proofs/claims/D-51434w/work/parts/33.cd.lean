/-! the component, walked: printed by wip gen/comp.py -/
set_option maxRecDepth 100000
noncomputable def X7_expect_X8_b (G : jG) (n : Nat) (σ : jH) (this : Nat) (a1 : Int32) (a2 : Int32) : Option (jTh Unit × jH) :=
  if a1 = 0 then (bd (nO σ 8 [.null, .null, .null, .null, .null, .int 0, .int 0, .int 0] 8) fun v4 S4 => (gI S4 (some this) 6 0).bind fun v10 => bd (X9_init G n S4 v4 a2 v10) fun v13 S13 => (isT G S13 v4 8).bind fun _ => some (.inr (4, v4), S13)) else (some (.inl (), σ))
noncomputable def X7_expect_X8 (G : jG) (n : Nat) (σ : jH) (this : Nat) (a1 : Int32) (a2 : Int32) : Option (jTh Unit × jH) := jck σ (X7_expect_X8_b G n σ this a1 a2)
set_option maxHeartbeats 4000000 in
set_option maxRecDepth 100000 in
theorem ct_X7_expect_X8 (l : Launch) (hfl : l.stackTraces = false) (G : jG) (n : Nat) (σ : jH) (this : Nat) (a1 : Int32) (a2 : Int32) : jTt l G yX7_expect (ws_ yX7_expect cX7_expect 3 none) 4 100 jrV [.ref this, .int a1, .int a2] σ (X7_expect_X8 G n σ this a1 a2) := by
  refine jTt.wr (lv := [(0, .ref this), (1, .int a1), (2, .int a2)]) rfl (Nat.le_of_ble_eq_true rfl) rfl ?_
  intro t p e s m args below meth c ls X hr hnm hout hl
  have X : jCx p c cX7_expect 3 s m args RX7 G meth := X
  unfold X7_expect_X8_b
  refine J.pu (fun _ _ _ _ k => lv_iload_n X.1.1 X.1.2.1 dX7_expect_0 rfl (lv_at hl 1 rfl) k) ?_
  refine J.br (fun _ _ _ _ ka kb => lv_if_ne (tgt := 17) X.1.1 X.1.2.1 dX7_expect_1 (by decide) kb ka) (fun c1 => ?_) (fun c1 => ?_)
  · refine J.nO' (fs := [.null, .null, .null, .null, .null, .int 0, .int 0, .int 0]) X ⟨rfl, rfl⟩ in_X9 (show jCl[8]? = some (RX9, TX9, 8) from rfl) tyX9 tyX9_ok q1571 q1572 q181 rfl dX7_expect_4 (fun v4 S4 h4 => ?_)
    refine J.pu (fun _ _ _ _ k => lv_dup X.1.1 X.1.2.1 dX7_expect_7 rfl k) ?_
    refine J.pu (fun _ _ _ _ k => lv_iload_n X.1.1 X.1.2.1 dX7_expect_8 rfl (lv_at hl 2 rfl) k) ?_
    refine J.pu (fun _ _ _ _ k => lv_aload_n X.1.1 X.1.2.1 dX7_expect_9 rfl (lv_at hl 0 rfl) k) ?_
    refine J.getI (k := 0) (ci := 6) X in_X8 (show jCl[6]? = some (RX8, TX8, 8) from rfl) (by decide) q1519 (fun _ h => h) dX7_expect_10 (fun v10 h10 => ?_)
    refine J.bd' (fun v13 S13 h13 => ?_)
    refine J.cI (a := v4) (As := [.int a2, .int v10]) (rest := [.ref v4]) (s2 := [.ref v4]) X ⟨rfl, rfl⟩ (ct_X9_init l G n S4 v4 a2 v10) h13 (fun _ _ => jcwI 2 X.1.2.2.2.2 q1580 q1581 q181 q1582 rfl rfl rfl (by decide +kernel) ⟨(Nat.le_of_ble_eq_true rfl), (Nat.le_of_ble_eq_true rfl)⟩) rfl hl.1 rfl rfl (Nat.le_of_ble_eq_true rfl) dX7_expect_13 ?_
    exact J.thr (k := 4) (ci := 8) X hout rfl rfl dX7_expect_16
  · exact J.tret (J.vret (vr := fun t : Unit × jH => jrV t.1) (fin := (Prod.snd : Unit × jH → jH)) (t := ((), σ)) X hr (by rfl) (by rfl) dX7_expect_17)
noncomputable def X7_expect_X10_b (G : jG) (n : Nat) (σ : jH) (this : Nat) (a1 : Int32) (a2 : Int32) : Option (jTh Unit × jH) :=
  if a1 = 0 then (bd (nO σ 8 [.null, .null, .null, .null, .null, .int 0, .int 0, .int 0] 8) fun v4 S4 => (gI S4 (some this) 7 0).bind fun v10 => bd (X9_init G n S4 v4 a2 v10) fun v13 S13 => (isT G S13 v4 8).bind fun _ => some (.inr (4, v4), S13)) else (some (.inl (), σ))
noncomputable def X7_expect_X10 (G : jG) (n : Nat) (σ : jH) (this : Nat) (a1 : Int32) (a2 : Int32) : Option (jTh Unit × jH) := jck σ (X7_expect_X10_b G n σ this a1 a2)
set_option maxHeartbeats 4000000 in
set_option maxRecDepth 100000 in
theorem ct_X7_expect_X10 (l : Launch) (hfl : l.stackTraces = false) (G : jG) (n : Nat) (σ : jH) (this : Nat) (a1 : Int32) (a2 : Int32) : jTt l G yX7_expect (ws_ yX7_expect cX7_expect 3 none) 4 100 jrV [.ref this, .int a1, .int a2] σ (X7_expect_X10 G n σ this a1 a2) := by
  refine jTt.wr (lv := [(0, .ref this), (1, .int a1), (2, .int a2)]) rfl (Nat.le_of_ble_eq_true rfl) rfl ?_
  intro t p e s m args below meth c ls X hr hnm hout hl
  have X : jCx p c cX7_expect 3 s m args RX7 G meth := X
  unfold X7_expect_X10_b
  refine J.pu (fun _ _ _ _ k => lv_iload_n X.1.1 X.1.2.1 dX7_expect_0 rfl (lv_at hl 1 rfl) k) ?_
  refine J.br (fun _ _ _ _ ka kb => lv_if_ne (tgt := 17) X.1.1 X.1.2.1 dX7_expect_1 (by decide) kb ka) (fun c1 => ?_) (fun c1 => ?_)
  · refine J.nO' (fs := [.null, .null, .null, .null, .null, .int 0, .int 0, .int 0]) X ⟨rfl, rfl⟩ in_X9 (show jCl[8]? = some (RX9, TX9, 8) from rfl) tyX9 tyX9_ok q1571 q1572 q181 rfl dX7_expect_4 (fun v4 S4 h4 => ?_)
    refine J.pu (fun _ _ _ _ k => lv_dup X.1.1 X.1.2.1 dX7_expect_7 rfl k) ?_
    refine J.pu (fun _ _ _ _ k => lv_iload_n X.1.1 X.1.2.1 dX7_expect_8 rfl (lv_at hl 2 rfl) k) ?_
    refine J.pu (fun _ _ _ _ k => lv_aload_n X.1.1 X.1.2.1 dX7_expect_9 rfl (lv_at hl 0 rfl) k) ?_
    refine J.getI (k := 0) (ci := 7) X in_X10 (show jCl[7]? = some (RX10, TX10, 8) from rfl) (by decide) q1519 (fun _ h => h) dX7_expect_10 (fun v10 h10 => ?_)
    refine J.bd' (fun v13 S13 h13 => ?_)
    refine J.cI (a := v4) (As := [.int a2, .int v10]) (rest := [.ref v4]) (s2 := [.ref v4]) X ⟨rfl, rfl⟩ (ct_X9_init l G n S4 v4 a2 v10) h13 (fun _ _ => jcwI 2 X.1.2.2.2.2 q1580 q1581 q181 q1582 rfl rfl rfl (by decide +kernel) ⟨(Nat.le_of_ble_eq_true rfl), (Nat.le_of_ble_eq_true rfl)⟩) rfl hl.1 rfl rfl (Nat.le_of_ble_eq_true rfl) dX7_expect_13 ?_
    exact J.thr (k := 4) (ci := 8) X hout rfl rfl dX7_expect_16
  · exact J.tret (J.vret (vr := fun t : Unit × jH => jrV t.1) (fin := (Prod.snd : Unit × jH → jH)) (t := ((), σ)) X hr (by rfl) (by rfl) dX7_expect_17)
noncomputable def X7_numberHere_X8_j14 (G : jG) (n : Nat) (this : Nat) (a1 : Int32) (a2 : Int32) (s1_14 : Int32) (B14 : jH) : Option (jTh Int32 × jH) :=
  (rc B14 (some this) 6).bind fun o15 => tb (X7_expect_X8 G n B14 o15 s1_14 1) fun v15 S15 => (gI S15 (some this) 6 3).bind fun v20 => (X1_isIn G n S15 v20.toInt64 a1.toInt64 a2.toInt64).bind fun v28 => (rc S15 (some this) 6).bind fun o32 => tb (X7_expect_X8 G n S15 o32 v28 2) fun v32 S32 => (gI S32 (some this) 6 3).bind fun v36 => some (.inl v36, S32)
noncomputable def X7_numberHere_X8_b (G : jG) (n : Nat) (σ : jH) (this : Nat) (a1 : Int32) (a2 : Int32) : Option (jTh Int32 × jH) :=
  (gI σ (some this) 6 2).bind fun v2 => if v2 = 1 then (X7_numberHere_X8_j14 G n this a1 a2 1 σ) else (X7_numberHere_X8_j14 G n this a1 a2 0 σ)
noncomputable def X7_numberHere_X8 (G : jG) (n : Nat) (σ : jH) (this : Nat) (a1 : Int32) (a2 : Int32) : Option (jTh Int32 × jH) := jck σ (X7_numberHere_X8_b G n σ this a1 a2)
set_option maxHeartbeats 4000000 in
set_option maxRecDepth 100000 in
theorem ct_X7_numberHere_X8 (l : Launch) (hfl : l.stackTraces = false) (G : jG) (n : Nat) (σ : jH) (this : Nat) (a1 : Int32) (a2 : Int32) : jTt l G yX7_numberHere (ws_ yX7_numberHere cX7_numberHere 3 (some .int)) 5 122 jrI [.ref this, .int a1, .int a2] σ (X7_numberHere_X8 G n σ this a1 a2) := by
  refine jTt.wr (lv := [(0, .ref this), (1, .int a1), (2, .int a2)]) rfl (Nat.le_of_ble_eq_true rfl) rfl ?_
  intro t p e s m args below meth c ls X hr hnm hout hl
  have X : jCx p c cX7_numberHere 3 s m args RX7 G meth := X
  have j14 : ∀ (s1_14 : Int32) (B14 : jH) (ls : Array Slot), lv_has ls 3 [(0, .ref this), (1, .int a1), (2, .int a2)] → jGoT l G 5 122 σ jrI t p e s m args below meth c (X7_numberHere_X8_j14 G n this a1 a2 s1_14 B14) B14 (F0 m 14 ls [.int s1_14, .ref this]) := by
    intro s1_14 B14 ls hl
    unfold X7_numberHere_X8_j14
    refine J.pu (fun _ _ _ _ k => lv_iconst (v := 1) X.1.1 X.1.2.1 dX7_numberHere_14 (by decide) k) ?_
    refine J.bind (fun o15 g15 => ?_)
    refine J.tU (q := (RX8, TX8, 8)) (ci := 6) (As := [.int s1_14, .int 1]) (rest := []) X hout ⟨rfl, rfl⟩ (ct_X7_expect_X8 l hfl G n B14 o15 s1_14 1) (fun _ _ => va_cwU 2 X.1.2.2.2.2 (lw_U q1615 q3335 q3337 q1569 q175 q1570) rfl rfl rfl rfl (by decide +kernel) ⟨(Nat.le_of_ble_eq_true rfl), (Nat.le_of_ble_eq_true rfl)⟩) g15 rfl rfl hl.1 rfl (Nat.le_of_ble_eq_true rfl) dX7_numberHere_15 (fun v15 S15 h15 => ?_)
    refine J.geq (g2 := F0 m 18 ls []) rfl ?_
    refine J.pu (fun _ _ _ _ k => lv_aload_n X.1.1 X.1.2.1 dX7_numberHere_18 rfl (lv_at hl 0 rfl) k) ?_
    refine J.pu (fun _ _ _ _ k => lv_aload_n X.1.1 X.1.2.1 dX7_numberHere_19 rfl (lv_at hl 0 rfl) k) ?_
    refine J.getI (k := 3) (ci := 6) X in_X8 (show jCl[6]? = some (RX8, TX8, 8) from rfl) (by decide) q1522 (fun _ h => h) dX7_numberHere_20 (fun v20 h20 => ?_)
    refine J.pu (fun _ _ _ _ k => lv_i2l (v := v20.toInt64) X.1.1 X.1.2.1 dX7_numberHere_23 rfl k) ?_
    refine J.pu (fun _ _ _ _ k => lv_iload_n X.1.1 X.1.2.1 dX7_numberHere_24 rfl (lv_at hl 1 rfl) k) ?_
    refine J.pu (fun _ _ _ _ k => lv_i2l (v := a1.toInt64) X.1.1 X.1.2.1 dX7_numberHere_25 rfl k) ?_
    refine J.pu (fun _ _ _ _ k => lv_iload_n X.1.1 X.1.2.1 dX7_numberHere_26 rfl (lv_at hl 2 rfl) k) ?_
    refine J.pu (fun _ _ _ _ k => lv_i2l (v := a2.toInt64) X.1.1 X.1.2.1 dX7_numberHere_27 rfl k) ?_
    refine J.bind (fun v28 h28 => ?_)
    refine J.cSN (As := [.long v20.toInt64, .long a1.toInt64, .long a2.toInt64]) (rest := [.ref this]) (s2 := [.int v28, .ref this]) X ⟨rfl, rfl⟩ (ct_X1_isIn l G n S15 v20.toInt64 a1.toInt64 a2.toInt64) (jrd_of h28) (fun _ _ => ⟨va_cnB 3 X.1.2.2.2.2 (lw_meth q1367) rfl rfl rfl (jnm1 X.2.1) (X.1.2.2.2.2 _ q138) (by decide +kernel) ⟨(Nat.le_of_ble_eq_true rfl), (Nat.le_of_ble_eq_true rfl)⟩, X.1.2.2.2.2 _ q1366, trivial⟩) rfl hl.1 rfl rfl (Nat.le_of_ble_eq_true rfl) dX7_numberHere_28 ?_
    refine J.pu (fun _ _ _ _ k => lv_iconst (v := 2) X.1.1 X.1.2.1 dX7_numberHere_31 (by decide) k) ?_
    refine J.bind (fun o32 g32 => ?_)
    refine J.tU (q := (RX8, TX8, 8)) (ci := 6) (As := [.int v28, .int 2]) (rest := []) X hout ⟨rfl, rfl⟩ (ct_X7_expect_X8 l hfl G n S15 o32 v28 2) (fun _ _ => va_cwU 2 X.1.2.2.2.2 (lw_U q1615 q3335 q3337 q1569 q175 q1570) rfl rfl rfl rfl (by decide +kernel) ⟨(Nat.le_of_ble_eq_true rfl), (Nat.le_of_ble_eq_true rfl)⟩) g32 rfl rfl hl.1 rfl (Nat.le_of_ble_eq_true rfl) dX7_numberHere_32 (fun v32 S32 h32 => ?_)
    refine J.geq (g2 := F0 m 35 ls []) rfl ?_
    refine J.pu (fun _ _ _ _ k => lv_aload_n X.1.1 X.1.2.1 dX7_numberHere_35 rfl (lv_at hl 0 rfl) k) ?_
    refine J.getI (k := 3) (ci := 6) X in_X8 (show jCl[6]? = some (RX8, TX8, 8) from rfl) (by decide) q1522 (fun _ h => h) dX7_numberHere_36 (fun v36 h36 => ?_)
    exact J.tret (J.iret (vr := fun t : Int32 × jH => jrI t.1) (fin := (Prod.snd : Int32 × jH → jH)) (t := (v36, S32)) X hr (by rfl) (by rfl) dX7_numberHere_39)
  unfold X7_numberHere_X8_b
  refine J.pu (fun _ _ _ _ k => lv_aload_n X.1.1 X.1.2.1 dX7_numberHere_0 rfl (lv_at hl 0 rfl) k) ?_
  refine J.pu (fun _ _ _ _ k => lv_aload_n X.1.1 X.1.2.1 dX7_numberHere_1 rfl (lv_at hl 0 rfl) k) ?_
  refine J.getI (k := 2) (ci := 6) X in_X8 (show jCl[6]? = some (RX8, TX8, 8) from rfl) (by decide) q1521 (fun _ h => h) dX7_numberHere_2 (fun v2 h2 => ?_)
  refine J.pu (fun _ _ _ _ k => lv_iconst (v := 1) X.1.1 X.1.2.1 dX7_numberHere_5 (by decide) k) ?_
  refine J.br (fun _ _ _ _ ka kb => lv_icmp_ne (tgt := 13) X.1.1 X.1.2.1 dX7_numberHere_6 (by decide) kb ka) (fun c6 => ?_) (fun c6 => ?_)
  · refine J.pu (fun _ _ _ _ k => lv_iconst (v := 1) X.1.1 X.1.2.1 dX7_numberHere_9 (by decide) k) ?_
    refine J.pu (fun _ _ _ _ k => lv_goto (tgt := 14) X.1.1 X.1.2.1 dX7_numberHere_10 (by decide) k) ?_
    exact j14 1 σ ls (lv_sub hl [0, 1, 2] rfl)
  · refine J.pu (fun _ _ _ _ k => lv_iconst (v := 0) X.1.1 X.1.2.1 dX7_numberHere_13 (by decide) k) ?_
    exact j14 0 σ ls (lv_sub hl [0, 1, 2] rfl)
noncomputable def X7_numberHere_X10_j14 (G : jG) (n : Nat) (this : Nat) (a1 : Int32) (a2 : Int32) (s1_14 : Int32) (B14 : jH) : Option (jTh Int32 × jH) :=
  (rc B14 (some this) 7).bind fun o15 => tb (X7_expect_X10 G n B14 o15 s1_14 1) fun v15 S15 => (gI S15 (some this) 7 3).bind fun v20 => (X1_isIn G n S15 v20.toInt64 a1.toInt64 a2.toInt64).bind fun v28 => (rc S15 (some this) 7).bind fun o32 => tb (X7_expect_X10 G n S15 o32 v28 2) fun v32 S32 => (gI S32 (some this) 7 3).bind fun v36 => some (.inl v36, S32)
noncomputable def X7_numberHere_X10_b (G : jG) (n : Nat) (σ : jH) (this : Nat) (a1 : Int32) (a2 : Int32) : Option (jTh Int32 × jH) :=
  (gI σ (some this) 7 2).bind fun v2 => if v2 = 1 then (X7_numberHere_X10_j14 G n this a1 a2 1 σ) else (X7_numberHere_X10_j14 G n this a1 a2 0 σ)
noncomputable def X7_numberHere_X10 (G : jG) (n : Nat) (σ : jH) (this : Nat) (a1 : Int32) (a2 : Int32) : Option (jTh Int32 × jH) := jck σ (X7_numberHere_X10_b G n σ this a1 a2)
set_option maxHeartbeats 4000000 in
set_option maxRecDepth 100000 in
theorem ct_X7_numberHere_X10 (l : Launch) (hfl : l.stackTraces = false) (G : jG) (n : Nat) (σ : jH) (this : Nat) (a1 : Int32) (a2 : Int32) : jTt l G yX7_numberHere (ws_ yX7_numberHere cX7_numberHere 3 (some .int)) 5 122 jrI [.ref this, .int a1, .int a2] σ (X7_numberHere_X10 G n σ this a1 a2) := by
  refine jTt.wr (lv := [(0, .ref this), (1, .int a1), (2, .int a2)]) rfl (Nat.le_of_ble_eq_true rfl) rfl ?_
  intro t p e s m args below meth c ls X hr hnm hout hl
  have X : jCx p c cX7_numberHere 3 s m args RX7 G meth := X
  have j14 : ∀ (s1_14 : Int32) (B14 : jH) (ls : Array Slot), lv_has ls 3 [(0, .ref this), (1, .int a1), (2, .int a2)] → jGoT l G 5 122 σ jrI t p e s m args below meth c (X7_numberHere_X10_j14 G n this a1 a2 s1_14 B14) B14 (F0 m 14 ls [.int s1_14, .ref this]) := by
    intro s1_14 B14 ls hl
    unfold X7_numberHere_X10_j14
    refine J.pu (fun _ _ _ _ k => lv_iconst (v := 1) X.1.1 X.1.2.1 dX7_numberHere_14 (by decide) k) ?_
    refine J.bind (fun o15 g15 => ?_)
    refine J.tU (q := (RX10, TX10, 8)) (ci := 7) (As := [.int s1_14, .int 1]) (rest := []) X hout ⟨rfl, rfl⟩ (ct_X7_expect_X10 l hfl G n B14 o15 s1_14 1) (fun _ _ => va_cwU 2 X.1.2.2.2.2 (lw_U q1615 q3335 q3336 q1569 q175 q1570) rfl rfl rfl rfl (by decide +kernel) ⟨(Nat.le_of_ble_eq_true rfl), (Nat.le_of_ble_eq_true rfl)⟩) g15 rfl rfl hl.1 rfl (Nat.le_of_ble_eq_true rfl) dX7_numberHere_15 (fun v15 S15 h15 => ?_)
    refine J.geq (g2 := F0 m 18 ls []) rfl ?_
    refine J.pu (fun _ _ _ _ k => lv_aload_n X.1.1 X.1.2.1 dX7_numberHere_18 rfl (lv_at hl 0 rfl) k) ?_
    refine J.pu (fun _ _ _ _ k => lv_aload_n X.1.1 X.1.2.1 dX7_numberHere_19 rfl (lv_at hl 0 rfl) k) ?_
    refine J.getI (k := 3) (ci := 7) X in_X10 (show jCl[7]? = some (RX10, TX10, 8) from rfl) (by decide) q1522 (fun _ h => h) dX7_numberHere_20 (fun v20 h20 => ?_)
    refine J.pu (fun _ _ _ _ k => lv_i2l (v := v20.toInt64) X.1.1 X.1.2.1 dX7_numberHere_23 rfl k) ?_
    refine J.pu (fun _ _ _ _ k => lv_iload_n X.1.1 X.1.2.1 dX7_numberHere_24 rfl (lv_at hl 1 rfl) k) ?_
    refine J.pu (fun _ _ _ _ k => lv_i2l (v := a1.toInt64) X.1.1 X.1.2.1 dX7_numberHere_25 rfl k) ?_
    refine J.pu (fun _ _ _ _ k => lv_iload_n X.1.1 X.1.2.1 dX7_numberHere_26 rfl (lv_at hl 2 rfl) k) ?_
    refine J.pu (fun _ _ _ _ k => lv_i2l (v := a2.toInt64) X.1.1 X.1.2.1 dX7_numberHere_27 rfl k) ?_
    refine J.bind (fun v28 h28 => ?_)
    refine J.cSN (As := [.long v20.toInt64, .long a1.toInt64, .long a2.toInt64]) (rest := [.ref this]) (s2 := [.int v28, .ref this]) X ⟨rfl, rfl⟩ (ct_X1_isIn l G n S15 v20.toInt64 a1.toInt64 a2.toInt64) (jrd_of h28) (fun _ _ => ⟨va_cnB 3 X.1.2.2.2.2 (lw_meth q1367) rfl rfl rfl (jnm1 X.2.1) (X.1.2.2.2.2 _ q138) (by decide +kernel) ⟨(Nat.le_of_ble_eq_true rfl), (Nat.le_of_ble_eq_true rfl)⟩, X.1.2.2.2.2 _ q1366, trivial⟩) rfl hl.1 rfl rfl (Nat.le_of_ble_eq_true rfl) dX7_numberHere_28 ?_
    refine J.pu (fun _ _ _ _ k => lv_iconst (v := 2) X.1.1 X.1.2.1 dX7_numberHere_31 (by decide) k) ?_
    refine J.bind (fun o32 g32 => ?_)
    refine J.tU (q := (RX10, TX10, 8)) (ci := 7) (As := [.int v28, .int 2]) (rest := []) X hout ⟨rfl, rfl⟩ (ct_X7_expect_X10 l hfl G n S15 o32 v28 2) (fun _ _ => va_cwU 2 X.1.2.2.2.2 (lw_U q1615 q3335 q3336 q1569 q175 q1570) rfl rfl rfl rfl (by decide +kernel) ⟨(Nat.le_of_ble_eq_true rfl), (Nat.le_of_ble_eq_true rfl)⟩) g32 rfl rfl hl.1 rfl (Nat.le_of_ble_eq_true rfl) dX7_numberHere_32 (fun v32 S32 h32 => ?_)
    refine J.geq (g2 := F0 m 35 ls []) rfl ?_
    refine J.pu (fun _ _ _ _ k => lv_aload_n X.1.1 X.1.2.1 dX7_numberHere_35 rfl (lv_at hl 0 rfl) k) ?_
    refine J.getI (k := 3) (ci := 7) X in_X10 (show jCl[7]? = some (RX10, TX10, 8) from rfl) (by decide) q1522 (fun _ h => h) dX7_numberHere_36 (fun v36 h36 => ?_)
    exact J.tret (J.iret (vr := fun t : Int32 × jH => jrI t.1) (fin := (Prod.snd : Int32 × jH → jH)) (t := (v36, S32)) X hr (by rfl) (by rfl) dX7_numberHere_39)
  unfold X7_numberHere_X10_b
  refine J.pu (fun _ _ _ _ k => lv_aload_n X.1.1 X.1.2.1 dX7_numberHere_0 rfl (lv_at hl 0 rfl) k) ?_
  refine J.pu (fun _ _ _ _ k => lv_aload_n X.1.1 X.1.2.1 dX7_numberHere_1 rfl (lv_at hl 0 rfl) k) ?_
  refine J.getI (k := 2) (ci := 7) X in_X10 (show jCl[7]? = some (RX10, TX10, 8) from rfl) (by decide) q1521 (fun _ h => h) dX7_numberHere_2 (fun v2 h2 => ?_)
  refine J.pu (fun _ _ _ _ k => lv_iconst (v := 1) X.1.1 X.1.2.1 dX7_numberHere_5 (by decide) k) ?_
  refine J.br (fun _ _ _ _ ka kb => lv_icmp_ne (tgt := 13) X.1.1 X.1.2.1 dX7_numberHere_6 (by decide) kb ka) (fun c6 => ?_) (fun c6 => ?_)
  · refine J.pu (fun _ _ _ _ k => lv_iconst (v := 1) X.1.1 X.1.2.1 dX7_numberHere_9 (by decide) k) ?_
    refine J.pu (fun _ _ _ _ k => lv_goto (tgt := 14) X.1.1 X.1.2.1 dX7_numberHere_10 (by decide) k) ?_
    exact j14 1 σ ls (lv_sub hl [0, 1, 2] rfl)
  · refine J.pu (fun _ _ _ _ k => lv_iconst (v := 0) X.1.1 X.1.2.1 dX7_numberHere_13 (by decide) k) ?_
    exact j14 0 σ ls (lv_sub hl [0, 1, 2] rfl)
noncomputable def X7_end_X8_j14 (G : jG) (n : Nat) (this : Nat) (s1_14 : Int32) (B14 : jH) : Option (jTh Unit × jH) :=
  (rc B14 (some this) 6).bind fun o15 => tb (X7_expect_X8 G n B14 o15 s1_14 1) fun v15 S15 => (rc S15 (some this) 6).bind fun o19 => bd (X7_advance_X8 G n S15 o19) fun v19 S19 => some (.inl (), S19)
noncomputable def X7_end_X8_b (G : jG) (n : Nat) (σ : jH) (this : Nat) : Option (jTh Unit × jH) :=
  (gI σ (some this) 6 2).bind fun v2 => if v2 = 2 then (X7_end_X8_j14 G n this 1 σ) else (X7_end_X8_j14 G n this 0 σ)
noncomputable def X7_end_X8 (G : jG) (n : Nat) (σ : jH) (this : Nat) : Option (jTh Unit × jH) := jck σ (X7_end_X8_b G n σ this)
set_option maxHeartbeats 4000000 in
set_option maxRecDepth 100000 in
theorem ct_X7_end_X8 (l : Launch) (hfl : l.stackTraces = false) (G : jG) (n : Nat) (σ : jH) (this : Nat) : jTt l G yX7_end (ws_ yX7_end cX7_end 1 none) 23 1266 jrV [.ref this] σ (X7_end_X8 G n σ this) := by
  refine jTt.wr (lv := [(0, .ref this)]) rfl (Nat.le_of_ble_eq_true rfl) rfl ?_
  intro t p e s m args below meth c ls X hr hnm hout hl
  have X : jCx p c cX7_end 1 s m args RX7 G meth := X
  have j14 : ∀ (s1_14 : Int32) (B14 : jH) (ls : Array Slot), lv_has ls 1 [(0, .ref this)] → jGoT l G 23 1266 σ jrV t p e s m args below meth c (X7_end_X8_j14 G n this s1_14 B14) B14 (F0 m 14 ls [.int s1_14, .ref this]) := by
    intro s1_14 B14 ls hl
    unfold X7_end_X8_j14
    refine J.pu (fun _ _ _ _ k => lv_iconst (v := 1) X.1.1 X.1.2.1 dX7_end_14 (by decide) k) ?_
    refine J.bind (fun o15 g15 => ?_)
    refine J.tU (q := (RX8, TX8, 8)) (ci := 6) (As := [.int s1_14, .int 1]) (rest := []) X hout ⟨rfl, rfl⟩ (ct_X7_expect_X8 l hfl G n B14 o15 s1_14 1) (fun _ _ => va_cwU 2 X.1.2.2.2.2 (lw_U q1615 q3335 q3337 q1569 q175 q1570) rfl rfl rfl rfl (by decide +kernel) ⟨(Nat.le_of_ble_eq_true rfl), (Nat.le_of_ble_eq_true rfl)⟩) g15 rfl rfl hl.1 rfl (Nat.le_of_ble_eq_true rfl) dX7_end_15 (fun v15 S15 h15 => ?_)
    refine J.geq (g2 := F0 m 18 ls []) rfl ?_
    refine J.pu (fun _ _ _ _ k => lv_aload_n X.1.1 X.1.2.1 dX7_end_18 rfl (lv_at hl 0 rfl) k) ?_
    refine J.bind (fun o19 g19 => ?_)
    refine J.bd' (fun v19 S19 h19 => ?_)
    refine J.cU (q := (RX8, TX8, 8)) (ci := 6) (As := []) (rest := []) (s2 := []) X ⟨rfl, rfl⟩ (ct_X7_advance_X8 l G n S15 o19) h19 (fun _ _ => va_cwU 0 X.1.2.2.2.2 (lw_U q1387 q1389 q1391 q1388 q175 q1392) rfl rfl rfl rfl (by decide +kernel) ⟨(Nat.le_of_ble_eq_true rfl), (Nat.le_of_ble_eq_true rfl)⟩) g19 rfl rfl hl.1 rfl rfl (Nat.le_of_ble_eq_true rfl) dX7_end_19 ?_
    exact J.tret (J.vret (vr := fun t : Unit × jH => jrV t.1) (fin := (Prod.snd : Unit × jH → jH)) (t := ((), S19)) X hr (by rfl) (by rfl) dX7_end_22)
  unfold X7_end_X8_b
  refine J.pu (fun _ _ _ _ k => lv_aload_n X.1.1 X.1.2.1 dX7_end_0 rfl (lv_at hl 0 rfl) k) ?_
  refine J.pu (fun _ _ _ _ k => lv_aload_n X.1.1 X.1.2.1 dX7_end_1 rfl (lv_at hl 0 rfl) k) ?_
  refine J.getI (k := 2) (ci := 6) X in_X8 (show jCl[6]? = some (RX8, TX8, 8) from rfl) (by decide) q1521 (fun _ h => h) dX7_end_2 (fun v2 h2 => ?_)
  refine J.pu (fun _ _ _ _ k => lv_iconst (v := 2) X.1.1 X.1.2.1 dX7_end_5 (by decide) k) ?_
  refine J.br (fun _ _ _ _ ka kb => lv_icmp_ne (tgt := 13) X.1.1 X.1.2.1 dX7_end_6 (by decide) kb ka) (fun c6 => ?_) (fun c6 => ?_)
  · refine J.pu (fun _ _ _ _ k => lv_iconst (v := 1) X.1.1 X.1.2.1 dX7_end_9 (by decide) k) ?_
    refine J.pu (fun _ _ _ _ k => lv_goto (tgt := 14) X.1.1 X.1.2.1 dX7_end_10 (by decide) k) ?_
    exact j14 1 σ ls (lv_sub hl [0] rfl)
  · refine J.pu (fun _ _ _ _ k => lv_iconst (v := 0) X.1.1 X.1.2.1 dX7_end_13 (by decide) k) ?_
    exact j14 0 σ ls (lv_sub hl [0] rfl)
noncomputable def X7_end_X10_j14 (G : jG) (n : Nat) (this : Nat) (s1_14 : Int32) (B14 : jH) : Option (jTh Unit × jH) :=
  (rc B14 (some this) 7).bind fun o15 => tb (X7_expect_X10 G n B14 o15 s1_14 1) fun v15 S15 => (rc S15 (some this) 7).bind fun o19 => bd (X7_advance_X10 G n S15 o19) fun v19 S19 => some (.inl (), S19)
noncomputable def X7_end_X10_b (G : jG) (n : Nat) (σ : jH) (this : Nat) : Option (jTh Unit × jH) :=
  (gI σ (some this) 7 2).bind fun v2 => if v2 = 2 then (X7_end_X10_j14 G n this 1 σ) else (X7_end_X10_j14 G n this 0 σ)
noncomputable def X7_end_X10 (G : jG) (n : Nat) (σ : jH) (this : Nat) : Option (jTh Unit × jH) := jck σ (X7_end_X10_b G n σ this)
set_option maxHeartbeats 4000000 in
set_option maxRecDepth 100000 in
theorem ct_X7_end_X10 (l : Launch) (hfl : l.stackTraces = false) (G : jG) (n : Nat) (σ : jH) (this : Nat) : jTt l G yX7_end (ws_ yX7_end cX7_end 1 none) 23 1266 jrV [.ref this] σ (X7_end_X10 G n σ this) := by
  refine jTt.wr (lv := [(0, .ref this)]) rfl (Nat.le_of_ble_eq_true rfl) rfl ?_
  intro t p e s m args below meth c ls X hr hnm hout hl
  have X : jCx p c cX7_end 1 s m args RX7 G meth := X
  have j14 : ∀ (s1_14 : Int32) (B14 : jH) (ls : Array Slot), lv_has ls 1 [(0, .ref this)] → jGoT l G 23 1266 σ jrV t p e s m args below meth c (X7_end_X10_j14 G n this s1_14 B14) B14 (F0 m 14 ls [.int s1_14, .ref this]) := by
    intro s1_14 B14 ls hl
    unfold X7_end_X10_j14
    refine J.pu (fun _ _ _ _ k => lv_iconst (v := 1) X.1.1 X.1.2.1 dX7_end_14 (by decide) k) ?_
    refine J.bind (fun o15 g15 => ?_)
    refine J.tU (q := (RX10, TX10, 8)) (ci := 7) (As := [.int s1_14, .int 1]) (rest := []) X hout ⟨rfl, rfl⟩ (ct_X7_expect_X10 l hfl G n B14 o15 s1_14 1) (fun _ _ => va_cwU 2 X.1.2.2.2.2 (lw_U q1615 q3335 q3336 q1569 q175 q1570) rfl rfl rfl rfl (by decide +kernel) ⟨(Nat.le_of_ble_eq_true rfl), (Nat.le_of_ble_eq_true rfl)⟩) g15 rfl rfl hl.1 rfl (Nat.le_of_ble_eq_true rfl) dX7_end_15 (fun v15 S15 h15 => ?_)
    refine J.geq (g2 := F0 m 18 ls []) rfl ?_
    refine J.pu (fun _ _ _ _ k => lv_aload_n X.1.1 X.1.2.1 dX7_end_18 rfl (lv_at hl 0 rfl) k) ?_
    refine J.bind (fun o19 g19 => ?_)
    refine J.bd' (fun v19 S19 h19 => ?_)
    refine J.cU (q := (RX10, TX10, 8)) (ci := 7) (As := []) (rest := []) (s2 := []) X ⟨rfl, rfl⟩ (ct_X7_advance_X10 l G n S15 o19) h19 (fun _ _ => va_cwU 0 X.1.2.2.2.2 (lw_U q1387 q1389 q1390 q1388 q175 q1392) rfl rfl rfl rfl (by decide +kernel) ⟨(Nat.le_of_ble_eq_true rfl), (Nat.le_of_ble_eq_true rfl)⟩) g19 rfl rfl hl.1 rfl rfl (Nat.le_of_ble_eq_true rfl) dX7_end_19 ?_
    exact J.tret (J.vret (vr := fun t : Unit × jH => jrV t.1) (fin := (Prod.snd : Unit × jH → jH)) (t := ((), S19)) X hr (by rfl) (by rfl) dX7_end_22)
  unfold X7_end_X10_b
  refine J.pu (fun _ _ _ _ k => lv_aload_n X.1.1 X.1.2.1 dX7_end_0 rfl (lv_at hl 0 rfl) k) ?_
  refine J.pu (fun _ _ _ _ k => lv_aload_n X.1.1 X.1.2.1 dX7_end_1 rfl (lv_at hl 0 rfl) k) ?_
  refine J.getI (k := 2) (ci := 7) X in_X10 (show jCl[7]? = some (RX10, TX10, 8) from rfl) (by decide) q1521 (fun _ h => h) dX7_end_2 (fun v2 h2 => ?_)
  refine J.pu (fun _ _ _ _ k => lv_iconst (v := 2) X.1.1 X.1.2.1 dX7_end_5 (by decide) k) ?_
  refine J.br (fun _ _ _ _ ka kb => lv_icmp_ne (tgt := 13) X.1.1 X.1.2.1 dX7_end_6 (by decide) kb ka) (fun c6 => ?_) (fun c6 => ?_)
  · refine J.pu (fun _ _ _ _ k => lv_iconst (v := 1) X.1.1 X.1.2.1 dX7_end_9 (by decide) k) ?_
    refine J.pu (fun _ _ _ _ k => lv_goto (tgt := 14) X.1.1 X.1.2.1 dX7_end_10 (by decide) k) ?_
    exact j14 1 σ ls (lv_sub hl [0] rfl)
  · refine J.pu (fun _ _ _ _ k => lv_iconst (v := 0) X.1.1 X.1.2.1 dX7_end_13 (by decide) k) ?_
    exact j14 0 σ ls (lv_sub hl [0] rfl)
noncomputable def X8_scanner_j58 (G : jG) (n : Nat) (this : Nat) (x1_58 : Int32) (s1_58 : Int32) (B58 : jH) : Option (jTh Unit × jH) :=
  (rc B58 (some this) 6).bind fun o59 => tb (X7_expect_X8 G n B58 o59 s1_58 3) fun v59 S59 => (gR S59 (some this) 6 6).bind fun v63 => (gR S59 v63 1 2).bind fun v66 => (sI G S59 v66 2 x1_58 1).bind fun S71 => (rc S71 (some this) 6).bind fun o73 => bd (X7_advance_X8 G n S71 o73) fun v73 S73 => some (.inl (), S73)
noncomputable def X8_scanner_j17 (G : jG) (n : Nat) (this : Nat) (s1_17 : Int32) (B17 : jH) : Option (jTh Unit × jH) :=
  (rc B17 (some this) 6).bind fun o18 => tb (X7_expect_X8 G n B17 o18 s1_17 4) fun v18 S18 => (rc S18 (some this) 6).bind fun o22 => bd (X7_advance_X8 G n S18 o22) fun v22 S22 => (gR S22 (some this) 6 6).bind fun v28 => (gI S22 v28 1 0).bind fun v31 => (rc S22 (some this) 6).bind fun o36 => tb (X7_numberHere_X8 G n S22 o36 0 (v31 - 1)) fun v36 S36 => (gR S36 (some this) 6 6).bind fun v42 => (gR S36 v42 1 2).bind fun v45 => (aI S36 v45 2 v36).bind fun v49 => if v49 = 0 then (X8_scanner_j58 G n this v36 1 S36) else (X8_scanner_j58 G n this v36 0 S36)
noncomputable def X8_scanner_b (G : jG) (n : Nat) (σ : jH) (this : Nat) : Option (jTh Unit × jH) :=
  (gR σ (some this) 6 6).bind fun v2 => (rc σ v2 1).bind fun o5 => (X2_scannerMany G n σ o5).bind fun v5 => if 4 ≤ v5 then (X8_scanner_j17 G n this 0 σ) else (X8_scanner_j17 G n this 1 σ)
noncomputable def X8_scanner (G : jG) (n : Nat) (σ : jH) (this : Nat) : Option (jTh Unit × jH) := jck σ (X8_scanner_b G n σ this)
set_option maxHeartbeats 4000000 in
set_option maxRecDepth 100000 in
theorem ct_X8_scanner (l : Launch) (hfl : l.stackTraces = false) (G : jG) (n : Nat) (σ : jH) (this : Nat) : jTt l G yX8_scanner (ws_ yX8_scanner cX8_scanner 2 none) 23 1266 jrV [.ref this] σ (X8_scanner G n σ this) := by
  refine jTt.wr (lv := [(0, .ref this)]) rfl (Nat.le_of_ble_eq_true rfl) rfl ?_
  intro t p e s m args below meth c ls X hr hnm hout hl
  have X : jCx p c cX8_scanner 2 s m args RX8 G meth := X
  have j58 : ∀ (x1_58 : Int32) (s1_58 : Int32) (B58 : jH) (ls : Array Slot), lv_has ls 2 [(0, .ref this), (1, .int x1_58)] → jGoT l G 23 1266 σ jrV t p e s m args below meth c (X8_scanner_j58 G n this x1_58 s1_58 B58) B58 (F0 m 58 ls [.int s1_58, .ref this]) := by
    intro x1_58 s1_58 B58 ls hl
    unfold X8_scanner_j58
    refine J.pu (fun _ _ _ _ k => lv_iconst (v := 3) X.1.1 X.1.2.1 dX8_scanner_58 (by decide) k) ?_
    refine J.bind (fun o59 g59 => ?_)
    refine J.tU (q := (RX8, TX8, 8)) (ci := 6) (As := [.int s1_58, .int 3]) (rest := []) X hout ⟨rfl, rfl⟩ (ct_X7_expect_X8 l hfl G n B58 o59 s1_58 3) (fun _ _ => va_cwU 2 X.1.2.2.2.2 (lw_U q1565 q1566 q1568 q1569 q175 q1570) rfl rfl rfl rfl (by decide +kernel) ⟨(Nat.le_of_ble_eq_true rfl), (Nat.le_of_ble_eq_true rfl)⟩) g59 rfl rfl hl.1 rfl (Nat.le_of_ble_eq_true rfl) dX8_scanner_59 (fun v59 S59 h59 => ?_)
    refine J.geq (g2 := F0 m 62 ls []) rfl ?_
    refine J.pu (fun _ _ _ _ k => lv_aload_n X.1.1 X.1.2.1 dX8_scanner_62 rfl (lv_at hl 0 rfl) k) ?_
    refine J.getR (k := 6) (ci := 6) X in_X8 (show jCl[6]? = some (RX8, TX8, 8) from rfl) (by decide) q1517 (fun _ h => h) dX8_scanner_63 (fun v63 h63 => ?_)
    refine J.getRN (k := 2) (ci := 1) X in_X2 (show jCl[1]? = some (RX2, TX2, 9) from rfl) (by decide) jnf4 (fun _ h => h) dX8_scanner_66 (fun v66 h66 => ?_)
    refine J.pu (fun _ _ _ _ k => lv_iload_n X.1.1 X.1.2.1 dX8_scanner_69 rfl (lv_at hl 1 rfl) k) ?_
    refine J.pu (fun _ _ _ _ k => lv_iconst (v := 1) X.1.1 X.1.2.1 dX8_scanner_70 (by decide) k) ?_
    refine J.sI2 X dX8_scanner_71 (fun S71 h71 => ?_)
    refine J.pu (fun _ _ _ _ k => lv_aload_n X.1.1 X.1.2.1 dX8_scanner_72 rfl (lv_at hl 0 rfl) k) ?_
    refine J.bind (fun o73 g73 => ?_)
    refine J.bd' (fun v73 S73 h73 => ?_)
    refine J.cU (q := (RX8, TX8, 8)) (ci := 6) (As := []) (rest := []) (s2 := []) X ⟨rfl, rfl⟩ (ct_X7_advance_X8 l G n S71 o73) h73 (fun _ _ => va_cwU 0 X.1.2.2.2.2 (lw_U q1599 q1600 q1602 q1388 q175 q1392) rfl rfl rfl rfl (by decide +kernel) ⟨(Nat.le_of_ble_eq_true rfl), (Nat.le_of_ble_eq_true rfl)⟩) g73 rfl rfl hl.1 rfl rfl (Nat.le_of_ble_eq_true rfl) dX8_scanner_73 ?_
    exact J.tret (J.vret (vr := fun t : Unit × jH => jrV t.1) (fin := (Prod.snd : Unit × jH → jH)) (t := ((), S73)) X hr (by rfl) (by rfl) dX8_scanner_76)
  have j17 : ∀ (s1_17 : Int32) (B17 : jH) (ls : Array Slot), lv_has ls 2 [(0, .ref this)] → jGoT l G 23 1266 σ jrV t p e s m args below meth c (X8_scanner_j17 G n this s1_17 B17) B17 (F0 m 17 ls [.int s1_17, .ref this]) := by
    intro s1_17 B17 ls hl
    unfold X8_scanner_j17
    refine J.pu (fun _ _ _ _ k => lv_iconst (v := 4) X.1.1 X.1.2.1 dX8_scanner_17 (by decide) k) ?_
    refine J.bind (fun o18 g18 => ?_)
    refine J.tU (q := (RX8, TX8, 8)) (ci := 6) (As := [.int s1_17, .int 4]) (rest := []) X hout ⟨rfl, rfl⟩ (ct_X7_expect_X8 l hfl G n B17 o18 s1_17 4) (fun _ _ => va_cwU 2 X.1.2.2.2.2 (lw_U q1565 q1566 q1568 q1569 q175 q1570) rfl rfl rfl rfl (by decide +kernel) ⟨(Nat.le_of_ble_eq_true rfl), (Nat.le_of_ble_eq_true rfl)⟩) g18 rfl rfl hl.1 rfl (Nat.le_of_ble_eq_true rfl) dX8_scanner_18 (fun v18 S18 h18 => ?_)
    refine J.geq (g2 := F0 m 21 ls []) rfl ?_
    refine J.pu (fun _ _ _ _ k => lv_aload_n X.1.1 X.1.2.1 dX8_scanner_21 rfl (lv_at hl 0 rfl) k) ?_
    refine J.bind (fun o22 g22 => ?_)
    refine J.bd' (fun v22 S22 h22 => ?_)
    refine J.cU (q := (RX8, TX8, 8)) (ci := 6) (As := []) (rest := []) (s2 := []) X ⟨rfl, rfl⟩ (ct_X7_advance_X8 l G n S18 o22) h22 (fun _ _ => va_cwU 0 X.1.2.2.2.2 (lw_U q1599 q1600 q1602 q1388 q175 q1392) rfl rfl rfl rfl (by decide +kernel) ⟨(Nat.le_of_ble_eq_true rfl), (Nat.le_of_ble_eq_true rfl)⟩) g22 rfl rfl hl.1 rfl rfl (Nat.le_of_ble_eq_true rfl) dX8_scanner_22 ?_
    refine J.pu (fun _ _ _ _ k => lv_aload_n X.1.1 X.1.2.1 dX8_scanner_25 rfl (lv_at hl 0 rfl) k) ?_
    refine J.pu (fun _ _ _ _ k => lv_iconst (v := 0) X.1.1 X.1.2.1 dX8_scanner_26 (by decide) k) ?_
    refine J.pu (fun _ _ _ _ k => lv_aload_n X.1.1 X.1.2.1 dX8_scanner_27 rfl (lv_at hl 0 rfl) k) ?_
    refine J.getR (k := 6) (ci := 6) X in_X8 (show jCl[6]? = some (RX8, TX8, 8) from rfl) (by decide) q1517 (fun _ h => h) dX8_scanner_28 (fun v28 h28 => ?_)
    refine J.getIN (k := 0) (ci := 1) X in_X2 (show jCl[1]? = some (RX2, TX2, 9) from rfl) (by decide) jnf1 (fun _ h => h) dX8_scanner_31 (fun v31 h31 => ?_)
    refine J.pu (fun _ _ _ _ k => lv_iconst (v := 1) X.1.1 X.1.2.1 dX8_scanner_34 (by decide) k) ?_
    refine J.pu (fun _ _ _ _ k => lv_isub X.1.1 X.1.2.1 dX8_scanner_35 k) ?_
    refine J.bind (fun o36 g36 => ?_)
    refine J.tU (q := (RX8, TX8, 8)) (ci := 6) (As := [.int 0, .int (v31 - 1)]) (rest := []) X hout ⟨rfl, rfl⟩ (ct_X7_numberHere_X8 l hfl G n S22 o36 0 (v31 - 1)) (fun _ _ => va_cwU 2 X.1.2.2.2.2 (lw_U q1705 q1706 q1708 q1610 q175 q1614) rfl rfl rfl rfl (by decide +kernel) ⟨(Nat.le_of_ble_eq_true rfl), (Nat.le_of_ble_eq_true rfl)⟩) g36 rfl rfl hl.1 rfl (Nat.le_of_ble_eq_true rfl) dX8_scanner_36 (fun v36 S36 h36 => ?_)
    refine J.geq (g2 := F0 m 39 ls [.int v36]) rfl ?_
    refine J.istore_n (i := 1) (lv' := [(1, .int v36), (0, .ref this)]) X.1.1 X.1.2.1 dX8_scanner_39 rfl hl (by decide) (by first | rfl | simp [va_rf_cat, jcI, jcA, jcJ, jcD, jcF]) (fun ls hl => ?_)
    refine J.pu (fun _ _ _ _ k => lv_aload_n X.1.1 X.1.2.1 dX8_scanner_40 rfl (lv_at hl 1 rfl) k) ?_
    refine J.pu (fun _ _ _ _ k => lv_aload_n X.1.1 X.1.2.1 dX8_scanner_41 rfl (lv_at hl 1 rfl) k) ?_
    refine J.getR (k := 6) (ci := 6) X in_X8 (show jCl[6]? = some (RX8, TX8, 8) from rfl) (by decide) q1517 (fun _ h => h) dX8_scanner_42 (fun v42 h42 => ?_)
    refine J.getRN (k := 2) (ci := 1) X in_X2 (show jCl[1]? = some (RX2, TX2, 9) from rfl) (by decide) jnf4 (fun _ h => h) dX8_scanner_45 (fun v45 h45 => ?_)
    refine J.pu (fun _ _ _ _ k => lv_iload_n X.1.1 X.1.2.1 dX8_scanner_48 rfl (lv_at hl 0 rfl) k) ?_
    refine J.aI2 X dX8_scanner_49 (fun v49 h49 => ?_)
    refine J.br (fun _ _ _ _ ka kb => lv_if_ne (tgt := 57) X.1.1 X.1.2.1 dX8_scanner_50 (by decide) kb ka) (fun c50 => ?_) (fun c50 => ?_)
    · refine J.pu (fun _ _ _ _ k => lv_iconst (v := 1) X.1.1 X.1.2.1 dX8_scanner_53 (by decide) k) ?_
      refine J.pu (fun _ _ _ _ k => lv_goto (tgt := 58) X.1.1 X.1.2.1 dX8_scanner_54 (by decide) k) ?_
      exact j58 v36 1 S36 ls (lv_sub hl [1, 0] rfl)
    · refine J.pu (fun _ _ _ _ k => lv_iconst (v := 0) X.1.1 X.1.2.1 dX8_scanner_57 (by decide) k) ?_
      exact j58 v36 0 S36 ls (lv_sub hl [1, 0] rfl)
  unfold X8_scanner_b
  refine J.pu (fun _ _ _ _ k => lv_aload_n X.1.1 X.1.2.1 dX8_scanner_0 rfl (lv_at hl 0 rfl) k) ?_
  refine J.pu (fun _ _ _ _ k => lv_aload_n X.1.1 X.1.2.1 dX8_scanner_1 rfl (lv_at hl 0 rfl) k) ?_
  refine J.getR (k := 6) (ci := 6) X in_X8 (show jCl[6]? = some (RX8, TX8, 8) from rfl) (by decide) q1517 (fun _ h => h) dX8_scanner_2 (fun v2 h2 => ?_)
  refine J.bind (fun o5 g5 => ?_)
  refine J.bind (fun v5 h5 => ?_)
  refine J.cV (q := (RX2, TX2, 9)) (ci := 1) (As := []) (rest := [.ref this]) (s2 := [.int v5, .ref this]) X ⟨rfl, rfl⟩ (ct_X2_scannerMany l G n σ o5) (jrd_of h5) (fun _ _ => cwV 0 X.1.2.2.2.2 (lw_V q1698 q1699 q1700 q139 q1701) rfl rfl rfl (by decide +kernel) ⟨(Nat.le_of_ble_eq_true rfl), (Nat.le_of_ble_eq_true rfl)⟩) g5 rfl rfl hl.1 rfl rfl (Nat.le_of_ble_eq_true rfl) dX8_scanner_5 ?_
  refine J.pu (fun _ _ _ _ k => lv_iconst (v := 4) X.1.1 X.1.2.1 dX8_scanner_8 (by decide) k) ?_
  refine J.br (fun _ _ _ _ ka kb => lv_icmp_ge (tgt := 16) X.1.1 X.1.2.1 dX8_scanner_9 (by decide) ka kb) (fun c9 => ?_) (fun c9 => ?_)
  · refine J.pu (fun _ _ _ _ k => lv_iconst (v := 0) X.1.1 X.1.2.1 dX8_scanner_16 (by decide) k) ?_
    exact j17 0 σ ls (lv_sub hl [0] rfl)
  · refine J.pu (fun _ _ _ _ k => lv_iconst (v := 1) X.1.1 X.1.2.1 dX8_scanner_12 (by decide) k) ?_
    refine J.pu (fun _ _ _ _ k => lv_goto (tgt := 17) X.1.1 X.1.2.1 dX8_scanner_13 (by decide) k) ?_
    exact j17 1 σ ls (lv_sub hl [0] rfl)
noncomputable def X0_account_b (G : jG) (n : Nat) (σ : jH) (a0 : Option Nat) (a1 : Int32) (a2 : Option Nat) : Option (Int32 × jH) :=
  (rc σ a0 0).bind fun o4 => tc (X1_account G n σ o4 a1) (fun v4 S4 => (sJ G S4 a2 0 v4.toInt64).bind fun S8 => some (0, S8)) (fun k4 q4 S4 => if k4 = 0 then (some (1, S4)) else none)
noncomputable def X0_account (G : jG) (n : Nat) (σ : jH) (a0 : Option Nat) (a1 : Int32) (a2 : Option Nat) : Option (Int32 × jH) := jck σ (X0_account_b G n σ a0 a1 a2)
set_option maxHeartbeats 4000000 in
set_option maxRecDepth 100000 in
theorem ct_X0_account (l : Launch) (hfl : l.stackTraces = false) (G : jG) (n : Nat) (σ : jH) (a0 : Option Nat) (a1 : Int32) (a2 : Option Nat) : jCt l G yX0_account (wsW_ yX0_account cX0_account 4 (some .int) [(0, 9, 12, 13)]) 8 141 jrI [va_rf a0, .int a1, va_rf a2] σ (X0_account G n σ a0 a1 a2) := by
  refine jCt.wrH (hh := [(0, 9, 12, 13)]) (lv := [(0, va_rf a0), (1, .int a1), (2, va_rf a2)]) (plainFor_of_name (by decide)) (by simp [lg_sl, va_rf_cat, jcI, jcA, jcJ, jcD, jcF]) (by simp [lv_args, va_rf_cat, jcI, jcA, jcJ, jcD, jcF]) ?_
  intro t p e s m args below meth c ls X hr hnm htab hl
  have X : jCx p c cX0_account 4 s m args RX0 G meth := X
  unfold X0_account_b
  refine J.pu (fun _ _ _ _ k => W.rload_n X.1.1 X.1.2.1 dX0_account_0 rfl (lv_at hl 2 rfl) k) ?_
  refine J.pu (fun _ _ _ _ k => lv_iconst (v := 0) X.1.1 X.1.2.1 dX0_account_1 (by decide) k) ?_
  refine J.pu (fun _ _ _ _ k => W.rload_n X.1.1 X.1.2.1 dX0_account_2 rfl (lv_at hl 0 rfl) k) ?_
  refine J.pu (fun _ _ _ _ k => lv_iload_n X.1.1 X.1.2.1 dX0_account_3 rfl (lv_at hl 1 rfl) k) ?_
  refine J.bind (fun o4 g4 => ?_)
  refine J.hV (q := (RX1, TX1, 9)) (ci := 0) (As := [.int a1]) (rest := [.int 0, va_rf a2]) X ⟨rfl, rfl⟩ (ct_X1_account l hfl G n σ o4 a1) (fun _ _ => cwV 1 X.1.2.2.2.2 (lw_V q2409 q2410 q2411 q138 q2412) rfl rfl rfl (by decide +kernel) ⟨(Nat.le_of_ble_eq_true rfl), (Nat.le_of_ble_eq_true rfl)⟩) g4 rfl rfl hl.1 rfl (by simp [va_rf_cat, jcI, jcA, jcJ, jcD, jcF]) dX0_account_4 (fun v4 S4 h4 => ?_) (fun k4 q4 S4 h4 => ?_)
  · refine J.geq (g2 := F0 m 7 ls [.int v4, .int 0, va_rf a2]) rfl ?_
    refine J.pu (fun _ _ _ _ k => lv_i2l (v := v4.toInt64) X.1.1 X.1.2.1 dX0_account_7 rfl k) ?_
    refine J.sJ' X dX0_account_8 (fun S8 h8 => ?_)
    refine J.pu (fun _ _ _ _ k => lv_goto (tgt := 15) X.1.1 X.1.2.1 dX0_account_9 (by decide) k) ?_
    refine J.pu (fun _ _ _ _ k => lv_iconst (v := 0) X.1.1 X.1.2.1 dX0_account_15 (by decide) k) ?_
    exact J.iret (vr := fun t : Int32 × jH => jrI t.1) (fin := Prod.snd) (t := t) X hr (by rfl) (by rfl) dX0_account_16
  · refine Jx.ite (fun k4_0 => ?_) (fun k4_0 => ?_)
    · refine Jx.catch_ (E := "java/lang/IllegalArgumentException") (nm := "java/lang/IllegalArgumentException") X k4_0 rfl [] (⟨0, 9, 12, 13⟩ : ExceptionTableEntry) [] (htab.trans rfl) jnil_all rfl (by decide) q2385 jnc0 ?_
      refine J.astore_n (r := (some q4)) (i := 3) (lv' := [(3, va_rf (some q4)), (0, va_rf a0), (1, .int a1), (2, va_rf a2)]) X.1.1 X.1.2.1 dX0_account_12 rfl hl (by decide) (by first | rfl | simp [va_rf_cat, jcI, jcA, jcJ, jcD, jcF]) (fun ls hl => ?_)
      refine J.pu (fun _ _ _ _ k => lv_iconst (v := 1) X.1.1 X.1.2.1 dX0_account_13 (by decide) k) ?_
      exact J.iret (vr := fun t : Int32 × jH => jrI t.1) (fin := Prod.snd) (t := t) X hr (by rfl) (by rfl) dX0_account_14
    exact Jx.nil_
noncomputable def X0_held_b (G : jG) (n : Nat) (σ : jH) (a0 : Option Nat) (a1 : Int32) (a2 : Int32) (a3 : Option Nat) : Option (Int32 × jH) :=
  (rc σ a0 0).bind fun o5 => tc (X1_held G n σ o5 a1 a2) (fun v5 S5 => (sJ G S5 a3 0 v5.toInt64).bind fun S9 => some (0, S9)) (fun k5 q5 S5 => if k5 = 2 then (some (1, S5)) else none)
noncomputable def X0_held (G : jG) (n : Nat) (σ : jH) (a0 : Option Nat) (a1 : Int32) (a2 : Int32) (a3 : Option Nat) : Option (Int32 × jH) := jck σ (X0_held_b G n σ a0 a1 a2 a3)
set_option maxHeartbeats 4000000 in
set_option maxRecDepth 100000 in
theorem ct_X0_held (l : Launch) (hfl : l.stackTraces = false) (G : jG) (n : Nat) (σ : jH) (a0 : Option Nat) (a1 : Int32) (a2 : Int32) (a3 : Option Nat) : jCt l G yX0_held (wsW_ yX0_held cX0_held 5 (some .int) [(0, 10, 13, 22)]) 24 1286 jrI [va_rf a0, .int a1, .int a2, va_rf a3] σ (X0_held G n σ a0 a1 a2 a3) := by
  refine jCt.wrH (hh := [(0, 10, 13, 22)]) (lv := [(0, va_rf a0), (1, .int a1), (2, .int a2), (3, va_rf a3)]) (plainFor_of_name (by decide)) (by simp [lg_sl, va_rf_cat, jcI, jcA, jcJ, jcD, jcF]) (by simp [lv_args, va_rf_cat, jcI, jcA, jcJ, jcD, jcF]) ?_
  intro t p e s m args below meth c ls X hr hnm htab hl
  have X : jCx p c cX0_held 5 s m args RX0 G meth := X
  unfold X0_held_b
  refine J.pu (fun _ _ _ _ k => W.rload_n X.1.1 X.1.2.1 dX0_held_0 rfl (lv_at hl 3 rfl) k) ?_
  refine J.pu (fun _ _ _ _ k => lv_iconst (v := 0) X.1.1 X.1.2.1 dX0_held_1 (by decide) k) ?_
  refine J.pu (fun _ _ _ _ k => W.rload_n X.1.1 X.1.2.1 dX0_held_2 rfl (lv_at hl 0 rfl) k) ?_
  refine J.pu (fun _ _ _ _ k => lv_iload_n X.1.1 X.1.2.1 dX0_held_3 rfl (lv_at hl 1 rfl) k) ?_
  refine J.pu (fun _ _ _ _ k => lv_iload_n X.1.1 X.1.2.1 dX0_held_4 rfl (lv_at hl 2 rfl) k) ?_
  refine J.bind (fun o5 g5 => ?_)
  refine J.hV (q := (RX1, TX1, 9)) (ci := 0) (As := [.int a1, .int a2]) (rest := [.int 0, va_rf a3]) X ⟨rfl, rfl⟩ (ct_X1_held l hfl G n σ o5 a1 a2) (fun _ _ => cwV 2 X.1.2.2.2.2 (lw_V q2488 q2489 q2490 q138 q2491) rfl rfl rfl (by decide +kernel) ⟨(Nat.le_of_ble_eq_true rfl), (Nat.le_of_ble_eq_true rfl)⟩) g5 rfl rfl hl.1 rfl (by simp [va_rf_cat, jcI, jcA, jcJ, jcD, jcF]) dX0_held_5 (fun v5 S5 h5 => ?_) (fun k5 q5 S5 h5 => ?_)
  · refine J.geq (g2 := F0 m 8 ls [.int v5, .int 0, va_rf a3]) rfl ?_
    refine J.pu (fun _ _ _ _ k => lv_i2l (v := v5.toInt64) X.1.1 X.1.2.1 dX0_held_8 rfl k) ?_
    refine J.sJ' X dX0_held_9 (fun S9 h9 => ?_)
    refine J.pu (fun _ _ _ _ k => lv_goto (tgt := 17) X.1.1 X.1.2.1 dX0_held_10 (by decide) k) ?_
    refine J.pu (fun _ _ _ _ k => lv_iconst (v := 0) X.1.1 X.1.2.1 dX0_held_17 (by decide) k) ?_
    exact J.iret (vr := fun t : Int32 × jH => jrI t.1) (fin := Prod.snd) (t := t) X hr (by rfl) (by rfl) dX0_held_18
  · refine Jx.ite (fun k5_2 => ?_) (fun k5_2 => ?_)
    · refine Jx.catch_ (E := "java/lang/IndexOutOfBoundsException") (nm := "java/lang/IndexOutOfBoundsException") X k5_2 rfl [] (⟨0, 10, 13, 22⟩ : ExceptionTableEntry) [] (htab.trans rfl) jnil_all rfl (by decide) q2420 jnc4 ?_
      refine J.astore (r := (some q5)) (lv' := [(4, va_rf (some q5)), (0, va_rf a0), (1, .int a1), (2, .int a2), (3, va_rf a3)]) X.1.1 X.1.2.1 dX0_held_13 hl (by decide) (by first | rfl | simp [va_rf_cat, jcI, jcA, jcJ, jcD, jcF]) (fun ls hl => ?_)
      refine J.pu (fun _ _ _ _ k => lv_iconst (v := 1) X.1.1 X.1.2.1 dX0_held_15 (by decide) k) ?_
      exact J.iret (vr := fun t : Int32 × jH => jrI t.1) (fin := Prod.snd) (t := t) X hr (by rfl) (by rfl) dX0_held_16
    exact Jx.nil_
noncomputable def X0_steps_b (G : jG) (n : Nat) (σ : jH) (a0 : Option Nat) (a1 : Int32) (a2 : Int32) (a3 : Option Nat) : Option (Int32 × jH) :=
  (rc σ a0 0).bind fun o5 => tc (X1_steps G n σ o5 a1 a2) (fun v5 S5 => (sJ G S5 a3 0 v5.toInt64).bind fun S9 => some (0, S9)) (fun k5 q5 S5 => if k5 = 2 then (some (1, S5)) else none)
noncomputable def X0_steps (G : jG) (n : Nat) (σ : jH) (a0 : Option Nat) (a1 : Int32) (a2 : Int32) (a3 : Option Nat) : Option (Int32 × jH) := jck σ (X0_steps_b G n σ a0 a1 a2 a3)
set_option maxHeartbeats 4000000 in
set_option maxRecDepth 100000 in
theorem ct_X0_steps (l : Launch) (hfl : l.stackTraces = false) (G : jG) (n : Nat) (σ : jH) (a0 : Option Nat) (a1 : Int32) (a2 : Int32) (a3 : Option Nat) : jCt l G yX0_steps (wsW_ yX0_steps cX0_steps 5 (some .int) [(0, 10, 13, 22)]) 9 163 jrI [va_rf a0, .int a1, .int a2, va_rf a3] σ (X0_steps G n σ a0 a1 a2 a3) := by
  refine jCt.wrH (hh := [(0, 10, 13, 22)]) (lv := [(0, va_rf a0), (1, .int a1), (2, .int a2), (3, va_rf a3)]) (plainFor_of_name (by decide)) (by simp [lg_sl, va_rf_cat, jcI, jcA, jcJ, jcD, jcF]) (by simp [lv_args, va_rf_cat, jcI, jcA, jcJ, jcD, jcF]) ?_
  intro t p e s m args below meth c ls X hr hnm htab hl
  have X : jCx p c cX0_steps 5 s m args RX0 G meth := X
  unfold X0_steps_b
  refine J.pu (fun _ _ _ _ k => W.rload_n X.1.1 X.1.2.1 dX0_steps_0 rfl (lv_at hl 3 rfl) k) ?_
  refine J.pu (fun _ _ _ _ k => lv_iconst (v := 0) X.1.1 X.1.2.1 dX0_steps_1 (by decide) k) ?_
  refine J.pu (fun _ _ _ _ k => W.rload_n X.1.1 X.1.2.1 dX0_steps_2 rfl (lv_at hl 0 rfl) k) ?_
  refine J.pu (fun _ _ _ _ k => lv_iload_n X.1.1 X.1.2.1 dX0_steps_3 rfl (lv_at hl 1 rfl) k) ?_
  refine J.pu (fun _ _ _ _ k => lv_iload_n X.1.1 X.1.2.1 dX0_steps_4 rfl (lv_at hl 2 rfl) k) ?_
  refine J.bind (fun o5 g5 => ?_)
  refine J.hV (q := (RX1, TX1, 9)) (ci := 0) (As := [.int a1, .int a2]) (rest := [.int 0, va_rf a3]) X ⟨rfl, rfl⟩ (ct_X1_steps l hfl G n σ o5 a1 a2) (fun _ _ => cwV 2 X.1.2.2.2.2 (lw_V q2495 q2496 q2497 q138 q2498) rfl rfl rfl (by decide +kernel) ⟨(Nat.le_of_ble_eq_true rfl), (Nat.le_of_ble_eq_true rfl)⟩) g5 rfl rfl hl.1 rfl (by simp [va_rf_cat, jcI, jcA, jcJ, jcD, jcF]) dX0_steps_5 (fun v5 S5 h5 => ?_) (fun k5 q5 S5 h5 => ?_)
  · refine J.geq (g2 := F0 m 8 ls [.int v5, .int 0, va_rf a3]) rfl ?_
    refine J.pu (fun _ _ _ _ k => lv_i2l (v := v5.toInt64) X.1.1 X.1.2.1 dX0_steps_8 rfl k) ?_
    refine J.sJ' X dX0_steps_9 (fun S9 h9 => ?_)
    refine J.pu (fun _ _ _ _ k => lv_goto (tgt := 17) X.1.1 X.1.2.1 dX0_steps_10 (by decide) k) ?_
    refine J.pu (fun _ _ _ _ k => lv_iconst (v := 0) X.1.1 X.1.2.1 dX0_steps_17 (by decide) k) ?_
    exact J.iret (vr := fun t : Int32 × jH => jrI t.1) (fin := Prod.snd) (t := t) X hr (by rfl) (by rfl) dX0_steps_18
  · refine Jx.ite (fun k5_2 => ?_) (fun k5_2 => ?_)
    · refine Jx.catch_ (E := "java/lang/IndexOutOfBoundsException") (nm := "java/lang/IndexOutOfBoundsException") X k5_2 rfl [] (⟨0, 10, 13, 22⟩ : ExceptionTableEntry) [] (htab.trans rfl) jnil_all rfl (by decide) q2420 jnc4 ?_
      refine J.astore (r := (some q5)) (lv' := [(4, va_rf (some q5)), (0, va_rf a0), (1, .int a1), (2, .int a2), (3, va_rf a3)]) X.1.1 X.1.2.1 dX0_steps_13 hl (by decide) (by first | rfl | simp [va_rf_cat, jcI, jcA, jcJ, jcD, jcF]) (fun ls hl => ?_)
      refine J.pu (fun _ _ _ _ k => lv_iconst (v := 1) X.1.1 X.1.2.1 dX0_steps_15 (by decide) k) ?_
      exact J.iret (vr := fun t : Int32 × jH => jrI t.1) (fin := Prod.snd) (t := t) X hr (by rfl) (by rfl) dX0_steps_16
    exact Jx.nil_
noncomputable def X0_undo_b (G : jG) (n : Nat) (σ : jH) (a0 : Option Nat) (a1 : Option Nat) : Option (Int32 × jH) :=
  (rc σ a0 0).bind fun o3 => tc (X1_undo G n σ o3) (fun v3 S3 => (sJ G S3 a1 0 v3.toInt64).bind fun S7 => some (0, S7)) (fun k3 q3 S3 => if k3 = 3 then (some (1, S3)) else none)
noncomputable def X0_undo (G : jG) (n : Nat) (σ : jH) (a0 : Option Nat) (a1 : Option Nat) : Option (Int32 × jH) := jck σ (X0_undo_b G n σ a0 a1)
set_option maxHeartbeats 4000000 in
set_option maxRecDepth 100000 in
theorem ct_X0_undo (l : Launch) (hfl : l.stackTraces = false) (G : jG) (n : Nat) (σ : jH) (a0 : Option Nat) (a1 : Option Nat) : jCt l G yX0_undo (wsW_ yX0_undo cX0_undo 3 (some .int) [(0, 8, 11, 95)]) 22 1241 jrI [va_rf a0, va_rf a1] σ (X0_undo G n σ a0 a1) := by
  refine jCt.wrH (hh := [(0, 8, 11, 95)]) (lv := [(0, va_rf a0), (1, va_rf a1)]) (plainFor_of_name (by decide)) (by simp [lg_sl, va_rf_cat, jcI, jcA, jcJ, jcD, jcF]) (by simp [lv_args, va_rf_cat, jcI, jcA, jcJ, jcD, jcF]) ?_
  intro t p e s m args below meth c ls X hr hnm htab hl
  have X : jCx p c cX0_undo 3 s m args RX0 G meth := X
  unfold X0_undo_b
  refine J.pu (fun _ _ _ _ k => W.rload_n X.1.1 X.1.2.1 dX0_undo_0 rfl (lv_at hl 1 rfl) k) ?_
  refine J.pu (fun _ _ _ _ k => lv_iconst (v := 0) X.1.1 X.1.2.1 dX0_undo_1 (by decide) k) ?_
  refine J.pu (fun _ _ _ _ k => W.rload_n X.1.1 X.1.2.1 dX0_undo_2 rfl (lv_at hl 0 rfl) k) ?_
  refine J.bind (fun o3 g3 => ?_)
  refine J.hV (q := (RX1, TX1, 9)) (ci := 0) (As := []) (rest := [.int 0, va_rf a1]) X ⟨rfl, rfl⟩ (ct_X1_undo l hfl G n σ o3) (fun _ _ => cwV 0 X.1.2.2.2.2 (lw_V q2681 q2682 q2683 q138 q2684) rfl rfl rfl (by decide +kernel) ⟨(Nat.le_of_ble_eq_true rfl), (Nat.le_of_ble_eq_true rfl)⟩) g3 rfl rfl hl.1 rfl (by simp [va_rf_cat, jcI, jcA, jcJ, jcD, jcF]) dX0_undo_3 (fun v3 S3 h3 => ?_) (fun k3 q3 S3 h3 => ?_)
  · refine J.geq (g2 := F0 m 6 ls [.int v3, .int 0, va_rf a1]) rfl ?_
    refine J.pu (fun _ _ _ _ k => lv_i2l (v := v3.toInt64) X.1.1 X.1.2.1 dX0_undo_6 rfl k) ?_
    refine J.sJ' X dX0_undo_7 (fun S7 h7 => ?_)
    refine J.pu (fun _ _ _ _ k => lv_goto (tgt := 14) X.1.1 X.1.2.1 dX0_undo_8 (by decide) k) ?_
    refine J.pu (fun _ _ _ _ k => lv_iconst (v := 0) X.1.1 X.1.2.1 dX0_undo_14 (by decide) k) ?_
    exact J.iret (vr := fun t : Int32 × jH => jrI t.1) (fin := Prod.snd) (t := t) X hr (by rfl) (by rfl) dX0_undo_15
  · refine Jx.ite (fun k3_3 => ?_) (fun k3_3 => ?_)
    · refine Jx.catch_ (E := "java/util/NoSuchElementException") (nm := "java/util/NoSuchElementException") X k3_3 rfl [] (⟨0, 8, 11, 95⟩ : ExceptionTableEntry) [] (htab.trans rfl) jnil_all rfl (by decide) q2680 jnc9 ?_
      refine J.astore_n (r := (some q3)) (i := 2) (lv' := [(2, va_rf (some q3)), (0, va_rf a0), (1, va_rf a1)]) X.1.1 X.1.2.1 dX0_undo_11 rfl hl (by decide) (by first | rfl | simp [va_rf_cat, jcI, jcA, jcJ, jcD, jcF]) (fun ls hl => ?_)
      refine J.pu (fun _ _ _ _ k => lv_iconst (v := 1) X.1.1 X.1.2.1 dX0_undo_12 (by decide) k) ?_
      exact J.iret (vr := fun t : Int32 × jH => jrI t.1) (fin := Prod.snd) (t := t) X hr (by rfl) (by rfl) dX0_undo_13
    exact Jx.nil_
noncomputable def X1_first_b (G : jG) (n : Nat) (σ : jH) : Option ((Option Nat) × jH) :=
  bd (nO σ 1 [.int 0, .int 0, .null, .null, .null, .null, .null, .int 0, .int 0] 9) fun v0 S0 => bd (X2_init G n S0 v0 12 0) fun v7 S7 => (gR S7 (some v0) 1 2).bind fun v12 => (sI G S7 v12 2 2 1).bind fun S17 => (gR S17 (some v0) 1 3).bind fun v19 => bd (nO S17 3 [.int 0, .int 0, .int 0, .int 0, .null, .int 0, .int 0, .int 0, .int 0] 9) fun v22 S22 => bd (X4_init G n S22 v22 0 4 2 1 1) fun v31 S31 => (rc S31 v19 15).bind fun o34 => bd (jck S31 (alAdd G S31 o34 (some v22))) fun v34 S34 => (gR S34 (some v0) 1 3).bind fun v41 => bd (nO S34 3 [.int 0, .int 0, .int 0, .int 0, .null, .int 0, .int 0, .int 0, .int 0] 9) fun v44 S44 => bd (X4_init G n S44 v44 1 7 3 0 0) fun v54 S54 => (rc S54 v41 15).bind fun o57 => bd (jck S54 (alAdd G S54 o57 (some v44))) fun v57 S57 => (gR S57 (some v0) 1 3).bind fun v64 => bd (nO S57 3 [.int 0, .int 0, .int 0, .int 0, .null, .int 0, .int 0, .int 0, .int 0] 9) fun v67 S67 => bd (X4_init G n S67 v67 2 9 1 0 4) fun v77 S77 => (rc S77 v64 15).bind fun o80 => bd (jck S77 (alAdd G S77 o80 (some v67))) fun v80 S80 => some ((some v0), S80)
noncomputable def X1_first (G : jG) (n : Nat) (σ : jH) : Option ((Option Nat) × jH) := jck σ (X1_first_b G n σ)
set_option maxHeartbeats 4000000 in
set_option maxRecDepth 100000 in
theorem ct_X1_first (l : Launch) (G : jG) (n : Nat) (σ : jH) : jCt l G yX1_first (ws_ yX1_first cX1_first 1 (some (.object "SortingLoop$Loop"))) 23 1265 jrR [] σ (X1_first G n σ) := by
  refine jCt.wr (lv := []) (plainFor_of_name (by decide)) (Nat.le_of_ble_eq_true rfl) rfl ?_
  intro t p e s m args below meth c ls X hr hnm hl
  have X : jCx p c cX1_first 1 s m args RX1 G meth := X
  unfold X1_first_b
  refine J.nO' (fs := [.int 0, .int 0, .null, .null, .null, .null, .null, .int 0, .int 0]) X ⟨rfl, rfl⟩ in_X2 (show jCl[1]? = some (RX2, TX2, 9) from rfl) tyX2 tyX2_ok q202 q203 q139 rfl dX1_first_0 (fun v0 S0 h0 => ?_)
  refine J.pu (fun _ _ _ _ k => lv_dup X.1.1 X.1.2.1 dX1_first_3 rfl k) ?_
  refine J.pu (fun _ _ _ _ k => lv_bipush (v := 12) X.1.1 X.1.2.1 dX1_first_4 (by decide) k) ?_
  refine J.pu (fun _ _ _ _ k => lv_iconst (v := 0) X.1.1 X.1.2.1 dX1_first_6 (by decide) k) ?_
  refine J.bd' (fun v7 S7 h7 => ?_)
  refine J.cI (a := v0) (As := [.int 12, .int 0]) (rest := [.ref v0]) (s2 := [.ref v0]) X ⟨rfl, rfl⟩ (ct_X2_init l G n S0 v0 12 0) h7 (fun _ _ => jcwI 2 X.1.2.2.2.2 q204 q205 q139 q206 rfl rfl rfl (by decide +kernel) ⟨(Nat.le_of_ble_eq_true rfl), (Nat.le_of_ble_eq_true rfl)⟩) rfl hl.1 rfl rfl (Nat.le_of_ble_eq_true rfl) dX1_first_7 ?_
  refine J.astore_n (r := (some v0)) (i := 0) (lv' := [(0, va_rf (some v0))]) X.1.1 X.1.2.1 dX1_first_10 rfl hl (by decide) (by first | rfl | simp [va_rf_cat, jcI, jcA, jcJ, jcD, jcF]) (fun ls hl => ?_)
  refine J.pu (fun _ _ _ _ k => W.rload_n X.1.1 X.1.2.1 dX1_first_11 rfl (lv_at hl 0 rfl) k) ?_
  refine J.getRN (k := 2) (ci := 1) X in_X2 (show jCl[1]? = some (RX2, TX2, 9) from rfl) (by decide) jnf5 (fun _ h => h) dX1_first_12 (fun v12 h12 => ?_)
  refine J.pu (fun _ _ _ _ k => lv_iconst (v := 2) X.1.1 X.1.2.1 dX1_first_15 (by decide) k) ?_
  refine J.pu (fun _ _ _ _ k => lv_iconst (v := 1) X.1.1 X.1.2.1 dX1_first_16 (by decide) k) ?_
  refine J.sI2 X dX1_first_17 (fun S17 h17 => ?_)
  refine J.pu (fun _ _ _ _ k => W.rload_n X.1.1 X.1.2.1 dX1_first_18 rfl (lv_at hl 0 rfl) k) ?_
  refine J.getRN (k := 3) (ci := 1) X in_X2 (show jCl[1]? = some (RX2, TX2, 9) from rfl) (by decide) jnf8 (fun _ h => h) dX1_first_19 (fun v19 h19 => ?_)
  refine J.nO' (fs := [.int 0, .int 0, .int 0, .int 0, .null, .int 0, .int 0, .int 0, .int 0]) X ⟨rfl, rfl⟩ in_X4 (show jCl[3]? = some (RX4, TX4, 9) from rfl) tyX4 tyX4_ok q728 q729 q161 rfl dX1_first_22 (fun v22 S22 h22 => ?_)
  refine J.pu (fun _ _ _ _ k => lv_dup X.1.1 X.1.2.1 dX1_first_25 rfl k) ?_
  refine J.pu (fun _ _ _ _ k => lv_iconst (v := 0) X.1.1 X.1.2.1 dX1_first_26 (by decide) k) ?_
  refine J.pu (fun _ _ _ _ k => lv_iconst (v := 4) X.1.1 X.1.2.1 dX1_first_27 (by decide) k) ?_
  refine J.pu (fun _ _ _ _ k => lv_iconst (v := 2) X.1.1 X.1.2.1 dX1_first_28 (by decide) k) ?_
  refine J.pu (fun _ _ _ _ k => lv_iconst (v := 1) X.1.1 X.1.2.1 dX1_first_29 (by decide) k) ?_
  refine J.pu (fun _ _ _ _ k => lv_iconst (v := 1) X.1.1 X.1.2.1 dX1_first_30 (by decide) k) ?_
  refine J.bd' (fun v31 S31 h31 => ?_)
  refine J.cI (a := v22) (As := [.int 0, .int 4, .int 2, .int 1, .int 1]) (rest := [.ref v22, va_rf v19]) (s2 := [.ref v22, va_rf v19]) X ⟨rfl, rfl⟩ (ct_X4_init l G n S22 v22 0 4 2 1 1) h31 (fun _ _ => jcwI 5 X.1.2.2.2.2 q730 q731 q161 q732 rfl rfl rfl (by decide +kernel) ⟨(Nat.le_of_ble_eq_true rfl), (Nat.le_of_ble_eq_true rfl)⟩) rfl hl.1 rfl rfl (by simp [va_rf_cat, jcI, jcA, jcJ, jcD, jcF]) dX1_first_31 ?_
  refine J.bind (fun o34 g34 => ?_)
  refine J.bd' (fun v34 S34 h34 => ?_)
  refine J.cF (q := (RJ2, TJ2, 3)) (ci := 15) (As := [.ref v22]) (rest := []) (s2 := [.int v34]) X ⟨rfl, rfl⟩ (ct_J2_add l G S31 o34 (some v22)) h34 (fun _ _ => va_cwF 1 X.1.2.2.2.2 (lw_F q798 q582 q584 q142 q586) rfl rfl rfl (jfw0 X.2.1) (by decide +kernel) ⟨(Nat.le_of_ble_eq_true rfl), (Nat.le_of_ble_eq_true rfl)⟩) g34 rfl rfl hl.1 rfl rfl (Nat.le_of_ble_eq_true rfl) dX1_first_34 ?_
  refine J.pu (fun _ _ _ _ k => lv_pop X.1.1 X.1.2.1 dX1_first_39 rfl k) ?_
  refine J.pu (fun _ _ _ _ k => W.rload_n X.1.1 X.1.2.1 dX1_first_40 rfl (lv_at hl 0 rfl) k) ?_
  refine J.getRN (k := 3) (ci := 1) X in_X2 (show jCl[1]? = some (RX2, TX2, 9) from rfl) (by decide) jnf8 (fun _ h => h) dX1_first_41 (fun v41 h41 => ?_)
  refine J.nO' (fs := [.int 0, .int 0, .int 0, .int 0, .null, .int 0, .int 0, .int 0, .int 0]) X ⟨rfl, rfl⟩ in_X4 (show jCl[3]? = some (RX4, TX4, 9) from rfl) tyX4 tyX4_ok q728 q729 q161 rfl dX1_first_44 (fun v44 S44 h44 => ?_)
  refine J.pu (fun _ _ _ _ k => lv_dup X.1.1 X.1.2.1 dX1_first_47 rfl k) ?_
  refine J.pu (fun _ _ _ _ k => lv_iconst (v := 1) X.1.1 X.1.2.1 dX1_first_48 (by decide) k) ?_
  refine J.pu (fun _ _ _ _ k => lv_bipush (v := 7) X.1.1 X.1.2.1 dX1_first_49 (by decide) k) ?_
  refine J.pu (fun _ _ _ _ k => lv_iconst (v := 3) X.1.1 X.1.2.1 dX1_first_51 (by decide) k) ?_
  refine J.pu (fun _ _ _ _ k => lv_iconst (v := 0) X.1.1 X.1.2.1 dX1_first_52 (by decide) k) ?_
  refine J.pu (fun _ _ _ _ k => lv_iconst (v := 0) X.1.1 X.1.2.1 dX1_first_53 (by decide) k) ?_
  refine J.bd' (fun v54 S54 h54 => ?_)
  refine J.cI (a := v44) (As := [.int 1, .int 7, .int 3, .int 0, .int 0]) (rest := [.ref v44, va_rf v41]) (s2 := [.ref v44, va_rf v41]) X ⟨rfl, rfl⟩ (ct_X4_init l G n S44 v44 1 7 3 0 0) h54 (fun _ _ => jcwI 5 X.1.2.2.2.2 q730 q731 q161 q732 rfl rfl rfl (by decide +kernel) ⟨(Nat.le_of_ble_eq_true rfl), (Nat.le_of_ble_eq_true rfl)⟩) rfl hl.1 rfl rfl (by simp [va_rf_cat, jcI, jcA, jcJ, jcD, jcF]) dX1_first_54 ?_
  refine J.bind (fun o57 g57 => ?_)
  refine J.bd' (fun v57 S57 h57 => ?_)
  refine J.cF (q := (RJ2, TJ2, 3)) (ci := 15) (As := [.ref v44]) (rest := []) (s2 := [.int v57]) X ⟨rfl, rfl⟩ (ct_J2_add l G S54 o57 (some v44)) h57 (fun _ _ => va_cwF 1 X.1.2.2.2.2 (lw_F q798 q582 q584 q142 q586) rfl rfl rfl (jfw0 X.2.1) (by decide +kernel) ⟨(Nat.le_of_ble_eq_true rfl), (Nat.le_of_ble_eq_true rfl)⟩) g57 rfl rfl hl.1 rfl rfl (Nat.le_of_ble_eq_true rfl) dX1_first_57 ?_
  refine J.pu (fun _ _ _ _ k => lv_pop X.1.1 X.1.2.1 dX1_first_62 rfl k) ?_
  refine J.pu (fun _ _ _ _ k => W.rload_n X.1.1 X.1.2.1 dX1_first_63 rfl (lv_at hl 0 rfl) k) ?_
  refine J.getRN (k := 3) (ci := 1) X in_X2 (show jCl[1]? = some (RX2, TX2, 9) from rfl) (by decide) jnf8 (fun _ h => h) dX1_first_64 (fun v64 h64 => ?_)
  refine J.nO' (fs := [.int 0, .int 0, .int 0, .int 0, .null, .int 0, .int 0, .int 0, .int 0]) X ⟨rfl, rfl⟩ in_X4 (show jCl[3]? = some (RX4, TX4, 9) from rfl) tyX4 tyX4_ok q728 q729 q161 rfl dX1_first_67 (fun v67 S67 h67 => ?_)
  refine J.pu (fun _ _ _ _ k => lv_dup X.1.1 X.1.2.1 dX1_first_70 rfl k) ?_
  refine J.pu (fun _ _ _ _ k => lv_iconst (v := 2) X.1.1 X.1.2.1 dX1_first_71 (by decide) k) ?_
  refine J.pu (fun _ _ _ _ k => lv_bipush (v := 9) X.1.1 X.1.2.1 dX1_first_72 (by decide) k) ?_
  refine J.pu (fun _ _ _ _ k => lv_iconst (v := 1) X.1.1 X.1.2.1 dX1_first_74 (by decide) k) ?_
  refine J.pu (fun _ _ _ _ k => lv_iconst (v := 0) X.1.1 X.1.2.1 dX1_first_75 (by decide) k) ?_
  refine J.pu (fun _ _ _ _ k => lv_iconst (v := 4) X.1.1 X.1.2.1 dX1_first_76 (by decide) k) ?_
  refine J.bd' (fun v77 S77 h77 => ?_)
  refine J.cI (a := v67) (As := [.int 2, .int 9, .int 1, .int 0, .int 4]) (rest := [.ref v67, va_rf v64]) (s2 := [.ref v67, va_rf v64]) X ⟨rfl, rfl⟩ (ct_X4_init l G n S67 v67 2 9 1 0 4) h77 (fun _ _ => jcwI 5 X.1.2.2.2.2 q730 q731 q161 q732 rfl rfl rfl (by decide +kernel) ⟨(Nat.le_of_ble_eq_true rfl), (Nat.le_of_ble_eq_true rfl)⟩) rfl hl.1 rfl rfl (by simp [va_rf_cat, jcI, jcA, jcJ, jcD, jcF]) dX1_first_77 ?_
  refine J.bind (fun o80 g80 => ?_)
  refine J.bd' (fun v80 S80 h80 => ?_)
  refine J.cF (q := (RJ2, TJ2, 3)) (ci := 15) (As := [.ref v67]) (rest := []) (s2 := [.int v80]) X ⟨rfl, rfl⟩ (ct_J2_add l G S77 o80 (some v67)) h80 (fun _ _ => va_cwF 1 X.1.2.2.2.2 (lw_F q798 q582 q584 q142 q586) rfl rfl rfl (jfw0 X.2.1) (by decide +kernel) ⟨(Nat.le_of_ble_eq_true rfl), (Nat.le_of_ble_eq_true rfl)⟩) g80 rfl rfl hl.1 rfl rfl (Nat.le_of_ble_eq_true rfl) dX1_first_80 ?_
  refine J.pu (fun _ _ _ _ k => lv_pop X.1.1 X.1.2.1 dX1_first_85 rfl k) ?_
  refine J.pu (fun _ _ _ _ k => W.rload_n X.1.1 X.1.2.1 dX1_first_86 rfl (lv_at hl 0 rfl) k) ?_
  exact J.aret (vr := fun t : (Option Nat) × jH => jrR t.1) (fin := Prod.snd) (t := t) X hr (Or.inl ⟨_, rfl⟩) (by rfl) (by rfl) dX1_first_87
noncomputable def X1_whyNoPut (G : jG) (n : Nat) (σ : jH) (this : Nat) : Option (Int32) :=
  (gR σ (some this) 0 4).bind fun v1 => (rc σ v1 1).bind fun o4 => (X2_againstPut G n σ o4).bind fun v4 => some v4
set_option maxHeartbeats 4000000 in
set_option maxRecDepth 100000 in
theorem ct_X1_whyNoPut (l : Launch) (G : jG) (n : Nat) (σ : jH) (this : Nat) : jCt l G yX1_whyNoPut (ws_ yX1_whyNoPut cX1_whyNoPut 1 (some .int)) 23 1262 jrI [.ref this] σ (jrd σ (X1_whyNoPut G n σ this)) := by
  refine jCt.rd (lv := [(0, .ref this)]) (plainFor_of_name (by decide)) (Nat.le_of_ble_eq_true rfl) rfl ?_
  intro t p e s m args below meth c ls X hr hnm hl
  have X : jCx p c cX1_whyNoPut 1 s m args RX1 G meth := X
  unfold X1_whyNoPut
  refine J.pu (fun _ _ _ _ k => lv_aload_n X.1.1 X.1.2.1 dX1_whyNoPut_0 rfl (lv_at hl 0 rfl) k) ?_
  refine J.getR (k := 4) (ci := 0) X in_X1 (show jCl[0]? = some (RX1, TX1, 9) from rfl) (by decide) q1329 (fun _ h => h) dX1_whyNoPut_1 (fun v1 h1 => ?_)
  refine J.bind (fun o4 g4 => ?_)
  refine J.bind (fun v4 h4 => ?_)
  refine J.cV (q := (RX2, TX2, 9)) (ci := 1) (As := []) (rest := []) (s2 := [.int v4]) X ⟨rfl, rfl⟩ (ct_X2_againstPut l G n σ o4) (jrd_of h4) (fun _ _ => cwV 0 X.1.2.2.2.2 (lw_V q2157 q1996 q1997 q139 q1998) rfl rfl rfl (by decide +kernel) ⟨(Nat.le_of_ble_eq_true rfl), (Nat.le_of_ble_eq_true rfl)⟩) g4 rfl rfl hl.1 rfl rfl (Nat.le_of_ble_eq_true rfl) dX1_whyNoPut_4 ?_
  exact J.iret (vr := jrI) (fin := fun _ : Int32 => σ) (t := t) X hr (by rfl) (by rfl) dX1_whyNoPut_7
noncomputable def X1_isInPlace_j68 (G : jG) (n : Nat) (σ : jH) (this : Nat) (a1 : Option Nat) (x2_68 : Int32) (s0_68 : Int32) : Option (Int32) :=
  (gI σ a1 4 4).bind fun v70 => if v70 = 0 then (if x2_68 = 0 then (some 0) else (if s0_68 = 0 then ((gI σ a1 4 8).bind fun v109 => if v109 = (-1) then ((gI σ a1 4 9).bind fun v117 => if v117 = 0 then ((gR σ (some this) 0 4).bind fun v124 => (rc σ v124 1).bind fun o128 => (X2_lag G n σ o128 a1).bind fun v128 => if 0 < v128 then (some 0) else (some 1)) else (some 1)) else (some 0)) else (some 0))) else if v70 = 1 then (if s0_68 = 0 then (some 0) else ((gI σ a1 4 5).bind fun v147 => if v147 = (-1) then (some 1) else (some 0))) else if v70 = 2 then (if s0_68 = 0 then ((gI σ a1 4 7).bind fun v167 => if v167 = (-1) then (some 0) else ((gI σ a1 4 5).bind fun v175 => if v175 = (-1) then (some 1) else (some 0))) else (some 0)) else if s0_68 = 0 then ((gI σ a1 4 7).bind fun v195 => if v195 = (-1) then ((gI σ a1 4 5).bind fun v203 => if v203 = (-1) then (some 1) else (some 0)) else (some 0)) else (some 0)
noncomputable def X1_isInPlace_j67 (G : jG) (n : Nat) (σ : jH) (this : Nat) (a1 : Option Nat) (x2_67 : Int32) : Option (Int32) :=
  X1_isInPlace_j68 G n σ this a1 x2_67 0
noncomputable def X1_isInPlace_j31 (G : jG) (n : Nat) (σ : jH) (this : Nat) (a1 : Option Nat) (s0_31 : Int32) : Option (Int32) :=
  (gI σ a1 4 7).bind fun v33 => if v33 = (-1) then (X1_isInPlace_j67 G n σ this a1 s0_31) else ((gR σ (some this) 0 4).bind fun v41 => (gI σ a1 4 7).bind fun v45 => (rc σ v41 1).bind fun o48 => (X2_chute G n σ o48 v45).bind fun v48 => (gR σ v48 3 4).bind fun v51 => (rc σ v51 16).bind fun o55 => (llHas σ o55 a1).bind fun v55 => if v55 = 0 then (X1_isInPlace_j67 G n σ this a1 s0_31) else (X1_isInPlace_j68 G n σ this a1 s0_31 1))
noncomputable def X1_isInPlace_j30 (G : jG) (n : Nat) (σ : jH) (this : Nat) (a1 : Option Nat) : Option (Int32) :=
  X1_isInPlace_j31 G n σ this a1 0
noncomputable def X1_isInPlace (G : jG) (n : Nat) (σ : jH) (this : Nat) (a1 : Option Nat) : Option (Int32) :=
  (gI σ a1 4 5).bind fun v1 => if v1 = (-1) then (X1_isInPlace_j30 G n σ this a1) else ((gR σ (some this) 0 4).bind fun v9 => (gR σ v9 1 5).bind fun v12 => (gI σ a1 4 5).bind fun v16 => (rc σ v12 2).bind fun o19 => (X3_at G n σ o19 v16).bind fun v19 => if v19 = a1 then (X1_isInPlace_j31 G n σ this a1 1) else (X1_isInPlace_j30 G n σ this a1))
set_option maxHeartbeats 4000000 in
set_option maxRecDepth 100000 in
theorem ct_X1_isInPlace (l : Launch) (G : jG) (n : Nat) (σ : jH) (this : Nat) (a1 : Option Nat) : jCt l G yX1_isInPlace (ws_ yX1_isInPlace cX1_isInPlace 4 (some .boolean)) 22 1242 jrI [.ref this, va_rf a1] σ (jrd σ (X1_isInPlace G n σ this a1)) := by
  refine jCt.rd (lv := [(0, .ref this), (1, va_rf a1)]) (plainFor_of_name (by decide)) (by simp [lg_sl, va_rf_cat, jcI, jcA, jcJ, jcD, jcF]) (by simp [lv_args, va_rf_cat, jcI, jcA, jcJ, jcD, jcF]) ?_
  intro t p e s m args below meth c ls X hr hnm hl
  have X : jCx p c cX1_isInPlace 4 s m args RX1 G meth := X
  have j68 : ∀ (x2_68 : Int32) (s0_68 : Int32) (ls : Array Slot), lv_has ls 4 [(0, .ref this), (1, va_rf a1), (2, .int x2_68)] → jGo l G 22 1242 σ (fun _ : Int32 => σ) jrI t p e s m args below meth c (X1_isInPlace_j68 G n σ this a1 x2_68 s0_68) σ (F0 m 68 ls [.int s0_68]) := by
    intro x2_68 s0_68 ls hl
    unfold X1_isInPlace_j68
    refine J.istore_n (i := 3) (lv' := [(3, .int s0_68), (0, .ref this), (1, va_rf a1), (2, .int x2_68)]) X.1.1 X.1.2.1 dX1_isInPlace_68 rfl hl (by decide) (by first | rfl | simp [va_rf_cat, jcI, jcA, jcJ, jcD, jcF]) (fun ls hl => ?_)
    refine J.pu (fun _ _ _ _ k => W.rload_n X.1.1 X.1.2.1 dX1_isInPlace_69 rfl (lv_at hl 2 rfl) k) ?_
    refine J.getIN (k := 4) (ci := 4) X in_X5 (show jCl[4]? = some (RX5, TX5, 10) from rfl) (by decide) jnf43 (fun _ h => h) dX1_isInPlace_70 (fun v70 h70 => ?_)
    refine J.ite (fun c73_0 => ?_) (fun c73_0 => ?_)
    · refine J.pu (fun _ _ _ _ k => lv_tableIn (tgt := 100) (off := 27) X.1.1 X.1.2.1 dX1_isInPlace_73 (by rw [c73_0]; decide) (by rw [c73_0]; decide) (by rw [c73_0]; decide) (by decide) k) ?_
      refine J.pu (fun _ _ _ _ k => lv_iload_n X.1.1 X.1.2.1 dX1_isInPlace_100 rfl (lv_at hl 3 rfl) k) ?_
      refine J.br (fun _ _ _ _ ka kb => lv_if_eq (tgt := 138) X.1.1 X.1.2.1 dX1_isInPlace_101 (by decide) ka kb) (fun c101 => ?_) (fun c101 => ?_)
      · refine J.pu (fun _ _ _ _ k => lv_iconst (v := 0) X.1.1 X.1.2.1 dX1_isInPlace_138 (by decide) k) ?_
        refine J.pu (fun _ _ _ _ k => lv_goto (tgt := 215) X.1.1 X.1.2.1 dX1_isInPlace_139 (by decide) k) ?_
        exact J.zret (vr := jrI) (fin := fun _ : Int32 => σ) (t := t) X hr (by decide) (by rfl) (by rfl) dX1_isInPlace_215
      · refine J.pu (fun _ _ _ _ k => lv_iload_n X.1.1 X.1.2.1 dX1_isInPlace_104 rfl (lv_at hl 0 rfl) k) ?_
        refine J.br (fun _ _ _ _ ka kb => lv_if_ne (tgt := 138) X.1.1 X.1.2.1 dX1_isInPlace_105 (by decide) kb ka) (fun c105 => ?_) (fun c105 => ?_)
        · refine J.pu (fun _ _ _ _ k => W.rload_n X.1.1 X.1.2.1 dX1_isInPlace_108 rfl (lv_at hl 2 rfl) k) ?_
          refine J.getIN (k := 8) (ci := 4) X in_X5 (show jCl[4]? = some (RX5, TX5, 10) from rfl) (by decide) jnf50 (fun _ h => h) dX1_isInPlace_109 (fun v109 h109 => ?_)
          refine J.pu (fun _ _ _ _ k => lv_iconst (v := (-1)) X.1.1 X.1.2.1 dX1_isInPlace_112 (by decide) k) ?_
          refine J.br (fun _ _ _ _ ka kb => lv_icmp_ne (tgt := 138) X.1.1 X.1.2.1 dX1_isInPlace_113 (by decide) kb ka) (fun c113 => ?_) (fun c113 => ?_)
          · refine J.pu (fun _ _ _ _ k => W.rload_n X.1.1 X.1.2.1 dX1_isInPlace_116 rfl (lv_at hl 2 rfl) k) ?_
            refine J.getIN (k := 9) (ci := 4) X in_X5 (show jCl[4]? = some (RX5, TX5, 10) from rfl) (by decide) jnf52 (fun _ h => h) dX1_isInPlace_117 (fun v117 h117 => ?_)
            refine J.br (fun _ _ _ _ ka kb => lv_if_ne (tgt := 134) X.1.1 X.1.2.1 dX1_isInPlace_120 (by decide) kb ka) (fun c120 => ?_) (fun c120 => ?_)
            · refine J.pu (fun _ _ _ _ k => lv_aload_n X.1.1 X.1.2.1 dX1_isInPlace_123 rfl (lv_at hl 1 rfl) k) ?_
              refine J.getR (k := 4) (ci := 0) X in_X1 (show jCl[0]? = some (RX1, TX1, 9) from rfl) (by decide) q1329 (fun _ h => h) dX1_isInPlace_124 (fun v124 h124 => ?_)
              refine J.pu (fun _ _ _ _ k => W.rload_n X.1.1 X.1.2.1 dX1_isInPlace_127 rfl (lv_at hl 2 rfl) k) ?_
              refine J.bind (fun o128 g128 => ?_)
              refine J.bind (fun v128 h128 => ?_)
              refine J.cV (q := (RX2, TX2, 9)) (ci := 1) (As := [va_rf a1]) (rest := []) (s2 := [.int v128]) X ⟨rfl, rfl⟩ (ct_X2_lag l G n σ o128 a1) (jrd_of h128) (fun _ _ => cwV 1 X.1.2.2.2.2 (lw_V q2243 q2116 q2117 q139 q2118) rfl rfl rfl (by decide +kernel) ⟨(Nat.le_of_ble_eq_true rfl), (Nat.le_of_ble_eq_true rfl)⟩) g128 rfl rfl hl.1 rfl rfl (Nat.le_of_ble_eq_true rfl) dX1_isInPlace_128 ?_
              refine J.br (fun _ _ _ _ ka kb => lv_if_gt (tgt := 138) X.1.1 X.1.2.1 dX1_isInPlace_131 (by decide) ka kb) (fun c131 => ?_) (fun c131 => ?_)
              · refine J.pu (fun _ _ _ _ k => lv_iconst (v := 0) X.1.1 X.1.2.1 dX1_isInPlace_138 (by decide) k) ?_
                refine J.pu (fun _ _ _ _ k => lv_goto (tgt := 215) X.1.1 X.1.2.1 dX1_isInPlace_139 (by decide) k) ?_
                exact J.zret (vr := jrI) (fin := fun _ : Int32 => σ) (t := t) X hr (by decide) (by rfl) (by rfl) dX1_isInPlace_215
              · refine J.pu (fun _ _ _ _ k => lv_iconst (v := 1) X.1.1 X.1.2.1 dX1_isInPlace_134 (by decide) k) ?_
                refine J.pu (fun _ _ _ _ k => lv_goto (tgt := 215) X.1.1 X.1.2.1 dX1_isInPlace_135 (by decide) k) ?_
                exact J.zret (vr := jrI) (fin := fun _ : Int32 => σ) (t := t) X hr (by decide) (by rfl) (by rfl) dX1_isInPlace_215
            · refine J.pu (fun _ _ _ _ k => lv_iconst (v := 1) X.1.1 X.1.2.1 dX1_isInPlace_134 (by decide) k) ?_
              refine J.pu (fun _ _ _ _ k => lv_goto (tgt := 215) X.1.1 X.1.2.1 dX1_isInPlace_135 (by decide) k) ?_
              exact J.zret (vr := jrI) (fin := fun _ : Int32 => σ) (t := t) X hr (by decide) (by rfl) (by rfl) dX1_isInPlace_215
          · refine J.pu (fun _ _ _ _ k => lv_iconst (v := 0) X.1.1 X.1.2.1 dX1_isInPlace_138 (by decide) k) ?_
            refine J.pu (fun _ _ _ _ k => lv_goto (tgt := 215) X.1.1 X.1.2.1 dX1_isInPlace_139 (by decide) k) ?_
            exact J.zret (vr := jrI) (fin := fun _ : Int32 => σ) (t := t) X hr (by decide) (by rfl) (by rfl) dX1_isInPlace_215
        · refine J.pu (fun _ _ _ _ k => lv_iconst (v := 0) X.1.1 X.1.2.1 dX1_isInPlace_138 (by decide) k) ?_
          refine J.pu (fun _ _ _ _ k => lv_goto (tgt := 215) X.1.1 X.1.2.1 dX1_isInPlace_139 (by decide) k) ?_
          exact J.zret (vr := jrI) (fin := fun _ : Int32 => σ) (t := t) X hr (by decide) (by rfl) (by rfl) dX1_isInPlace_215
    refine J.ite (fun c73_1 => ?_) (fun c73_1 => ?_)
    · refine J.pu (fun _ _ _ _ k => lv_tableIn (tgt := 142) (off := 69) X.1.1 X.1.2.1 dX1_isInPlace_73 (by rw [c73_1]; decide) (by rw [c73_1]; decide) (by rw [c73_1]; decide) (by decide) k) ?_
      refine J.pu (fun _ _ _ _ k => lv_iload_n X.1.1 X.1.2.1 dX1_isInPlace_142 rfl (lv_at hl 0 rfl) k) ?_
      refine J.br (fun _ _ _ _ ka kb => lv_if_eq (tgt := 158) X.1.1 X.1.2.1 dX1_isInPlace_143 (by decide) ka kb) (fun c143 => ?_) (fun c143 => ?_)
      · refine J.pu (fun _ _ _ _ k => lv_iconst (v := 0) X.1.1 X.1.2.1 dX1_isInPlace_158 (by decide) k) ?_
        refine J.pu (fun _ _ _ _ k => lv_goto (tgt := 215) X.1.1 X.1.2.1 dX1_isInPlace_159 (by decide) k) ?_
        exact J.zret (vr := jrI) (fin := fun _ : Int32 => σ) (t := t) X hr (by decide) (by rfl) (by rfl) dX1_isInPlace_215
      · refine J.pu (fun _ _ _ _ k => W.rload_n X.1.1 X.1.2.1 dX1_isInPlace_146 rfl (lv_at hl 2 rfl) k) ?_
        refine J.getIN (k := 5) (ci := 4) X in_X5 (show jCl[4]? = some (RX5, TX5, 10) from rfl) (by decide) jnf45 (fun _ h => h) dX1_isInPlace_147 (fun v147 h147 => ?_)
        refine J.pu (fun _ _ _ _ k => lv_iconst (v := (-1)) X.1.1 X.1.2.1 dX1_isInPlace_150 (by decide) k) ?_
        refine J.br (fun _ _ _ _ ka kb => lv_icmp_ne (tgt := 158) X.1.1 X.1.2.1 dX1_isInPlace_151 (by decide) kb ka) (fun c151 => ?_) (fun c151 => ?_)
        · refine J.pu (fun _ _ _ _ k => lv_iconst (v := 1) X.1.1 X.1.2.1 dX1_isInPlace_154 (by decide) k) ?_
          refine J.pu (fun _ _ _ _ k => lv_goto (tgt := 215) X.1.1 X.1.2.1 dX1_isInPlace_155 (by decide) k) ?_
          exact J.zret (vr := jrI) (fin := fun _ : Int32 => σ) (t := t) X hr (by decide) (by rfl) (by rfl) dX1_isInPlace_215
        · refine J.pu (fun _ _ _ _ k => lv_iconst (v := 0) X.1.1 X.1.2.1 dX1_isInPlace_158 (by decide) k) ?_
          refine J.pu (fun _ _ _ _ k => lv_goto (tgt := 215) X.1.1 X.1.2.1 dX1_isInPlace_159 (by decide) k) ?_
          exact J.zret (vr := jrI) (fin := fun _ : Int32 => σ) (t := t) X hr (by decide) (by rfl) (by rfl) dX1_isInPlace_215
    refine J.ite (fun c73_2 => ?_) (fun c73_2 => ?_)
    · refine J.pu (fun _ _ _ _ k => lv_tableIn (tgt := 162) (off := 89) X.1.1 X.1.2.1 dX1_isInPlace_73 (by rw [c73_2]; decide) (by rw [c73_2]; decide) (by rw [c73_2]; decide) (by decide) k) ?_
      refine J.pu (fun _ _ _ _ k => lv_iload_n X.1.1 X.1.2.1 dX1_isInPlace_162 rfl (lv_at hl 0 rfl) k) ?_
      refine J.br (fun _ _ _ _ ka kb => lv_if_ne (tgt := 186) X.1.1 X.1.2.1 dX1_isInPlace_163 (by decide) kb ka) (fun c163 => ?_) (fun c163 => ?_)
      · refine J.pu (fun _ _ _ _ k => W.rload_n X.1.1 X.1.2.1 dX1_isInPlace_166 rfl (lv_at hl 2 rfl) k) ?_
        refine J.getIN (k := 7) (ci := 4) X in_X5 (show jCl[4]? = some (RX5, TX5, 10) from rfl) (by decide) jnf49 (fun _ h => h) dX1_isInPlace_167 (fun v167 h167 => ?_)
        refine J.pu (fun _ _ _ _ k => lv_iconst (v := (-1)) X.1.1 X.1.2.1 dX1_isInPlace_170 (by decide) k) ?_
        refine J.br (fun _ _ _ _ ka kb => lv_icmp_eq (tgt := 186) X.1.1 X.1.2.1 dX1_isInPlace_171 (by decide) ka kb) (fun c171 => ?_) (fun c171 => ?_)
        · refine J.pu (fun _ _ _ _ k => lv_iconst (v := 0) X.1.1 X.1.2.1 dX1_isInPlace_186 (by decide) k) ?_
          refine J.pu (fun _ _ _ _ k => lv_goto (tgt := 215) X.1.1 X.1.2.1 dX1_isInPlace_187 (by decide) k) ?_
          exact J.zret (vr := jrI) (fin := fun _ : Int32 => σ) (t := t) X hr (by decide) (by rfl) (by rfl) dX1_isInPlace_215
        · refine J.pu (fun _ _ _ _ k => W.rload_n X.1.1 X.1.2.1 dX1_isInPlace_174 rfl (lv_at hl 2 rfl) k) ?_
          refine J.getIN (k := 5) (ci := 4) X in_X5 (show jCl[4]? = some (RX5, TX5, 10) from rfl) (by decide) jnf45 (fun _ h => h) dX1_isInPlace_175 (fun v175 h175 => ?_)
          refine J.pu (fun _ _ _ _ k => lv_iconst (v := (-1)) X.1.1 X.1.2.1 dX1_isInPlace_178 (by decide) k) ?_
          refine J.br (fun _ _ _ _ ka kb => lv_icmp_ne (tgt := 186) X.1.1 X.1.2.1 dX1_isInPlace_179 (by decide) kb ka) (fun c179 => ?_) (fun c179 => ?_)
          · refine J.pu (fun _ _ _ _ k => lv_iconst (v := 1) X.1.1 X.1.2.1 dX1_isInPlace_182 (by decide) k) ?_
            refine J.pu (fun _ _ _ _ k => lv_goto (tgt := 215) X.1.1 X.1.2.1 dX1_isInPlace_183 (by decide) k) ?_
            exact J.zret (vr := jrI) (fin := fun _ : Int32 => σ) (t := t) X hr (by decide) (by rfl) (by rfl) dX1_isInPlace_215
          · refine J.pu (fun _ _ _ _ k => lv_iconst (v := 0) X.1.1 X.1.2.1 dX1_isInPlace_186 (by decide) k) ?_
            refine J.pu (fun _ _ _ _ k => lv_goto (tgt := 215) X.1.1 X.1.2.1 dX1_isInPlace_187 (by decide) k) ?_
            exact J.zret (vr := jrI) (fin := fun _ : Int32 => σ) (t := t) X hr (by decide) (by rfl) (by rfl) dX1_isInPlace_215
      · refine J.pu (fun _ _ _ _ k => lv_iconst (v := 0) X.1.1 X.1.2.1 dX1_isInPlace_186 (by decide) k) ?_
        refine J.pu (fun _ _ _ _ k => lv_goto (tgt := 215) X.1.1 X.1.2.1 dX1_isInPlace_187 (by decide) k) ?_
        exact J.zret (vr := jrI) (fin := fun _ : Int32 => σ) (t := t) X hr (by decide) (by rfl) (by rfl) dX1_isInPlace_215
    by_cases b73 : v70.toInt < 0 ∨ 2 < v70.toInt
    · refine J.pu (fun _ _ _ _ k => lv_tableOut (tgt := 190) X.1.1 X.1.2.1 dX1_isInPlace_73 b73 (by decide) k) ?_
      refine J.pu (fun _ _ _ _ k => lv_iload_n X.1.1 X.1.2.1 dX1_isInPlace_190 rfl (lv_at hl 0 rfl) k) ?_
      refine J.br (fun _ _ _ _ ka kb => lv_if_ne (tgt := 214) X.1.1 X.1.2.1 dX1_isInPlace_191 (by decide) kb ka) (fun c191 => ?_) (fun c191 => ?_)
      · refine J.pu (fun _ _ _ _ k => W.rload_n X.1.1 X.1.2.1 dX1_isInPlace_194 rfl (lv_at hl 2 rfl) k) ?_
        refine J.getIN (k := 7) (ci := 4) X in_X5 (show jCl[4]? = some (RX5, TX5, 10) from rfl) (by decide) jnf49 (fun _ h => h) dX1_isInPlace_195 (fun v195 h195 => ?_)
        refine J.pu (fun _ _ _ _ k => lv_iconst (v := (-1)) X.1.1 X.1.2.1 dX1_isInPlace_198 (by decide) k) ?_
        refine J.br (fun _ _ _ _ ka kb => lv_icmp_ne (tgt := 214) X.1.1 X.1.2.1 dX1_isInPlace_199 (by decide) kb ka) (fun c199 => ?_) (fun c199 => ?_)
        · refine J.pu (fun _ _ _ _ k => W.rload_n X.1.1 X.1.2.1 dX1_isInPlace_202 rfl (lv_at hl 2 rfl) k) ?_
          refine J.getIN (k := 5) (ci := 4) X in_X5 (show jCl[4]? = some (RX5, TX5, 10) from rfl) (by decide) jnf45 (fun _ h => h) dX1_isInPlace_203 (fun v203 h203 => ?_)
          refine J.pu (fun _ _ _ _ k => lv_iconst (v := (-1)) X.1.1 X.1.2.1 dX1_isInPlace_206 (by decide) k) ?_
          refine J.br (fun _ _ _ _ ka kb => lv_icmp_ne (tgt := 214) X.1.1 X.1.2.1 dX1_isInPlace_207 (by decide) kb ka) (fun c207 => ?_) (fun c207 => ?_)
          · refine J.pu (fun _ _ _ _ k => lv_iconst (v := 1) X.1.1 X.1.2.1 dX1_isInPlace_210 (by decide) k) ?_
            refine J.pu (fun _ _ _ _ k => lv_goto (tgt := 215) X.1.1 X.1.2.1 dX1_isInPlace_211 (by decide) k) ?_
            exact J.zret (vr := jrI) (fin := fun _ : Int32 => σ) (t := t) X hr (by decide) (by rfl) (by rfl) dX1_isInPlace_215
          · refine J.pu (fun _ _ _ _ k => lv_iconst (v := 0) X.1.1 X.1.2.1 dX1_isInPlace_214 (by decide) k) ?_
            exact J.zret (vr := jrI) (fin := fun _ : Int32 => σ) (t := t) X hr (by decide) (by rfl) (by rfl) dX1_isInPlace_215
        · refine J.pu (fun _ _ _ _ k => lv_iconst (v := 0) X.1.1 X.1.2.1 dX1_isInPlace_214 (by decide) k) ?_
          exact J.zret (vr := jrI) (fin := fun _ : Int32 => σ) (t := t) X hr (by decide) (by rfl) (by rfl) dX1_isInPlace_215
      · refine J.pu (fun _ _ _ _ k => lv_iconst (v := 0) X.1.1 X.1.2.1 dX1_isInPlace_214 (by decide) k) ?_
        exact J.zret (vr := jrI) (fin := fun _ : Int32 => σ) (t := t) X hr (by decide) (by rfl) (by rfl) dX1_isInPlace_215
    · exfalso; have := lv_neT c73_0 (a := 0) rfl; have := lv_neT c73_1 (a := 1) rfl; have := lv_neT c73_2 (a := 2) rfl; omega
  have j67 : ∀ (x2_67 : Int32) (ls : Array Slot), lv_has ls 4 [(0, .ref this), (1, va_rf a1), (2, .int x2_67)] → jGo l G 22 1242 σ (fun _ : Int32 => σ) jrI t p e s m args below meth c (X1_isInPlace_j67 G n σ this a1 x2_67) σ (F0 m 67 ls []) := by
    intro x2_67 ls hl
    unfold X1_isInPlace_j67
    refine J.pu (fun _ _ _ _ k => lv_iconst (v := 0) X.1.1 X.1.2.1 dX1_isInPlace_67 (by decide) k) ?_
    exact j68 x2_67 0 ls (lv_sub hl [0, 1, 2] rfl)
  have j31 : ∀ (s0_31 : Int32) (ls : Array Slot), lv_has ls 4 [(0, .ref this), (1, va_rf a1)] → jGo l G 22 1242 σ (fun _ : Int32 => σ) jrI t p e s m args below meth c (X1_isInPlace_j31 G n σ this a1 s0_31) σ (F0 m 31 ls [.int s0_31]) := by
    intro s0_31 ls hl
    unfold X1_isInPlace_j31
    refine J.istore_n (i := 2) (lv' := [(2, .int s0_31), (0, .ref this), (1, va_rf a1)]) X.1.1 X.1.2.1 dX1_isInPlace_31 rfl hl (by decide) (by first | rfl | simp [va_rf_cat, jcI, jcA, jcJ, jcD, jcF]) (fun ls hl => ?_)
    refine J.pu (fun _ _ _ _ k => W.rload_n X.1.1 X.1.2.1 dX1_isInPlace_32 rfl (lv_at hl 2 rfl) k) ?_
    refine J.getIN (k := 7) (ci := 4) X in_X5 (show jCl[4]? = some (RX5, TX5, 10) from rfl) (by decide) jnf49 (fun _ h => h) dX1_isInPlace_33 (fun v33 h33 => ?_)
    refine J.pu (fun _ _ _ _ k => lv_iconst (v := (-1)) X.1.1 X.1.2.1 dX1_isInPlace_36 (by decide) k) ?_
    refine J.br (fun _ _ _ _ ka kb => lv_icmp_eq (tgt := 67) X.1.1 X.1.2.1 dX1_isInPlace_37 (by decide) ka kb) (fun c37 => ?_) (fun c37 => ?_)
    · exact j67 s0_31 ls (lv_sub hl [1, 2, 0] rfl)
    · refine J.pu (fun _ _ _ _ k => lv_aload_n X.1.1 X.1.2.1 dX1_isInPlace_40 rfl (lv_at hl 1 rfl) k) ?_
      refine J.getR (k := 4) (ci := 0) X in_X1 (show jCl[0]? = some (RX1, TX1, 9) from rfl) (by decide) q1329 (fun _ h => h) dX1_isInPlace_41 (fun v41 h41 => ?_)
      refine J.pu (fun _ _ _ _ k => W.rload_n X.1.1 X.1.2.1 dX1_isInPlace_44 rfl (lv_at hl 2 rfl) k) ?_
      refine J.getIN (k := 7) (ci := 4) X in_X5 (show jCl[4]? = some (RX5, TX5, 10) from rfl) (by decide) jnf49 (fun _ h => h) dX1_isInPlace_45 (fun v45 h45 => ?_)
      refine J.bind (fun o48 g48 => ?_)
      refine J.bind (fun v48 h48 => ?_)
      refine J.cV (q := (RX2, TX2, 9)) (ci := 1) (As := [.int v45]) (rest := []) (s2 := [va_rf v48]) X ⟨rfl, rfl⟩ (ct_X2_chute l G n σ o48 v45) (jrd_of h48) (fun _ _ => cwV 1 X.1.2.2.2.2 (lw_V q2185 q844 q845 q139 q846) rfl rfl rfl (by decide +kernel) ⟨(Nat.le_of_ble_eq_true rfl), (Nat.le_of_ble_eq_true rfl)⟩) g48 rfl rfl hl.1 rfl rfl (Nat.le_of_ble_eq_true rfl) dX1_isInPlace_48 ?_
      refine J.getRN (k := 4) (ci := 3) X in_X4 (show jCl[3]? = some (RX4, TX4, 9) from rfl) (by decide) jnf24 (fun _ h => h) dX1_isInPlace_51 (fun v51 h51 => ?_)
      refine J.pu (fun _ _ _ _ k => W.rload_n X.1.1 X.1.2.1 dX1_isInPlace_54 rfl (lv_at hl 2 rfl) k) ?_
      refine J.bind (fun o55 g55 => ?_)
      refine J.bind (fun v55 h55 => ?_)
      refine J.cF (q := (RJ19, TJ19, 4)) (ci := 16) (As := [va_rf a1]) (rest := []) (s2 := [.int v55]) X ⟨rfl, rfl⟩ (ct_J19_contains l G σ o55 a1) (jrd_of h55) (fun _ _ => va_cwF 1 X.1.2.2.2.2 (lw_F q2187 q2233 q2235 q163 q2237) rfl rfl rfl (jfw28 X.2.1) (by decide +kernel) ⟨(Nat.le_of_ble_eq_true rfl), (Nat.le_of_ble_eq_true rfl)⟩) g55 rfl rfl hl.1 rfl rfl (Nat.le_of_ble_eq_true rfl) dX1_isInPlace_55 ?_
      refine J.br (fun _ _ _ _ ka kb => lv_if_eq (tgt := 67) X.1.1 X.1.2.1 dX1_isInPlace_60 (by decide) ka kb) (fun c60 => ?_) (fun c60 => ?_)
      · exact j67 s0_31 ls (lv_sub hl [1, 2, 0] rfl)
      · refine J.pu (fun _ _ _ _ k => lv_iconst (v := 1) X.1.1 X.1.2.1 dX1_isInPlace_63 (by decide) k) ?_
        refine J.pu (fun _ _ _ _ k => lv_goto (tgt := 68) X.1.1 X.1.2.1 dX1_isInPlace_64 (by decide) k) ?_
        exact j68 s0_31 1 ls (lv_sub hl [1, 2, 0] rfl)
  have j30 : ∀ (ls : Array Slot), lv_has ls 4 [(0, .ref this), (1, va_rf a1)] → jGo l G 22 1242 σ (fun _ : Int32 => σ) jrI t p e s m args below meth c (X1_isInPlace_j30 G n σ this a1) σ (F0 m 30 ls []) := by
    intro ls hl
    unfold X1_isInPlace_j30
    refine J.pu (fun _ _ _ _ k => lv_iconst (v := 0) X.1.1 X.1.2.1 dX1_isInPlace_30 (by decide) k) ?_
    exact j31 0 ls (lv_sub hl [0, 1] rfl)
  unfold X1_isInPlace
  refine J.pu (fun _ _ _ _ k => W.rload_n X.1.1 X.1.2.1 dX1_isInPlace_0 rfl (lv_at hl 1 rfl) k) ?_
  refine J.getIN (k := 5) (ci := 4) X in_X5 (show jCl[4]? = some (RX5, TX5, 10) from rfl) (by decide) jnf45 (fun _ h => h) dX1_isInPlace_1 (fun v1 h1 => ?_)
  refine J.pu (fun _ _ _ _ k => lv_iconst (v := (-1)) X.1.1 X.1.2.1 dX1_isInPlace_4 (by decide) k) ?_
  refine J.br (fun _ _ _ _ ka kb => lv_icmp_eq (tgt := 30) X.1.1 X.1.2.1 dX1_isInPlace_5 (by decide) ka kb) (fun c5 => ?_) (fun c5 => ?_)
  · exact j30  ls (lv_sub hl [0, 1] rfl)
  · refine J.pu (fun _ _ _ _ k => lv_aload_n X.1.1 X.1.2.1 dX1_isInPlace_8 rfl (lv_at hl 0 rfl) k) ?_
    refine J.getR (k := 4) (ci := 0) X in_X1 (show jCl[0]? = some (RX1, TX1, 9) from rfl) (by decide) q1329 (fun _ h => h) dX1_isInPlace_9 (fun v9 h9 => ?_)
    refine J.getRN (k := 5) (ci := 1) X in_X2 (show jCl[1]? = some (RX2, TX2, 9) from rfl) (by decide) jnf11 (fun _ h => h) dX1_isInPlace_12 (fun v12 h12 => ?_)
    refine J.pu (fun _ _ _ _ k => W.rload_n X.1.1 X.1.2.1 dX1_isInPlace_15 rfl (lv_at hl 1 rfl) k) ?_
    refine J.getIN (k := 5) (ci := 4) X in_X5 (show jCl[4]? = some (RX5, TX5, 10) from rfl) (by decide) jnf45 (fun _ h => h) dX1_isInPlace_16 (fun v16 h16 => ?_)
    refine J.bind (fun o19 g19 => ?_)
    refine J.bind (fun v19 h19 => ?_)
    refine J.cV (q := (RX3, TX3, 1)) (ci := 2) (As := [.int v16]) (rest := []) (s2 := [va_rf v19]) X ⟨rfl, rfl⟩ (ct_X3_at l G n σ o19 v16) (jrd_of h19) (fun _ _ => cwV 1 X.1.2.2.2.2 (lw_V q2184 q2096 q2097 q159 q2098) rfl rfl rfl (by decide +kernel) ⟨(Nat.le_of_ble_eq_true rfl), (Nat.le_of_ble_eq_true rfl)⟩) g19 rfl rfl hl.1 rfl rfl (Nat.le_of_ble_eq_true rfl) dX1_isInPlace_19 ?_
    refine J.pu (fun _ _ _ _ k => W.rload_n X.1.1 X.1.2.1 dX1_isInPlace_22 rfl (lv_at hl 1 rfl) k) ?_
    refine J.br (fun _ _ _ _ ka kb => lv_acmp_ne (tgt := 30) X.1.1 X.1.2.1 dX1_isInPlace_23 (by decide) kb ka) (fun c23 => ?_) (fun c23 => ?_)
    · refine J.pu (fun _ _ _ _ k => lv_iconst (v := 1) X.1.1 X.1.2.1 dX1_isInPlace_26 (by decide) k) ?_
      refine J.pu (fun _ _ _ _ k => lv_goto (tgt := 31) X.1.1 X.1.2.1 dX1_isInPlace_27 (by decide) k) ?_
      exact j31 1 ls (lv_sub hl [0, 1] rfl)
    · exact j30  ls (lv_sub hl [0, 1] rfl)
noncomputable def X1_sign (G : jG) (n : Nat) (σ : jH) (this : Nat) (a1 : Option Nat) : Option (Int32) :=
  if a1 = none then (some 46) else ((gI σ a1 4 2).bind fun v8 => if v8 ≤ 0 then ((gR σ (some this) 0 4).bind fun v18 => (rc σ v18 1).bind fun o22 => (X2_lag G n σ o22 a1).bind fun v22 => if v22 = 0 then ((gI σ a1 4 1).bind fun v31 => jbo .char (((48 + v31).toUInt32 % 65536).toInt32) (some (((48 + v31).toUInt32 % 65536).toInt32))) else (some 33)) else (some 63))
set_option maxHeartbeats 4000000 in
set_option maxRecDepth 100000 in
theorem ct_X1_sign (l : Launch) (G : jG) (n : Nat) (σ : jH) (this : Nat) (a1 : Option Nat) : jCt l G yX1_sign (ws_ yX1_sign cX1_sign 2 (some .char)) 2 43 jrI [.ref this, va_rf a1] σ (jrd σ (X1_sign G n σ this a1)) := by
  refine jCt.rd (lv := [(0, .ref this), (1, va_rf a1)]) (plainFor_of_name (by decide)) (by simp [lg_sl, va_rf_cat, jcI, jcA, jcJ, jcD, jcF]) (by simp [lv_args, va_rf_cat, jcI, jcA, jcJ, jcD, jcF]) ?_
  intro t p e s m args below meth c ls X hr hnm hl
  have X : jCx p c cX1_sign 2 s m args RX1 G meth := X
  unfold X1_sign
  refine J.pu (fun _ _ _ _ k => W.rload_n X.1.1 X.1.2.1 dX1_sign_0 rfl (lv_at hl 1 rfl) k) ?_
  refine J.br (fun _ _ _ _ ka kb => W.rnonnull (tgt := 7) X.1.1 X.1.2.1 dX1_sign_1 (by decide) kb ka) (fun c1 => ?_) (fun c1 => ?_)
  · refine J.pu (fun _ _ _ _ k => lv_bipush (v := 46) X.1.1 X.1.2.1 dX1_sign_4 (by decide) k) ?_
    exact J.zret (vr := jrI) (fin := fun _ : Int32 => σ) (t := t) X hr (by decide) (by rfl) (by rfl) dX1_sign_6
  · refine J.pu (fun _ _ _ _ k => W.rload_n X.1.1 X.1.2.1 dX1_sign_7 rfl (lv_at hl 1 rfl) k) ?_
    refine J.getIN (k := 2) (ci := 4) X in_X5 (show jCl[4]? = some (RX5, TX5, 10) from rfl) (by decide) jnf39 (fun _ h => h) dX1_sign_8 (fun v8 h8 => ?_)
    refine J.br (fun _ _ _ _ ka kb => lv_if_le (tgt := 17) X.1.1 X.1.2.1 dX1_sign_11 (by decide) ka kb) (fun c11 => ?_) (fun c11 => ?_)
    · refine J.pu (fun _ _ _ _ k => lv_aload_n X.1.1 X.1.2.1 dX1_sign_17 rfl (lv_at hl 0 rfl) k) ?_
      refine J.getR (k := 4) (ci := 0) X in_X1 (show jCl[0]? = some (RX1, TX1, 9) from rfl) (by decide) q1329 (fun _ h => h) dX1_sign_18 (fun v18 h18 => ?_)
      refine J.pu (fun _ _ _ _ k => W.rload_n X.1.1 X.1.2.1 dX1_sign_21 rfl (lv_at hl 1 rfl) k) ?_
      refine J.bind (fun o22 g22 => ?_)
      refine J.bind (fun v22 h22 => ?_)
      refine J.cV (q := (RX2, TX2, 9)) (ci := 1) (As := [va_rf a1]) (rest := []) (s2 := [.int v22]) X ⟨rfl, rfl⟩ (ct_X2_lag l G n σ o22 a1) (jrd_of h22) (fun _ _ => cwV 1 X.1.2.2.2.2 (lw_V q2243 q2116 q2117 q139 q2118) rfl rfl rfl (by decide +kernel) ⟨(Nat.le_of_ble_eq_true rfl), (Nat.le_of_ble_eq_true rfl)⟩) g22 rfl rfl hl.1 rfl rfl (Nat.le_of_ble_eq_true rfl) dX1_sign_22 ?_
      refine J.br (fun _ _ _ _ ka kb => lv_if_ne (tgt := 39) X.1.1 X.1.2.1 dX1_sign_25 (by decide) kb ka) (fun c25 => ?_) (fun c25 => ?_)
      · refine J.pu (fun _ _ _ _ k => lv_bipush (v := 48) X.1.1 X.1.2.1 dX1_sign_28 (by decide) k) ?_
        refine J.pu (fun _ _ _ _ k => W.rload_n X.1.1 X.1.2.1 dX1_sign_30 rfl (lv_at hl 1 rfl) k) ?_
        refine J.getIN (k := 1) (ci := 4) X in_X5 (show jCl[4]? = some (RX5, TX5, 10) from rfl) (by decide) jnf37 (fun _ h => h) dX1_sign_31 (fun v31 h31 => ?_)
        refine J.pu (fun _ _ _ _ k => lv_iadd X.1.1 X.1.2.1 dX1_sign_34 k) ?_
        refine J.pu (fun _ _ _ _ k => lv_i2c (v := ((48 + v31).toUInt32 % 65536).toInt32) X.1.1 X.1.2.1 dX1_sign_35 rfl k) ?_
        refine J.pu (fun _ _ _ _ k => lv_goto (tgt := 41) X.1.1 X.1.2.1 dX1_sign_36 (by decide) k) ?_
        exact J.zretb (vr := jrI) (fin := fun _ : Int32 => σ) (t := t) X hr (by rfl) (by rfl) dX1_sign_41
      · refine J.pu (fun _ _ _ _ k => lv_bipush (v := 33) X.1.1 X.1.2.1 dX1_sign_39 (by decide) k) ?_
        exact J.zret (vr := jrI) (fin := fun _ : Int32 => σ) (t := t) X hr (by decide) (by rfl) (by rfl) dX1_sign_41
    · refine J.pu (fun _ _ _ _ k => lv_bipush (v := 63) X.1.1 X.1.2.1 dX1_sign_14 (by decide) k) ?_
      exact J.zret (vr := jrI) (fin := fun _ : Int32 => σ) (t := t) X hr (by decide) (by rfl) (by rfl) dX1_sign_16
noncomputable def X1_lagging_j44 (G : jG) (n : Nat) (σ : jH) (this : Nat) (rec4 : Int32 × Int32 → Option (Int32)) (x2_44 : Int32) (s0_44 : Int32) (s1_44 : Int32) : Option (Int32) :=
  (X1_bit G n σ s1_44).bind fun v44 => rec4 ((s0_44 + v44), (x2_44 + 1))
noncomputable def X1_lagging_h4 (G : jG) (n : Nat) (σ : jH) (this : Nat) (rec4 : Int32 × Int32 → Option (Int32)) (q4 : Int32 × Int32) : Option (Int32) :=
  let x1_4 := q4.1; let x2_4 := q4.2; (gR σ (some this) 0 4).bind fun v6 => (gR σ v6 1 4).bind fun v9 => (rc σ v9 15).bind fun o12 => (lSize 0 σ o12).bind fun v12 => if v12 ≤ x2_4 then (some x1_4) else ((gR σ (some this) 0 4).bind fun v22 => (gR σ (some this) 0 4).bind fun v26 => (rc σ v26 1).bind fun o30 => (X2_parcel G n σ o30 x2_4).bind fun v30 => (rc σ v22 1).bind fun o33 => (X2_lag G n σ o33 v30).bind fun v33 => if v33 ≤ 0 then (X1_lagging_j44 G n σ this rec4 x2_4 x1_4 0) else (X1_lagging_j44 G n σ this rec4 x2_4 x1_4 1))
noncomputable def X1_lagging (G : jG) (n : Nat) (σ : jH) (this : Nat) : Option (Int32) :=
  jloop (X1_lagging_h4 G n σ this) n (0, 0)
set_option maxHeartbeats 4000000 in
set_option maxRecDepth 100000 in
theorem ct_X1_lagging (l : Launch) (G : jG) (n : Nat) (σ : jH) (this : Nat) : jCt l G yX1_lagging (ws_ yX1_lagging cX1_lagging 3 (some .int)) 22 1242 jrI [.ref this] σ (jrd σ (X1_lagging G n σ this)) := by
  refine jCt.rd (lv := [(0, .ref this)]) (plainFor_of_name (by decide)) (Nat.le_of_ble_eq_true rfl) rfl ?_
  intro t p e s m args below meth c ls X hr hnm hl
  have X : jCx p c cX1_lagging 3 s m args RX1 G meth := X
  have L4 : ∀ (n4 : Nat) (x1_4 : Int32) (x2_4 : Int32) (ls : Array Slot), lv_has ls 3 [(0, .ref this), (1, .int x1_4), (2, .int x2_4)] → jGo l G 22 1242 σ (fun _ : Int32 => σ) jrI t p e s m args below meth c (jloop (X1_lagging_h4 G n σ this) n4 (x1_4, x2_4)) σ (F0 m 4 ls []) := by
    intro n4
    induction n4 with
    | zero => intro x1_4 x2_4 ls hl; exact J.nil_
    | succ n4 ih4 =>
      have j44 : ∀ (x2_44 : Int32) (s0_44 : Int32) (s1_44 : Int32) (ls : Array Slot), lv_has ls 3 [(0, .ref this), (2, .int x2_44)] → jGo l G 22 1242 σ (fun _ : Int32 => σ) jrI t p e s m args below meth c (X1_lagging_j44 G n σ this (jloop (X1_lagging_h4 G n σ this) n4) x2_44 s0_44 s1_44) σ (F0 m 44 ls [.int s1_44, .int s0_44]) := by
        intro x2_44 s0_44 s1_44 ls hl
        unfold X1_lagging_j44
        refine J.bind (fun v44 h44 => ?_)
        refine J.cS (As := [.int s1_44]) (rest := [.int s0_44]) (s2 := [.int v44, .int s0_44]) X ⟨rfl, rfl⟩ (ct_X1_bit l G n σ s1_44) (jrd_of h44) (fun _ _ => va_cwS 1 X.1.2.2.2.2 (lw_S q2178 q1703 q138 q1704) rfl rfl rfl (by decide +kernel) ⟨(Nat.le_of_ble_eq_true rfl), (Nat.le_of_ble_eq_true rfl)⟩) rfl hl.1 rfl rfl (Nat.le_of_ble_eq_true rfl) dX1_lagging_44 ?_
        refine J.pu (fun _ _ _ _ k => lv_iadd X.1.1 X.1.2.1 dX1_lagging_47 k) ?_
        refine J.istore_n (i := 1) (lv' := [(1, .int (s0_44 + v44)), (0, .ref this), (2, .int x2_44)]) X.1.1 X.1.2.1 dX1_lagging_48 rfl hl (by decide) (by first | rfl | simp [va_rf_cat, jcI, jcA, jcJ, jcD, jcF]) (fun ls hl => ?_)
        refine J.iinc (k := 2) (lv' := [(2, .int (x2_44 + 1)), (1, .int (s0_44 + v44)), (0, .ref this)]) (w := (x2_44 + 1)) X.1.1 X.1.2.1 dX1_lagging_49 hl rfl rfl (by decide) (by first | rfl | simp [va_rf_cat, jcI, jcA, jcJ, jcD, jcF]) (fun ls hl => ?_)
        refine J.pu (fun _ _ _ _ k => lv_goto (tgt := 4) X.1.1 X.1.2.1 dX1_lagging_52 (by decide) k) ?_
        exact ih4 (s0_44 + v44) (x2_44 + 1) ls (lv_sub hl [2, 1, 0] rfl)
      intro x1_4 x2_4 ls hl
      refine J.eq (jloop_s _ _ _) ?_
      dsimp only [X1_lagging_h4]
      refine J.pu (fun _ _ _ _ k => lv_iload_n X.1.1 X.1.2.1 dX1_lagging_4 rfl (lv_at hl 2 rfl) k) ?_
      refine J.pu (fun _ _ _ _ k => lv_aload_n X.1.1 X.1.2.1 dX1_lagging_5 rfl (lv_at hl 0 rfl) k) ?_
      refine J.getR (k := 4) (ci := 0) X in_X1 (show jCl[0]? = some (RX1, TX1, 9) from rfl) (by decide) q1329 (fun _ h => h) dX1_lagging_6 (fun v6 h6 => ?_)
      refine J.getRN (k := 4) (ci := 1) X in_X2 (show jCl[1]? = some (RX2, TX2, 9) from rfl) (by decide) jnf10 (fun _ h => h) dX1_lagging_9 (fun v9 h9 => ?_)
      refine J.bind (fun o12 g12 => ?_)
      refine J.bind (fun v12 h12 => ?_)
      refine J.cF (q := (RJ2, TJ2, 3)) (ci := 15) (As := []) (rest := [.int x2_4]) (s2 := [.int v12, .int x2_4]) X ⟨rfl, rfl⟩ (ct_J2_size l G σ o12) (jrd_of h12) (fun _ _ => va_cwF 0 X.1.2.2.2.2 (lw_F q1751 q832 q834 q142 q836) rfl rfl rfl (jfw2 X.2.1) (by decide +kernel) ⟨(Nat.le_of_ble_eq_true rfl), (Nat.le_of_ble_eq_true rfl)⟩) g12 rfl rfl hl.1 rfl rfl (Nat.le_of_ble_eq_true rfl) dX1_lagging_12 ?_
      refine J.br (fun _ _ _ _ ka kb => lv_icmp_ge (tgt := 55) X.1.1 X.1.2.1 dX1_lagging_17 (by decide) ka kb) (fun c17 => ?_) (fun c17 => ?_)
      · refine J.pu (fun _ _ _ _ k => lv_iload_n X.1.1 X.1.2.1 dX1_lagging_55 rfl (lv_at hl 1 rfl) k) ?_
        exact J.iret (vr := jrI) (fin := fun _ : Int32 => σ) (t := t) X hr (by rfl) (by rfl) dX1_lagging_56
      · refine J.pu (fun _ _ _ _ k => lv_iload_n X.1.1 X.1.2.1 dX1_lagging_20 rfl (lv_at hl 1 rfl) k) ?_
        refine J.pu (fun _ _ _ _ k => lv_aload_n X.1.1 X.1.2.1 dX1_lagging_21 rfl (lv_at hl 0 rfl) k) ?_
        refine J.getR (k := 4) (ci := 0) X in_X1 (show jCl[0]? = some (RX1, TX1, 9) from rfl) (by decide) q1329 (fun _ h => h) dX1_lagging_22 (fun v22 h22 => ?_)
        refine J.pu (fun _ _ _ _ k => lv_aload_n X.1.1 X.1.2.1 dX1_lagging_25 rfl (lv_at hl 0 rfl) k) ?_
        refine J.getR (k := 4) (ci := 0) X in_X1 (show jCl[0]? = some (RX1, TX1, 9) from rfl) (by decide) q1329 (fun _ h => h) dX1_lagging_26 (fun v26 h26 => ?_)
        refine J.pu (fun _ _ _ _ k => lv_iload_n X.1.1 X.1.2.1 dX1_lagging_29 rfl (lv_at hl 2 rfl) k) ?_
        refine J.bind (fun o30 g30 => ?_)
        refine J.bind (fun v30 h30 => ?_)
        refine J.cV (q := (RX2, TX2, 9)) (ci := 1) (As := [.int x2_4]) (rest := [va_rf v22, .int x1_4]) (s2 := [va_rf v30, va_rf v22, .int x1_4]) X ⟨rfl, rfl⟩ (ct_X2_parcel l G n σ o30 x2_4) (jrd_of h30) (fun _ _ => cwV 1 X.1.2.2.2.2 (lw_V q2179 q943 q944 q139 q945) rfl rfl rfl (by decide +kernel) ⟨(Nat.le_of_ble_eq_true rfl), (Nat.le_of_ble_eq_true rfl)⟩) g30 rfl rfl hl.1 rfl rfl (by simp [va_rf_cat, jcI, jcA, jcJ, jcD, jcF]) dX1_lagging_30 ?_
        refine J.bind (fun o33 g33 => ?_)
        refine J.bind (fun v33 h33 => ?_)
        refine J.cV (q := (RX2, TX2, 9)) (ci := 1) (As := [va_rf v30]) (rest := [.int x1_4]) (s2 := [.int v33, .int x1_4]) X ⟨rfl, rfl⟩ (ct_X2_lag l G n σ o33 v30) (jrd_of h33) (fun _ _ => cwV 1 X.1.2.2.2.2 (lw_V q2243 q2116 q2117 q139 q2118) rfl rfl rfl (by decide +kernel) ⟨(Nat.le_of_ble_eq_true rfl), (Nat.le_of_ble_eq_true rfl)⟩) g33 rfl rfl hl.1 rfl rfl (Nat.le_of_ble_eq_true rfl) dX1_lagging_33 ?_
        refine J.br (fun _ _ _ _ ka kb => lv_if_le (tgt := 43) X.1.1 X.1.2.1 dX1_lagging_36 (by decide) ka kb) (fun c36 => ?_) (fun c36 => ?_)
        · refine J.pu (fun _ _ _ _ k => lv_iconst (v := 0) X.1.1 X.1.2.1 dX1_lagging_43 (by decide) k) ?_
          exact j44 x2_4 x1_4 0 ls (lv_sub hl [0, 2] rfl)
        · refine J.pu (fun _ _ _ _ k => lv_iconst (v := 1) X.1.1 X.1.2.1 dX1_lagging_39 (by decide) k) ?_
          refine J.pu (fun _ _ _ _ k => lv_goto (tgt := 44) X.1.1 X.1.2.1 dX1_lagging_40 (by decide) k) ?_
          exact j44 x2_4 x1_4 1 ls (lv_sub hl [0, 2] rfl)
  unfold X1_lagging
  refine J.pu (fun _ _ _ _ k => lv_iconst (v := 0) X.1.1 X.1.2.1 dX1_lagging_0 (by decide) k) ?_
  refine J.istore_n (i := 1) (lv' := [(1, .int 0), (0, .ref this)]) X.1.1 X.1.2.1 dX1_lagging_1 rfl hl (by decide) (by first | rfl | simp [va_rf_cat, jcI, jcA, jcJ, jcD, jcF]) (fun ls hl => ?_)
  refine J.pu (fun _ _ _ _ k => lv_iconst (v := 0) X.1.1 X.1.2.1 dX1_lagging_2 (by decide) k) ?_
  refine J.istore_n (i := 2) (lv' := [(2, .int 0), (1, .int 0), (0, .ref this)]) X.1.1 X.1.2.1 dX1_lagging_3 rfl hl (by decide) (by first | rfl | simp [va_rf_cat, jcI, jcA, jcJ, jcD, jcF]) (fun ls hl => ?_)
  exact L4 n 0 0 ls (lv_sub hl [2, 1, 0] rfl)
noncomputable def X1_cell_b (G : jG) (n : Nat) (σ : jH) (this : Nat) (a1 : Int32) (a2 : Int32) : Option (jTh Int32 × jH) :=
  (rc σ (some this) 0).bind fun o2 => tb (X1_checkCell G n σ o2 a1) fun v2 S2 => if a2 = 0 then ((gR S2 (some this) 0 4).bind fun v37 => (gR S2 v37 1 5).bind fun v40 => (rc S2 v40 2).bind fun o44 => (X3_at G n S2 o44 a1).bind fun v44 => (X18_of G n S2 v44).bind fun v47 => some (.inl v47, S2)) else if a2 = 1 then ((rc S2 (some this) 0).bind fun o55 => (X1_tracksAt G n S2 o55 a1).bind fun v55 => some (.inl v55, S2)) else if a2 = 2 then ((gR S2 (some this) 0 4).bind fun v62 => (gR S2 v62 1 2).bind fun v65 => (aI S2 v65 2 a1).bind fun v69 => (X1_bit G n S2 v69).bind fun v70 => some (.inl v70, S2)) else if a2 = 3 then ((gR S2 (some this) 0 4).bind fun v77 => (rc S2 v77 1).bind fun o81 => (X2_chuteAt G n S2 o81 a1).bind fun v81 => some (.inl v81, S2)) else some (.inr (0, S2.2.1), tnew S2)
noncomputable def X1_cell (G : jG) (n : Nat) (σ : jH) (this : Nat) (a1 : Int32) (a2 : Int32) : Option (jTh Int32 × jH) := jck σ (X1_cell_b G n σ this a1 a2)
set_option maxHeartbeats 4000000 in
set_option maxRecDepth 100000 in
theorem ct_X1_cell (l : Launch) (hfl : l.stackTraces = false) (G : jG) (n : Nat) (σ : jH) (this : Nat) (a1 : Int32) (a2 : Int32) : jTt l G yX1_cell (ws_ yX1_cell cX1_cell 3 (some .int)) 23 1265 jrI [.ref this, .int a1, .int a2] σ (X1_cell G n σ this a1 a2) := by
  refine jTt.wr (lv := [(0, .ref this), (1, .int a1), (2, .int a2)]) rfl (Nat.le_of_ble_eq_true rfl) rfl ?_
  intro t p e s m args below meth c ls X hr hnm hout hl
  have X : jCx p c cX1_cell 3 s m args RX1 G meth := X
  unfold X1_cell_b
  refine J.pu (fun _ _ _ _ k => lv_aload_n X.1.1 X.1.2.1 dX1_cell_0 rfl (lv_at hl 0 rfl) k) ?_
  refine J.pu (fun _ _ _ _ k => lv_iload_n X.1.1 X.1.2.1 dX1_cell_1 rfl (lv_at hl 1 rfl) k) ?_
  refine J.bind (fun o2 g2 => ?_)
  refine J.tV (q := (RX1, TX1, 9)) (ci := 0) (As := [.int a1]) (rest := []) X hout ⟨rfl, rfl⟩ (ct_X1_checkCell l hfl G n σ o2 a1) (fun _ _ => cwV 1 X.1.2.2.2.2 (lw_V q2427 q2429 qs45 q138 q2430) rfl rfl rfl (by decide +kernel) ⟨(Nat.le_of_ble_eq_true rfl), (Nat.le_of_ble_eq_true rfl)⟩) g2 rfl rfl hl.1 rfl (Nat.le_of_ble_eq_true rfl) dX1_cell_2 (fun v2 S2 h2 => ?_)
  refine J.geq (g2 := F0 m 5 ls []) rfl ?_
  refine J.pu (fun _ _ _ _ k => lv_iload_n X.1.1 X.1.2.1 dX1_cell_5 rfl (lv_at hl 2 rfl) k) ?_
  refine J.ite (fun c6_0 => ?_) (fun c6_0 => ?_)
  · refine J.pu (fun _ _ _ _ k => lv_tableIn (tgt := 36) (off := 30) X.1.1 X.1.2.1 dX1_cell_6 (by rw [c6_0]; decide) (by rw [c6_0]; decide) (by rw [c6_0]; decide) (by decide) k) ?_
    refine J.pu (fun _ _ _ _ k => lv_aload_n X.1.1 X.1.2.1 dX1_cell_36 rfl (lv_at hl 0 rfl) k) ?_
    refine J.getR (k := 4) (ci := 0) X in_X1 (show jCl[0]? = some (RX1, TX1, 9) from rfl) (by decide) q1329 (fun _ h => h) dX1_cell_37 (fun v37 h37 => ?_)
    refine J.getRN (k := 5) (ci := 1) X in_X2 (show jCl[1]? = some (RX2, TX2, 9) from rfl) (by decide) jnf11 (fun _ h => h) dX1_cell_40 (fun v40 h40 => ?_)
    refine J.pu (fun _ _ _ _ k => lv_iload_n X.1.1 X.1.2.1 dX1_cell_43 rfl (lv_at hl 1 rfl) k) ?_
    refine J.bind (fun o44 g44 => ?_)
    refine J.bind (fun v44 h44 => ?_)
    refine J.cV (q := (RX3, TX3, 1)) (ci := 2) (As := [.int a1]) (rest := []) (s2 := [va_rf v44]) X ⟨rfl, rfl⟩ (ct_X3_at l G n S2 o44 a1) (jrd_of h44) (fun _ _ => cwV 1 X.1.2.2.2.2 (lw_V q2184 q2096 q2097 q159 q2098) rfl rfl rfl (by decide +kernel) ⟨(Nat.le_of_ble_eq_true rfl), (Nat.le_of_ble_eq_true rfl)⟩) g44 rfl rfl hl.1 rfl rfl (Nat.le_of_ble_eq_true rfl) dX1_cell_44 ?_
    refine J.bind (fun v47 h47 => ?_)
    refine J.cS (As := [va_rf v44]) (rest := []) (s2 := [.int v47]) X ⟨rfl, rfl⟩ (ct_X18_of l G n S2 v44) (jrd_of h47) (fun _ _ => va_cwS 1 X.1.2.2.2.2 (lw_S q2439 q2440 q192 q2441) rfl rfl rfl (by decide +kernel) ⟨(Nat.le_of_ble_eq_true rfl), (Nat.le_of_ble_eq_true rfl)⟩) rfl hl.1 rfl rfl (Nat.le_of_ble_eq_true rfl) dX1_cell_47 ?_
    refine J.pu (fun _ _ _ _ k => lv_goto (tgt := 95) X.1.1 X.1.2.1 dX1_cell_50 (by decide) k) ?_
    exact J.tret (J.iret (vr := fun t : Int32 × jH => jrI t.1) (fin := (Prod.snd : Int32 × jH → jH)) (t := (v47, S2)) X hr (by rfl) (by rfl) dX1_cell_95)
  refine J.ite (fun c6_1 => ?_) (fun c6_1 => ?_)
  · refine J.pu (fun _ _ _ _ k => lv_tableIn (tgt := 53) (off := 47) X.1.1 X.1.2.1 dX1_cell_6 (by rw [c6_1]; decide) (by rw [c6_1]; decide) (by rw [c6_1]; decide) (by decide) k) ?_
    refine J.pu (fun _ _ _ _ k => lv_aload_n X.1.1 X.1.2.1 dX1_cell_53 rfl (lv_at hl 0 rfl) k) ?_
    refine J.pu (fun _ _ _ _ k => lv_iload_n X.1.1 X.1.2.1 dX1_cell_54 rfl (lv_at hl 1 rfl) k) ?_
    refine J.bind (fun o55 g55 => ?_)
    refine J.bind (fun v55 h55 => ?_)
    refine J.cV (q := (RX1, TX1, 9)) (ci := 0) (As := [.int a1]) (rest := []) (s2 := [.int v55]) X ⟨rfl, rfl⟩ (ct_X1_tracksAt l G n S2 o55 a1) (jrd_of h55) (fun _ _ => cwV 1 X.1.2.2.2.2 (lw_V q2442 q2444 qs46 q138 q2445) rfl rfl rfl (by decide +kernel) ⟨(Nat.le_of_ble_eq_true rfl), (Nat.le_of_ble_eq_true rfl)⟩) g55 rfl rfl hl.1 rfl rfl (Nat.le_of_ble_eq_true rfl) dX1_cell_55 ?_
    refine J.pu (fun _ _ _ _ k => lv_goto (tgt := 95) X.1.1 X.1.2.1 dX1_cell_58 (by decide) k) ?_
    exact J.tret (J.iret (vr := fun t : Int32 × jH => jrI t.1) (fin := (Prod.snd : Int32 × jH → jH)) (t := (v55, S2)) X hr (by rfl) (by rfl) dX1_cell_95)
  refine J.ite (fun c6_2 => ?_) (fun c6_2 => ?_)
  · refine J.pu (fun _ _ _ _ k => lv_tableIn (tgt := 61) (off := 55) X.1.1 X.1.2.1 dX1_cell_6 (by rw [c6_2]; decide) (by rw [c6_2]; decide) (by rw [c6_2]; decide) (by decide) k) ?_
    refine J.pu (fun _ _ _ _ k => lv_aload_n X.1.1 X.1.2.1 dX1_cell_61 rfl (lv_at hl 0 rfl) k) ?_
    refine J.getR (k := 4) (ci := 0) X in_X1 (show jCl[0]? = some (RX1, TX1, 9) from rfl) (by decide) q1329 (fun _ h => h) dX1_cell_62 (fun v62 h62 => ?_)
    refine J.getRN (k := 2) (ci := 1) X in_X2 (show jCl[1]? = some (RX2, TX2, 9) from rfl) (by decide) jnf5 (fun _ h => h) dX1_cell_65 (fun v65 h65 => ?_)
    refine J.pu (fun _ _ _ _ k => lv_iload_n X.1.1 X.1.2.1 dX1_cell_68 rfl (lv_at hl 1 rfl) k) ?_
    refine J.aI2 X dX1_cell_69 (fun v69 h69 => ?_)
    refine J.bind (fun v70 h70 => ?_)
    refine J.cS (As := [.int v69]) (rest := []) (s2 := [.int v70]) X ⟨rfl, rfl⟩ (ct_X1_bit l G n S2 v69) (jrd_of h70) (fun _ _ => va_cwS 1 X.1.2.2.2.2 (lw_S q2178 q1703 q138 q1704) rfl rfl rfl (by decide +kernel) ⟨(Nat.le_of_ble_eq_true rfl), (Nat.le_of_ble_eq_true rfl)⟩) rfl hl.1 rfl rfl (Nat.le_of_ble_eq_true rfl) dX1_cell_70 ?_
    refine J.pu (fun _ _ _ _ k => lv_goto (tgt := 95) X.1.1 X.1.2.1 dX1_cell_73 (by decide) k) ?_
    exact J.tret (J.iret (vr := fun t : Int32 × jH => jrI t.1) (fin := (Prod.snd : Int32 × jH → jH)) (t := (v70, S2)) X hr (by rfl) (by rfl) dX1_cell_95)
  refine J.ite (fun c6_3 => ?_) (fun c6_3 => ?_)
  · refine J.pu (fun _ _ _ _ k => lv_tableIn (tgt := 76) (off := 70) X.1.1 X.1.2.1 dX1_cell_6 (by rw [c6_3]; decide) (by rw [c6_3]; decide) (by rw [c6_3]; decide) (by decide) k) ?_
    refine J.pu (fun _ _ _ _ k => lv_aload_n X.1.1 X.1.2.1 dX1_cell_76 rfl (lv_at hl 0 rfl) k) ?_
    refine J.getR (k := 4) (ci := 0) X in_X1 (show jCl[0]? = some (RX1, TX1, 9) from rfl) (by decide) q1329 (fun _ h => h) dX1_cell_77 (fun v77 h77 => ?_)
    refine J.pu (fun _ _ _ _ k => lv_iload_n X.1.1 X.1.2.1 dX1_cell_80 rfl (lv_at hl 1 rfl) k) ?_
    refine J.bind (fun o81 g81 => ?_)
    refine J.bind (fun v81 h81 => ?_)
    refine J.cV (q := (RX2, TX2, 9)) (ci := 1) (As := [.int a1]) (rest := []) (s2 := [.int v81]) X ⟨rfl, rfl⟩ (ct_X2_chuteAt l G n S2 o81 a1) (jrd_of h81) (fun _ _ => cwV 1 X.1.2.2.2.2 (lw_V q2446 q1716 q1717 q139 q1718) rfl rfl rfl (by decide +kernel) ⟨(Nat.le_of_ble_eq_true rfl), (Nat.le_of_ble_eq_true rfl)⟩) g81 rfl rfl hl.1 rfl rfl (Nat.le_of_ble_eq_true rfl) dX1_cell_81 ?_
    refine J.pu (fun _ _ _ _ k => lv_goto (tgt := 95) X.1.1 X.1.2.1 dX1_cell_84 (by decide) k) ?_
    exact J.tret (J.iret (vr := fun t : Int32 × jH => jrI t.1) (fin := (Prod.snd : Int32 × jH → jH)) (t := (v81, S2)) X hr (by rfl) (by rfl) dX1_cell_95)
  by_cases b6 : a2.toInt < 0 ∨ 3 < a2.toInt
  · refine J.pu (fun _ _ _ _ k => lv_tableOut (tgt := 87) X.1.1 X.1.2.1 dX1_cell_6 b6 (by decide) k) ?_
    exact J.throw0 (k := 0) X hfl hout ⟨rfl, rfl⟩ rfl (by decide) q2401 q146 (jth0 X.1.2.2.2.2 X.2.1) (by decide +kernel) hl.1 dX1_cell_87 dX1_cell_90 dX1_cell_91 dX1_cell_94 (Nat.le_of_ble_eq_true rfl) (Nat.le_of_ble_eq_true rfl)
  · exfalso; have := lv_neT c6_0 (a := 0) rfl; have := lv_neT c6_1 (a := 1) rfl; have := lv_neT c6_2 (a := 2) rfl; have := lv_neT c6_3 (a := 3) rfl; omega
noncomputable def X1_parcel_b (G : jG) (n : Nat) (σ : jH) (this : Nat) (a1 : Int32) (a2 : Int32) : Option (jTh Int32 × jH) :=
  (rc σ (some this) 0).bind fun o2 => tb (X1_parcelAt G n σ o2 a1) fun v2 S2 => if a2 = 0 then ((gI S2 v2 4 1).bind fun v57 => some (.inl v57, S2)) else if a2 = 1 then ((gI S2 v2 4 2).bind fun v64 => some (.inl v64, S2)) else if a2 = 2 then ((gI S2 v2 4 3).bind fun v71 => some (.inl v71, S2)) else if a2 = 3 then ((gI S2 v2 4 4).bind fun v78 => some (.inl v78, S2)) else if a2 = 4 then ((gI S2 v2 4 5).bind fun v85 => some (.inl v85, S2)) else if a2 = 5 then ((gI S2 v2 4 6).bind fun v92 => some (.inl v92, S2)) else if a2 = 6 then ((gR S2 (some this) 0 4).bind fun v99 => (rc S2 v99 1).bind fun o103 => (X2_lag G n S2 o103 v2).bind fun v103 => some (.inl v103, S2)) else if a2 = 7 then ((gI S2 v2 4 7).bind fun v110 => some (.inl v110, S2)) else if a2 = 8 then ((gI S2 v2 4 8).bind fun v117 => some (.inl v117, S2)) else some (.inr (0, S2.2.1), tnew S2)
noncomputable def X1_parcel (G : jG) (n : Nat) (σ : jH) (this : Nat) (a1 : Int32) (a2 : Int32) : Option (jTh Int32 × jH) := jck σ (X1_parcel_b G n σ this a1 a2)
set_option maxHeartbeats 4000000 in
set_option maxRecDepth 100000 in
theorem ct_X1_parcel (l : Launch) (hfl : l.stackTraces = false) (G : jG) (n : Nat) (σ : jH) (this : Nat) (a1 : Int32) (a2 : Int32) : jTt l G yX1_parcel (ws_ yX1_parcel cX1_parcel 4 (some .int)) 23 1263 jrI [.ref this, .int a1, .int a2] σ (X1_parcel G n σ this a1 a2) := by
  refine jTt.wr (lv := [(0, .ref this), (1, .int a1), (2, .int a2)]) rfl (Nat.le_of_ble_eq_true rfl) rfl ?_
  intro t p e s m args below meth c ls X hr hnm hout hl
  have X : jCx p c cX1_parcel 4 s m args RX1 G meth := X
  unfold X1_parcel_b
  refine J.pu (fun _ _ _ _ k => lv_aload_n X.1.1 X.1.2.1 dX1_parcel_0 rfl (lv_at hl 0 rfl) k) ?_
  refine J.pu (fun _ _ _ _ k => lv_iload_n X.1.1 X.1.2.1 dX1_parcel_1 rfl (lv_at hl 1 rfl) k) ?_
  refine J.bind (fun o2 g2 => ?_)
  refine J.tV (q := (RX1, TX1, 9)) (ci := 0) (As := [.int a1]) (rest := []) X hout ⟨rfl, rfl⟩ (ct_X1_parcelAt l hfl G n σ o2 a1) (fun _ _ => cwV 1 X.1.2.2.2.2 (lw_V q2454 q2456 qs47 q138 q2457) rfl rfl rfl (by decide +kernel) ⟨(Nat.le_of_ble_eq_true rfl), (Nat.le_of_ble_eq_true rfl)⟩) g2 rfl rfl hl.1 rfl (Nat.le_of_ble_eq_true rfl) dX1_parcel_2 (fun v2 S2 h2 => ?_)
  refine J.geq (g2 := F0 m 5 ls [va_rf v2]) rfl ?_
  refine J.astore_n (r := v2) (i := 3) (lv' := [(3, va_rf v2), (0, .ref this), (1, .int a1), (2, .int a2)]) X.1.1 X.1.2.1 dX1_parcel_5 rfl hl (by decide) (by first | rfl | simp [va_rf_cat, jcI, jcA, jcJ, jcD, jcF]) (fun ls hl => ?_)
  refine J.pu (fun _ _ _ _ k => lv_iload_n X.1.1 X.1.2.1 dX1_parcel_6 rfl (lv_at hl 3 rfl) k) ?_
  refine J.ite (fun c7_0 => ?_) (fun c7_0 => ?_)
  · refine J.pu (fun _ _ _ _ k => lv_tableIn (tgt := 56) (off := 49) X.1.1 X.1.2.1 dX1_parcel_7 (by rw [c7_0]; decide) (by rw [c7_0]; decide) (by rw [c7_0]; decide) (by decide) k) ?_
    refine J.pu (fun _ _ _ _ k => W.rload_n X.1.1 X.1.2.1 dX1_parcel_56 rfl (lv_at hl 0 rfl) k) ?_
    refine J.getIN (k := 1) (ci := 4) X in_X5 (show jCl[4]? = some (RX5, TX5, 10) from rfl) (by decide) jnf37 (fun _ h => h) dX1_parcel_57 (fun v57 h57 => ?_)
    refine J.pu (fun _ _ _ _ k => lv_goto (tgt := 131) X.1.1 X.1.2.1 dX1_parcel_60 (by decide) k) ?_
    exact J.tret (J.iret (vr := fun t : Int32 × jH => jrI t.1) (fin := (Prod.snd : Int32 × jH → jH)) (t := (v57, S2)) X hr (by rfl) (by rfl) dX1_parcel_131)
  refine J.ite (fun c7_1 => ?_) (fun c7_1 => ?_)
  · refine J.pu (fun _ _ _ _ k => lv_tableIn (tgt := 63) (off := 56) X.1.1 X.1.2.1 dX1_parcel_7 (by rw [c7_1]; decide) (by rw [c7_1]; decide) (by rw [c7_1]; decide) (by decide) k) ?_
    refine J.pu (fun _ _ _ _ k => W.rload_n X.1.1 X.1.2.1 dX1_parcel_63 rfl (lv_at hl 0 rfl) k) ?_
    refine J.getIN (k := 2) (ci := 4) X in_X5 (show jCl[4]? = some (RX5, TX5, 10) from rfl) (by decide) jnf39 (fun _ h => h) dX1_parcel_64 (fun v64 h64 => ?_)
    refine J.pu (fun _ _ _ _ k => lv_goto (tgt := 131) X.1.1 X.1.2.1 dX1_parcel_67 (by decide) k) ?_
    exact J.tret (J.iret (vr := fun t : Int32 × jH => jrI t.1) (fin := (Prod.snd : Int32 × jH → jH)) (t := (v64, S2)) X hr (by rfl) (by rfl) dX1_parcel_131)
  refine J.ite (fun c7_2 => ?_) (fun c7_2 => ?_)
  · refine J.pu (fun _ _ _ _ k => lv_tableIn (tgt := 70) (off := 63) X.1.1 X.1.2.1 dX1_parcel_7 (by rw [c7_2]; decide) (by rw [c7_2]; decide) (by rw [c7_2]; decide) (by decide) k) ?_
    refine J.pu (fun _ _ _ _ k => W.rload_n X.1.1 X.1.2.1 dX1_parcel_70 rfl (lv_at hl 0 rfl) k) ?_
    refine J.getIN (k := 3) (ci := 4) X in_X5 (show jCl[4]? = some (RX5, TX5, 10) from rfl) (by decide) jnf41 (fun _ h => h) dX1_parcel_71 (fun v71 h71 => ?_)
    refine J.pu (fun _ _ _ _ k => lv_goto (tgt := 131) X.1.1 X.1.2.1 dX1_parcel_74 (by decide) k) ?_
    exact J.tret (J.iret (vr := fun t : Int32 × jH => jrI t.1) (fin := (Prod.snd : Int32 × jH → jH)) (t := (v71, S2)) X hr (by rfl) (by rfl) dX1_parcel_131)
  refine J.ite (fun c7_3 => ?_) (fun c7_3 => ?_)
  · refine J.pu (fun _ _ _ _ k => lv_tableIn (tgt := 77) (off := 70) X.1.1 X.1.2.1 dX1_parcel_7 (by rw [c7_3]; decide) (by rw [c7_3]; decide) (by rw [c7_3]; decide) (by decide) k) ?_
    refine J.pu (fun _ _ _ _ k => W.rload_n X.1.1 X.1.2.1 dX1_parcel_77 rfl (lv_at hl 0 rfl) k) ?_
    refine J.getIN (k := 4) (ci := 4) X in_X5 (show jCl[4]? = some (RX5, TX5, 10) from rfl) (by decide) jnf43 (fun _ h => h) dX1_parcel_78 (fun v78 h78 => ?_)
    refine J.pu (fun _ _ _ _ k => lv_goto (tgt := 131) X.1.1 X.1.2.1 dX1_parcel_81 (by decide) k) ?_
    exact J.tret (J.iret (vr := fun t : Int32 × jH => jrI t.1) (fin := (Prod.snd : Int32 × jH → jH)) (t := (v78, S2)) X hr (by rfl) (by rfl) dX1_parcel_131)
  refine J.ite (fun c7_4 => ?_) (fun c7_4 => ?_)
  · refine J.pu (fun _ _ _ _ k => lv_tableIn (tgt := 84) (off := 77) X.1.1 X.1.2.1 dX1_parcel_7 (by rw [c7_4]; decide) (by rw [c7_4]; decide) (by rw [c7_4]; decide) (by decide) k) ?_
    refine J.pu (fun _ _ _ _ k => W.rload_n X.1.1 X.1.2.1 dX1_parcel_84 rfl (lv_at hl 0 rfl) k) ?_
    refine J.getIN (k := 5) (ci := 4) X in_X5 (show jCl[4]? = some (RX5, TX5, 10) from rfl) (by decide) jnf45 (fun _ h => h) dX1_parcel_85 (fun v85 h85 => ?_)
    refine J.pu (fun _ _ _ _ k => lv_goto (tgt := 131) X.1.1 X.1.2.1 dX1_parcel_88 (by decide) k) ?_
    exact J.tret (J.iret (vr := fun t : Int32 × jH => jrI t.1) (fin := (Prod.snd : Int32 × jH → jH)) (t := (v85, S2)) X hr (by rfl) (by rfl) dX1_parcel_131)
  refine J.ite (fun c7_5 => ?_) (fun c7_5 => ?_)
  · refine J.pu (fun _ _ _ _ k => lv_tableIn (tgt := 91) (off := 84) X.1.1 X.1.2.1 dX1_parcel_7 (by rw [c7_5]; decide) (by rw [c7_5]; decide) (by rw [c7_5]; decide) (by decide) k) ?_
    refine J.pu (fun _ _ _ _ k => W.rload_n X.1.1 X.1.2.1 dX1_parcel_91 rfl (lv_at hl 0 rfl) k) ?_
    refine J.getIN (k := 6) (ci := 4) X in_X5 (show jCl[4]? = some (RX5, TX5, 10) from rfl) (by decide) jnf47 (fun _ h => h) dX1_parcel_92 (fun v92 h92 => ?_)
    refine J.pu (fun _ _ _ _ k => lv_goto (tgt := 131) X.1.1 X.1.2.1 dX1_parcel_95 (by decide) k) ?_
    exact J.tret (J.iret (vr := fun t : Int32 × jH => jrI t.1) (fin := (Prod.snd : Int32 × jH → jH)) (t := (v92, S2)) X hr (by rfl) (by rfl) dX1_parcel_131)
  refine J.ite (fun c7_6 => ?_) (fun c7_6 => ?_)
  · refine J.pu (fun _ _ _ _ k => lv_tableIn (tgt := 98) (off := 91) X.1.1 X.1.2.1 dX1_parcel_7 (by rw [c7_6]; decide) (by rw [c7_6]; decide) (by rw [c7_6]; decide) (by decide) k) ?_
    refine J.pu (fun _ _ _ _ k => lv_aload_n X.1.1 X.1.2.1 dX1_parcel_98 rfl (lv_at hl 1 rfl) k) ?_
    refine J.getR (k := 4) (ci := 0) X in_X1 (show jCl[0]? = some (RX1, TX1, 9) from rfl) (by decide) q1329 (fun _ h => h) dX1_parcel_99 (fun v99 h99 => ?_)
    refine J.pu (fun _ _ _ _ k => W.rload_n X.1.1 X.1.2.1 dX1_parcel_102 rfl (lv_at hl 0 rfl) k) ?_
    refine J.bind (fun o103 g103 => ?_)
    refine J.bind (fun v103 h103 => ?_)
    refine J.cV (q := (RX2, TX2, 9)) (ci := 1) (As := [va_rf v2]) (rest := []) (s2 := [.int v103]) X ⟨rfl, rfl⟩ (ct_X2_lag l G n S2 o103 v2) (jrd_of h103) (fun _ _ => cwV 1 X.1.2.2.2.2 (lw_V q2243 q2116 q2117 q139 q2118) rfl rfl rfl (by decide +kernel) ⟨(Nat.le_of_ble_eq_true rfl), (Nat.le_of_ble_eq_true rfl)⟩) g103 rfl rfl hl.1 rfl rfl (Nat.le_of_ble_eq_true rfl) dX1_parcel_103 ?_
    refine J.pu (fun _ _ _ _ k => lv_goto (tgt := 131) X.1.1 X.1.2.1 dX1_parcel_106 (by decide) k) ?_
    exact J.tret (J.iret (vr := fun t : Int32 × jH => jrI t.1) (fin := (Prod.snd : Int32 × jH → jH)) (t := (v103, S2)) X hr (by rfl) (by rfl) dX1_parcel_131)
  refine J.ite (fun c7_7 => ?_) (fun c7_7 => ?_)
  · refine J.pu (fun _ _ _ _ k => lv_tableIn (tgt := 109) (off := 102) X.1.1 X.1.2.1 dX1_parcel_7 (by rw [c7_7]; decide) (by rw [c7_7]; decide) (by rw [c7_7]; decide) (by decide) k) ?_
    refine J.pu (fun _ _ _ _ k => W.rload_n X.1.1 X.1.2.1 dX1_parcel_109 rfl (lv_at hl 0 rfl) k) ?_
    refine J.getIN (k := 7) (ci := 4) X in_X5 (show jCl[4]? = some (RX5, TX5, 10) from rfl) (by decide) jnf49 (fun _ h => h) dX1_parcel_110 (fun v110 h110 => ?_)
    refine J.pu (fun _ _ _ _ k => lv_goto (tgt := 131) X.1.1 X.1.2.1 dX1_parcel_113 (by decide) k) ?_
    exact J.tret (J.iret (vr := fun t : Int32 × jH => jrI t.1) (fin := (Prod.snd : Int32 × jH → jH)) (t := (v110, S2)) X hr (by rfl) (by rfl) dX1_parcel_131)
  refine J.ite (fun c7_8 => ?_) (fun c7_8 => ?_)
  · refine J.pu (fun _ _ _ _ k => lv_tableIn (tgt := 116) (off := 109) X.1.1 X.1.2.1 dX1_parcel_7 (by rw [c7_8]; decide) (by rw [c7_8]; decide) (by rw [c7_8]; decide) (by decide) k) ?_
    refine J.pu (fun _ _ _ _ k => W.rload_n X.1.1 X.1.2.1 dX1_parcel_116 rfl (lv_at hl 0 rfl) k) ?_
    refine J.getIN (k := 8) (ci := 4) X in_X5 (show jCl[4]? = some (RX5, TX5, 10) from rfl) (by decide) jnf50 (fun _ h => h) dX1_parcel_117 (fun v117 h117 => ?_)
    refine J.pu (fun _ _ _ _ k => lv_goto (tgt := 131) X.1.1 X.1.2.1 dX1_parcel_120 (by decide) k) ?_
    exact J.tret (J.iret (vr := fun t : Int32 × jH => jrI t.1) (fin := (Prod.snd : Int32 × jH → jH)) (t := (v117, S2)) X hr (by rfl) (by rfl) dX1_parcel_131)
  by_cases b7 : a2.toInt < 0 ∨ 8 < a2.toInt
  · refine J.pu (fun _ _ _ _ k => lv_tableOut (tgt := 123) X.1.1 X.1.2.1 dX1_parcel_7 b7 (by decide) k) ?_
    exact J.throw0 (k := 0) X hfl hout ⟨rfl, rfl⟩ rfl (by decide) q2401 q146 (jth0 X.1.2.2.2.2 X.2.1) (by decide +kernel) hl.1 dX1_parcel_123 dX1_parcel_126 dX1_parcel_127 dX1_parcel_130 (Nat.le_of_ble_eq_true rfl) (Nat.le_of_ble_eq_true rfl)
  · exfalso; have := lv_neT c7_0 (a := 0) rfl; have := lv_neT c7_1 (a := 1) rfl; have := lv_neT c7_2 (a := 2) rfl; have := lv_neT c7_3 (a := 3) rfl; have := lv_neT c7_4 (a := 4) rfl; have := lv_neT c7_5 (a := 5) rfl; have := lv_neT c7_6 (a := 6) rfl; have := lv_neT c7_7 (a := 7) rfl; have := lv_neT c7_8 (a := 8) rfl; omega
noncomputable def X1_chute_b (G : jG) (n : Nat) (σ : jH) (this : Nat) (a1 : Int32) (a2 : Int32) : Option (jTh Int32 × jH) :=
  (rc σ (some this) 0).bind fun o2 => tb (X1_chuteAt G n σ o2 a1) fun v2 S2 => if a2 = 0 then ((gI S2 v2 3 1).bind fun v61 => some (.inl v61, S2)) else if a2 = 1 then ((gI S2 v2 3 2).bind fun v68 => some (.inl v68, S2)) else if a2 = 2 then ((gI S2 v2 3 5).bind fun v75 => some (.inl v75, S2)) else if a2 = 3 then ((gI S2 v2 3 3).bind fun v82 => some (.inl v82, S2)) else if a2 = 4 then ((gI S2 v2 3 6).bind fun v89 => some (.inl v89, S2)) else if a2 = 5 then ((gI S2 v2 3 8).bind fun v96 => (X1_bit G n S2 v96).bind fun v99 => some (.inl v99, S2)) else if a2 = 6 then ((gR S2 v2 3 4).bind fun v106 => (rc S2 v106 16).bind fun o109 => (lSize 1 S2 o109).bind fun v109 => some (.inl v109, S2)) else if a2 = 7 then ((rc S2 v2 3).bind fun o118 => bd (X4_right G n S2 o118) fun v118 S118 => some (.inl v118, S118)) else if a2 = 8 then ((gI S2 v2 3 7).bind fun v125 => some (.inl v125, S2)) else if a2 = 9 then ((rc S2 (some this) 0).bind fun o133 => (X1_comingTo G n S2 o133 a1).bind fun v133 => some (.inl v133, S2)) else some (.inr (0, S2.2.1), tnew S2)
noncomputable def X1_chute (G : jG) (n : Nat) (σ : jH) (this : Nat) (a1 : Int32) (a2 : Int32) : Option (jTh Int32 × jH) := jck σ (X1_chute_b G n σ this a1 a2)
set_option maxHeartbeats 4000000 in
set_option maxRecDepth 100000 in
theorem ct_X1_chute (l : Launch) (hfl : l.stackTraces = false) (G : jG) (n : Nat) (σ : jH) (this : Nat) (a1 : Int32) (a2 : Int32) : jTt l G yX1_chute (ws_ yX1_chute cX1_chute 4 (some .int)) 23 1265 jrI [.ref this, .int a1, .int a2] σ (X1_chute G n σ this a1 a2) := by
  refine jTt.wr (lv := [(0, .ref this), (1, .int a1), (2, .int a2)]) rfl (Nat.le_of_ble_eq_true rfl) rfl ?_
  intro t p e s m args below meth c ls X hr hnm hout hl
  have X : jCx p c cX1_chute 4 s m args RX1 G meth := X
  unfold X1_chute_b
  refine J.pu (fun _ _ _ _ k => lv_aload_n X.1.1 X.1.2.1 dX1_chute_0 rfl (lv_at hl 0 rfl) k) ?_
  refine J.pu (fun _ _ _ _ k => lv_iload_n X.1.1 X.1.2.1 dX1_chute_1 rfl (lv_at hl 1 rfl) k) ?_
  refine J.bind (fun o2 g2 => ?_)
  refine J.tV (q := (RX1, TX1, 9)) (ci := 0) (As := [.int a1]) (rest := []) X hout ⟨rfl, rfl⟩ (ct_X1_chuteAt l hfl G n σ o2 a1) (fun _ _ => cwV 1 X.1.2.2.2.2 (lw_V q2465 q2467 qs48 q138 q2468) rfl rfl rfl (by decide +kernel) ⟨(Nat.le_of_ble_eq_true rfl), (Nat.le_of_ble_eq_true rfl)⟩) g2 rfl rfl hl.1 rfl (Nat.le_of_ble_eq_true rfl) dX1_chute_2 (fun v2 S2 h2 => ?_)
  refine J.geq (g2 := F0 m 5 ls [va_rf v2]) rfl ?_
  refine J.astore_n (r := v2) (i := 3) (lv' := [(3, va_rf v2), (0, .ref this), (1, .int a1), (2, .int a2)]) X.1.1 X.1.2.1 dX1_chute_5 rfl hl (by decide) (by first | rfl | simp [va_rf_cat, jcI, jcA, jcJ, jcD, jcF]) (fun ls hl => ?_)
  refine J.pu (fun _ _ _ _ k => lv_iload_n X.1.1 X.1.2.1 dX1_chute_6 rfl (lv_at hl 3 rfl) k) ?_
  refine J.ite (fun c7_0 => ?_) (fun c7_0 => ?_)
  · refine J.pu (fun _ _ _ _ k => lv_tableIn (tgt := 60) (off := 53) X.1.1 X.1.2.1 dX1_chute_7 (by rw [c7_0]; decide) (by rw [c7_0]; decide) (by rw [c7_0]; decide) (by decide) k) ?_
    refine J.pu (fun _ _ _ _ k => W.rload_n X.1.1 X.1.2.1 dX1_chute_60 rfl (lv_at hl 0 rfl) k) ?_
    refine J.getIN (k := 1) (ci := 3) X in_X4 (show jCl[3]? = some (RX4, TX4, 9) from rfl) (by decide) jnf19 (fun _ h => h) dX1_chute_61 (fun v61 h61 => ?_)
    refine J.pu (fun _ _ _ _ k => lv_goto (tgt := 147) X.1.1 X.1.2.1 dX1_chute_64 (by decide) k) ?_
    exact J.tret (J.iret (vr := fun t : Int32 × jH => jrI t.1) (fin := (Prod.snd : Int32 × jH → jH)) (t := (v61, S2)) X hr (by rfl) (by rfl) dX1_chute_147)
  refine J.ite (fun c7_1 => ?_) (fun c7_1 => ?_)
  · refine J.pu (fun _ _ _ _ k => lv_tableIn (tgt := 67) (off := 60) X.1.1 X.1.2.1 dX1_chute_7 (by rw [c7_1]; decide) (by rw [c7_1]; decide) (by rw [c7_1]; decide) (by decide) k) ?_
    refine J.pu (fun _ _ _ _ k => W.rload_n X.1.1 X.1.2.1 dX1_chute_67 rfl (lv_at hl 0 rfl) k) ?_
    refine J.getIN (k := 2) (ci := 3) X in_X4 (show jCl[3]? = some (RX4, TX4, 9) from rfl) (by decide) jnf20 (fun _ h => h) dX1_chute_68 (fun v68 h68 => ?_)
    refine J.pu (fun _ _ _ _ k => lv_goto (tgt := 147) X.1.1 X.1.2.1 dX1_chute_71 (by decide) k) ?_
    exact J.tret (J.iret (vr := fun t : Int32 × jH => jrI t.1) (fin := (Prod.snd : Int32 × jH → jH)) (t := (v68, S2)) X hr (by rfl) (by rfl) dX1_chute_147)
  refine J.ite (fun c7_2 => ?_) (fun c7_2 => ?_)
  · refine J.pu (fun _ _ _ _ k => lv_tableIn (tgt := 74) (off := 67) X.1.1 X.1.2.1 dX1_chute_7 (by rw [c7_2]; decide) (by rw [c7_2]; decide) (by rw [c7_2]; decide) (by decide) k) ?_
    refine J.pu (fun _ _ _ _ k => W.rload_n X.1.1 X.1.2.1 dX1_chute_74 rfl (lv_at hl 0 rfl) k) ?_
    refine J.getIN (k := 5) (ci := 3) X in_X4 (show jCl[3]? = some (RX4, TX4, 9) from rfl) (by decide) jnf26 (fun _ h => h) dX1_chute_75 (fun v75 h75 => ?_)
    refine J.pu (fun _ _ _ _ k => lv_goto (tgt := 147) X.1.1 X.1.2.1 dX1_chute_78 (by decide) k) ?_
    exact J.tret (J.iret (vr := fun t : Int32 × jH => jrI t.1) (fin := (Prod.snd : Int32 × jH → jH)) (t := (v75, S2)) X hr (by rfl) (by rfl) dX1_chute_147)
  refine J.ite (fun c7_3 => ?_) (fun c7_3 => ?_)
  · refine J.pu (fun _ _ _ _ k => lv_tableIn (tgt := 81) (off := 74) X.1.1 X.1.2.1 dX1_chute_7 (by rw [c7_3]; decide) (by rw [c7_3]; decide) (by rw [c7_3]; decide) (by decide) k) ?_
    refine J.pu (fun _ _ _ _ k => W.rload_n X.1.1 X.1.2.1 dX1_chute_81 rfl (lv_at hl 0 rfl) k) ?_
    refine J.getIN (k := 3) (ci := 3) X in_X4 (show jCl[3]? = some (RX4, TX4, 9) from rfl) (by decide) jnf22 (fun _ h => h) dX1_chute_82 (fun v82 h82 => ?_)
    refine J.pu (fun _ _ _ _ k => lv_goto (tgt := 147) X.1.1 X.1.2.1 dX1_chute_85 (by decide) k) ?_
    exact J.tret (J.iret (vr := fun t : Int32 × jH => jrI t.1) (fin := (Prod.snd : Int32 × jH → jH)) (t := (v82, S2)) X hr (by rfl) (by rfl) dX1_chute_147)
  refine J.ite (fun c7_4 => ?_) (fun c7_4 => ?_)
  · refine J.pu (fun _ _ _ _ k => lv_tableIn (tgt := 88) (off := 81) X.1.1 X.1.2.1 dX1_chute_7 (by rw [c7_4]; decide) (by rw [c7_4]; decide) (by rw [c7_4]; decide) (by decide) k) ?_
    refine J.pu (fun _ _ _ _ k => W.rload_n X.1.1 X.1.2.1 dX1_chute_88 rfl (lv_at hl 0 rfl) k) ?_
    refine J.getIN (k := 6) (ci := 3) X in_X4 (show jCl[3]? = some (RX4, TX4, 9) from rfl) (by decide) jnf28 (fun _ h => h) dX1_chute_89 (fun v89 h89 => ?_)
    refine J.pu (fun _ _ _ _ k => lv_goto (tgt := 147) X.1.1 X.1.2.1 dX1_chute_92 (by decide) k) ?_
    exact J.tret (J.iret (vr := fun t : Int32 × jH => jrI t.1) (fin := (Prod.snd : Int32 × jH → jH)) (t := (v89, S2)) X hr (by rfl) (by rfl) dX1_chute_147)
  refine J.ite (fun c7_5 => ?_) (fun c7_5 => ?_)
  · refine J.pu (fun _ _ _ _ k => lv_tableIn (tgt := 95) (off := 88) X.1.1 X.1.2.1 dX1_chute_7 (by rw [c7_5]; decide) (by rw [c7_5]; decide) (by rw [c7_5]; decide) (by decide) k) ?_
    refine J.pu (fun _ _ _ _ k => W.rload_n X.1.1 X.1.2.1 dX1_chute_95 rfl (lv_at hl 0 rfl) k) ?_
    refine J.getIN (k := 8) (ci := 3) X in_X4 (show jCl[3]? = some (RX4, TX4, 9) from rfl) (by decide) jnf32 (fun _ h => h) dX1_chute_96 (fun v96 h96 => ?_)
    refine J.bind (fun v99 h99 => ?_)
    refine J.cS (As := [.int v96]) (rest := []) (s2 := [.int v99]) X ⟨rfl, rfl⟩ (ct_X1_bit l G n S2 v96) (jrd_of h99) (fun _ _ => va_cwS 1 X.1.2.2.2.2 (lw_S q2178 q1703 q138 q1704) rfl rfl rfl (by decide +kernel) ⟨(Nat.le_of_ble_eq_true rfl), (Nat.le_of_ble_eq_true rfl)⟩) rfl hl.1 rfl rfl (Nat.le_of_ble_eq_true rfl) dX1_chute_99 ?_
    refine J.pu (fun _ _ _ _ k => lv_goto (tgt := 147) X.1.1 X.1.2.1 dX1_chute_102 (by decide) k) ?_
    exact J.tret (J.iret (vr := fun t : Int32 × jH => jrI t.1) (fin := (Prod.snd : Int32 × jH → jH)) (t := (v99, S2)) X hr (by rfl) (by rfl) dX1_chute_147)
  refine J.ite (fun c7_6 => ?_) (fun c7_6 => ?_)
  · refine J.pu (fun _ _ _ _ k => lv_tableIn (tgt := 105) (off := 98) X.1.1 X.1.2.1 dX1_chute_7 (by rw [c7_6]; decide) (by rw [c7_6]; decide) (by rw [c7_6]; decide) (by decide) k) ?_
    refine J.pu (fun _ _ _ _ k => W.rload_n X.1.1 X.1.2.1 dX1_chute_105 rfl (lv_at hl 0 rfl) k) ?_
    refine J.getRN (k := 4) (ci := 3) X in_X4 (show jCl[3]? = some (RX4, TX4, 9) from rfl) (by decide) jnf24 (fun _ h => h) dX1_chute_106 (fun v106 h106 => ?_)
    refine J.bind (fun o109 g109 => ?_)
    refine J.bind (fun v109 h109 => ?_)
    refine J.cF (q := (RJ19, TJ19, 4)) (ci := 16) (As := []) (rest := []) (s2 := [.int v109]) X ⟨rfl, rfl⟩ (ct_J19_size l G S2 o109) (jrd_of h109) (fun _ _ => va_cwF 0 X.1.2.2.2.2 (lw_F q1751 q837 q839 q163 q841) rfl rfl rfl (jfw3 X.2.1) (by decide +kernel) ⟨(Nat.le_of_ble_eq_true rfl), (Nat.le_of_ble_eq_true rfl)⟩) g109 rfl rfl hl.1 rfl rfl (Nat.le_of_ble_eq_true rfl) dX1_chute_109 ?_
    refine J.pu (fun _ _ _ _ k => lv_goto (tgt := 147) X.1.1 X.1.2.1 dX1_chute_114 (by decide) k) ?_
    exact J.tret (J.iret (vr := fun t : Int32 × jH => jrI t.1) (fin := (Prod.snd : Int32 × jH → jH)) (t := (v109, S2)) X hr (by rfl) (by rfl) dX1_chute_147)
  refine J.ite (fun c7_7 => ?_) (fun c7_7 => ?_)
  · refine J.pu (fun _ _ _ _ k => lv_tableIn (tgt := 117) (off := 110) X.1.1 X.1.2.1 dX1_chute_7 (by rw [c7_7]; decide) (by rw [c7_7]; decide) (by rw [c7_7]; decide) (by decide) k) ?_
    refine J.pu (fun _ _ _ _ k => W.rload_n X.1.1 X.1.2.1 dX1_chute_117 rfl (lv_at hl 0 rfl) k) ?_
    refine J.bind (fun o118 g118 => ?_)
    refine J.bd' (fun v118 S118 h118 => ?_)
    refine J.cV (q := (RX4, TX4, 9)) (ci := 3) (As := []) (rest := []) (s2 := [.int v118]) X ⟨rfl, rfl⟩ (ct_X4_right l G n S2 o118) h118 (fun _ _ => cwV 0 X.1.2.2.2.2 (lw_V q2469 q2470 q2471 q161 q2472) rfl rfl rfl (by decide +kernel) ⟨(Nat.le_of_ble_eq_true rfl), (Nat.le_of_ble_eq_true rfl)⟩) g118 rfl rfl hl.1 rfl rfl (Nat.le_of_ble_eq_true rfl) dX1_chute_118 ?_
    refine J.pu (fun _ _ _ _ k => lv_goto (tgt := 147) X.1.1 X.1.2.1 dX1_chute_121 (by decide) k) ?_
    exact J.tret (J.iret (vr := fun t : Int32 × jH => jrI t.1) (fin := (Prod.snd : Int32 × jH → jH)) (t := (v118, S118)) X hr (by rfl) (by rfl) dX1_chute_147)
  refine J.ite (fun c7_8 => ?_) (fun c7_8 => ?_)
  · refine J.pu (fun _ _ _ _ k => lv_tableIn (tgt := 124) (off := 117) X.1.1 X.1.2.1 dX1_chute_7 (by rw [c7_8]; decide) (by rw [c7_8]; decide) (by rw [c7_8]; decide) (by decide) k) ?_
    refine J.pu (fun _ _ _ _ k => W.rload_n X.1.1 X.1.2.1 dX1_chute_124 rfl (lv_at hl 0 rfl) k) ?_
    refine J.getIN (k := 7) (ci := 3) X in_X4 (show jCl[3]? = some (RX4, TX4, 9) from rfl) (by decide) jnf30 (fun _ h => h) dX1_chute_125 (fun v125 h125 => ?_)
    refine J.pu (fun _ _ _ _ k => lv_goto (tgt := 147) X.1.1 X.1.2.1 dX1_chute_128 (by decide) k) ?_
    exact J.tret (J.iret (vr := fun t : Int32 × jH => jrI t.1) (fin := (Prod.snd : Int32 × jH → jH)) (t := (v125, S2)) X hr (by rfl) (by rfl) dX1_chute_147)
  refine J.ite (fun c7_9 => ?_) (fun c7_9 => ?_)
  · refine J.pu (fun _ _ _ _ k => lv_tableIn (tgt := 131) (off := 124) X.1.1 X.1.2.1 dX1_chute_7 (by rw [c7_9]; decide) (by rw [c7_9]; decide) (by rw [c7_9]; decide) (by decide) k) ?_
    refine J.pu (fun _ _ _ _ k => lv_aload_n X.1.1 X.1.2.1 dX1_chute_131 rfl (lv_at hl 1 rfl) k) ?_
    refine J.pu (fun _ _ _ _ k => lv_iload_n X.1.1 X.1.2.1 dX1_chute_132 rfl (lv_at hl 2 rfl) k) ?_
    refine J.bind (fun o133 g133 => ?_)
    refine J.bind (fun v133 h133 => ?_)
    refine J.cV (q := (RX1, TX1, 9)) (ci := 0) (As := [.int a1]) (rest := []) (s2 := [.int v133]) X ⟨rfl, rfl⟩ (ct_X1_comingTo l G n S2 o133 a1) (jrd_of h133) (fun _ _ => cwV 1 X.1.2.2.2.2 (lw_V q2481 q2483 qs49 q138 q2484) rfl rfl rfl (by decide +kernel) ⟨(Nat.le_of_ble_eq_true rfl), (Nat.le_of_ble_eq_true rfl)⟩) g133 rfl rfl hl.1 rfl rfl (Nat.le_of_ble_eq_true rfl) dX1_chute_133 ?_
    refine J.pu (fun _ _ _ _ k => lv_goto (tgt := 147) X.1.1 X.1.2.1 dX1_chute_136 (by decide) k) ?_
    exact J.tret (J.iret (vr := fun t : Int32 × jH => jrI t.1) (fin := (Prod.snd : Int32 × jH → jH)) (t := (v133, S2)) X hr (by rfl) (by rfl) dX1_chute_147)
  by_cases b7 : a2.toInt < 0 ∨ 9 < a2.toInt
  · refine J.pu (fun _ _ _ _ k => lv_tableOut (tgt := 139) X.1.1 X.1.2.1 dX1_chute_7 b7 (by decide) k) ?_
    exact J.throw0 (k := 0) X hfl hout ⟨rfl, rfl⟩ rfl (by decide) q2401 q146 (jth0 X.1.2.2.2.2 X.2.1) (by decide +kernel) hl.1 dX1_chute_139 dX1_chute_142 dX1_chute_143 dX1_chute_146 (Nat.le_of_ble_eq_true rfl) (Nat.le_of_ble_eq_true rfl)
  · exfalso; have := lv_neT c7_0 (a := 0) rfl; have := lv_neT c7_1 (a := 1) rfl; have := lv_neT c7_2 (a := 2) rfl; have := lv_neT c7_3 (a := 3) rfl; have := lv_neT c7_4 (a := 4) rfl; have := lv_neT c7_5 (a := 5) rfl; have := lv_neT c7_6 (a := 6) rfl; have := lv_neT c7_7 (a := 7) rfl; have := lv_neT c7_8 (a := 8) rfl; have := lv_neT c7_9 (a := 9) rfl; omega
noncomputable def X1_toScanner_b (G : jG) (n : Nat) (σ : jH) (this : Nat) (a1 : Int32) : Option (jTh Int32 × jH) :=
  (rc σ (some this) 0).bind fun o3 => tb (X1_parcelAt G n σ o3 a1) fun v3 S3 => (rc S3 (some this) 0).bind fun o6 => (X1_stepsToScanner G n S3 o6 v3).bind fun v6 => some (.inl v6, S3)
noncomputable def X1_toScanner (G : jG) (n : Nat) (σ : jH) (this : Nat) (a1 : Int32) : Option (jTh Int32 × jH) := jck σ (X1_toScanner_b G n σ this a1)
set_option maxHeartbeats 4000000 in
set_option maxRecDepth 100000 in
theorem ct_X1_toScanner (l : Launch) (hfl : l.stackTraces = false) (G : jG) (n : Nat) (σ : jH) (this : Nat) (a1 : Int32) : jTt l G yX1_toScanner (ws_ yX1_toScanner cX1_toScanner 2 (some .int)) 23 1263 jrI [.ref this, .int a1] σ (X1_toScanner G n σ this a1) := by
  refine jTt.wr (lv := [(0, .ref this), (1, .int a1)]) rfl (Nat.le_of_ble_eq_true rfl) rfl ?_
  intro t p e s m args below meth c ls X hr hnm hout hl
  have X : jCx p c cX1_toScanner 2 s m args RX1 G meth := X
  unfold X1_toScanner_b
  refine J.pu (fun _ _ _ _ k => lv_aload_n X.1.1 X.1.2.1 dX1_toScanner_0 rfl (lv_at hl 0 rfl) k) ?_
  refine J.pu (fun _ _ _ _ k => lv_aload_n X.1.1 X.1.2.1 dX1_toScanner_1 rfl (lv_at hl 0 rfl) k) ?_
  refine J.pu (fun _ _ _ _ k => lv_iload_n X.1.1 X.1.2.1 dX1_toScanner_2 rfl (lv_at hl 1 rfl) k) ?_
  refine J.bind (fun o3 g3 => ?_)
  refine J.tV (q := (RX1, TX1, 9)) (ci := 0) (As := [.int a1]) (rest := [.ref this]) X hout ⟨rfl, rfl⟩ (ct_X1_parcelAt l hfl G n σ o3 a1) (fun _ _ => cwV 1 X.1.2.2.2.2 (lw_V q2454 q2456 qs47 q138 q2457) rfl rfl rfl (by decide +kernel) ⟨(Nat.le_of_ble_eq_true rfl), (Nat.le_of_ble_eq_true rfl)⟩) g3 rfl rfl hl.1 rfl (Nat.le_of_ble_eq_true rfl) dX1_toScanner_3 (fun v3 S3 h3 => ?_)
  refine J.geq (g2 := F0 m 6 ls [va_rf v3, .ref this]) rfl ?_
  refine J.bind (fun o6 g6 => ?_)
  refine J.bind (fun v6 h6 => ?_)
  refine J.cV (q := (RX1, TX1, 9)) (ci := 0) (As := [va_rf v3]) (rest := []) (s2 := [.int v6]) X ⟨rfl, rfl⟩ (ct_X1_stepsToScanner l G n S3 o6 v3) (jrd_of h6) (fun _ _ => cwV 1 X.1.2.2.2.2 (lw_V q2507 q2509 qs50 q138 q2510) rfl rfl rfl (by decide +kernel) ⟨(Nat.le_of_ble_eq_true rfl), (Nat.le_of_ble_eq_true rfl)⟩) g6 rfl rfl hl.1 rfl rfl (Nat.le_of_ble_eq_true rfl) dX1_toScanner_6 ?_
  exact J.tret (J.iret (vr := fun t : Int32 × jH => jrI t.1) (fin := (Prod.snd : Int32 × jH → jH)) (t := (v6, S3)) X hr (by rfl) (by rfl) dX1_toScanner_9)
noncomputable def X1_toChute_b (G : jG) (n : Nat) (σ : jH) (this : Nat) (a1 : Int32) : Option (jTh Int32 × jH) :=
  (rc σ (some this) 0).bind fun o3 => tb (X1_parcelAt G n σ o3 a1) fun v3 S3 => (rc S3 (some this) 0).bind fun o6 => (X1_stepsToChute G n S3 o6 v3).bind fun v6 => some (.inl v6, S3)
noncomputable def X1_toChute (G : jG) (n : Nat) (σ : jH) (this : Nat) (a1 : Int32) : Option (jTh Int32 × jH) := jck σ (X1_toChute_b G n σ this a1)
set_option maxHeartbeats 4000000 in
set_option maxRecDepth 100000 in
theorem ct_X1_toChute (l : Launch) (hfl : l.stackTraces = false) (G : jG) (n : Nat) (σ : jH) (this : Nat) (a1 : Int32) : jTt l G yX1_toChute (ws_ yX1_toChute cX1_toChute 2 (some .int)) 23 1264 jrI [.ref this, .int a1] σ (X1_toChute G n σ this a1) := by
  refine jTt.wr (lv := [(0, .ref this), (1, .int a1)]) rfl (Nat.le_of_ble_eq_true rfl) rfl ?_
  intro t p e s m args below meth c ls X hr hnm hout hl
  have X : jCx p c cX1_toChute 2 s m args RX1 G meth := X
  unfold X1_toChute_b
  refine J.pu (fun _ _ _ _ k => lv_aload_n X.1.1 X.1.2.1 dX1_toChute_0 rfl (lv_at hl 0 rfl) k) ?_
  refine J.pu (fun _ _ _ _ k => lv_aload_n X.1.1 X.1.2.1 dX1_toChute_1 rfl (lv_at hl 0 rfl) k) ?_
  refine J.pu (fun _ _ _ _ k => lv_iload_n X.1.1 X.1.2.1 dX1_toChute_2 rfl (lv_at hl 1 rfl) k) ?_
  refine J.bind (fun o3 g3 => ?_)
  refine J.tV (q := (RX1, TX1, 9)) (ci := 0) (As := [.int a1]) (rest := [.ref this]) X hout ⟨rfl, rfl⟩ (ct_X1_parcelAt l hfl G n σ o3 a1) (fun _ _ => cwV 1 X.1.2.2.2.2 (lw_V q2454 q2456 qs47 q138 q2457) rfl rfl rfl (by decide +kernel) ⟨(Nat.le_of_ble_eq_true rfl), (Nat.le_of_ble_eq_true rfl)⟩) g3 rfl rfl hl.1 rfl (Nat.le_of_ble_eq_true rfl) dX1_toChute_3 (fun v3 S3 h3 => ?_)
  refine J.geq (g2 := F0 m 6 ls [va_rf v3, .ref this]) rfl ?_
  refine J.bind (fun o6 g6 => ?_)
  refine J.bind (fun v6 h6 => ?_)
  refine J.cV (q := (RX1, TX1, 9)) (ci := 0) (As := [va_rf v3]) (rest := []) (s2 := [.int v6]) X ⟨rfl, rfl⟩ (ct_X1_stepsToChute l G n S3 o6 v3) (jrd_of h6) (fun _ _ => cwV 1 X.1.2.2.2.2 (lw_V q2518 q2520 qs51 q138 q2521) rfl rfl rfl (by decide +kernel) ⟨(Nat.le_of_ble_eq_true rfl), (Nat.le_of_ble_eq_true rfl)⟩) g6 rfl rfl hl.1 rfl rfl (Nat.le_of_ble_eq_true rfl) dX1_toChute_6 ?_
  exact J.tret (J.iret (vr := fun t : Int32 × jH => jrI t.1) (fin := (Prod.snd : Int32 × jH → jH)) (t := (v6, S3)) X hr (by rfl) (by rfl) dX1_toChute_9)
noncomputable def X1_reason (G : jG) (n : Nat) (σ : jH) (this : Nat) (a1 : Option Nat) : Option (Int32) :=
  (rc σ a1 4).bind fun o1 => (X5_isSorted G n σ o1).bind fun v1 => if v1 = 0 then ((gI σ a1 4 4).bind fun v10 => if v10 = 3 then (some 1) else ((rc σ a1 4).bind fun o20 => (X5_isOn G n σ o20).bind fun v20 => if v20 = 0 then (some 2) else ((gI σ a1 4 2).bind fun v29 => if v29 ≤ 0 then ((rc σ a1 4).bind fun o38 => (X5_isTracked G n σ o38).bind fun v38 => if v38 = 0 then (some 4) else ((gR σ (some this) 0 4).bind fun v47 => (gI σ a1 4 1).bind fun v51 => (rc σ v47 1).bind fun o54 => (X2_chute G n σ o54 v51).bind fun v54 => (rc σ v54 3).bind fun o57 => (X4_canTake G n σ o57).bind fun v57 => if v57 = 0 then (some 5) else ((gR σ (some this) 0 4).bind fun v66 => (rc σ v66 1).bind fun o70 => (X2_lag G n σ o70 a1).bind fun v70 => (gR σ (some this) 0 4).bind fun v74 => (gI σ a1 4 1).bind fun v78 => (rc σ v74 1).bind fun o81 => (X2_chute G n σ o81 v78).bind fun v81 => (gI σ v81 3 5).bind fun v84 => if v70 ≤ v84 then (some 7) else (some 6)))) else (some 3)))) else (some 0)
set_option maxHeartbeats 4000000 in
set_option maxRecDepth 100000 in
theorem ct_X1_reason (l : Launch) (G : jG) (n : Nat) (σ : jH) (this : Nat) (a1 : Option Nat) : jCt l G yX1_reason (ws_ yX1_reason cX1_reason 2 (some .int)) 22 1242 jrI [.ref this, va_rf a1] σ (jrd σ (X1_reason G n σ this a1)) := by
  refine jCt.rd (lv := [(0, .ref this), (1, va_rf a1)]) (plainFor_of_name (by decide)) (by simp [lg_sl, va_rf_cat, jcI, jcA, jcJ, jcD, jcF]) (by simp [lv_args, va_rf_cat, jcI, jcA, jcJ, jcD, jcF]) ?_
  intro t p e s m args below meth c ls X hr hnm hl
  have X : jCx p c cX1_reason 2 s m args RX1 G meth := X
  unfold X1_reason
  refine J.pu (fun _ _ _ _ k => W.rload_n X.1.1 X.1.2.1 dX1_reason_0 rfl (lv_at hl 1 rfl) k) ?_
  refine J.bind (fun o1 g1 => ?_)
  refine J.bind (fun v1 h1 => ?_)
  refine J.cV (q := (RX5, TX5, 10)) (ci := 4) (As := []) (rest := []) (s2 := [.int v1]) X ⟨rfl, rfl⟩ (ct_X5_isSorted l G n σ o1) (jrd_of h1) (fun _ _ => cwV 0 X.1.2.2.2.2 (lw_V q2534 q2535 q2536 q167 q2537) rfl rfl rfl (by decide +kernel) ⟨(Nat.le_of_ble_eq_true rfl), (Nat.le_of_ble_eq_true rfl)⟩) g1 rfl rfl hl.1 rfl rfl (Nat.le_of_ble_eq_true rfl) dX1_reason_1 ?_
  refine J.br (fun _ _ _ _ ka kb => lv_if_eq (tgt := 9) X.1.1 X.1.2.1 dX1_reason_4 (by decide) ka kb) (fun c4 => ?_) (fun c4 => ?_)
  · refine J.pu (fun _ _ _ _ k => W.rload_n X.1.1 X.1.2.1 dX1_reason_9 rfl (lv_at hl 1 rfl) k) ?_
    refine J.getIN (k := 4) (ci := 4) X in_X5 (show jCl[4]? = some (RX5, TX5, 10) from rfl) (by decide) jnf43 (fun _ h => h) dX1_reason_10 (fun v10 h10 => ?_)
    refine J.pu (fun _ _ _ _ k => lv_iconst (v := 3) X.1.1 X.1.2.1 dX1_reason_13 (by decide) k) ?_
    refine J.br (fun _ _ _ _ ka kb => lv_icmp_ne (tgt := 19) X.1.1 X.1.2.1 dX1_reason_14 (by decide) kb ka) (fun c14 => ?_) (fun c14 => ?_)
    · refine J.pu (fun _ _ _ _ k => lv_iconst (v := 1) X.1.1 X.1.2.1 dX1_reason_17 (by decide) k) ?_
      exact J.iret (vr := jrI) (fin := fun _ : Int32 => σ) (t := t) X hr (by rfl) (by rfl) dX1_reason_18
    · refine J.pu (fun _ _ _ _ k => W.rload_n X.1.1 X.1.2.1 dX1_reason_19 rfl (lv_at hl 1 rfl) k) ?_
      refine J.bind (fun o20 g20 => ?_)
      refine J.bind (fun v20 h20 => ?_)
      refine J.cV (q := (RX5, TX5, 10)) (ci := 4) (As := []) (rest := []) (s2 := [.int v20]) X ⟨rfl, rfl⟩ (ct_X5_isOn l G n σ o20) (jrd_of h20) (fun _ _ => cwV 0 X.1.2.2.2.2 (lw_V q2395 q1041 q1042 q167 q1043) rfl rfl rfl (by decide +kernel) ⟨(Nat.le_of_ble_eq_true rfl), (Nat.le_of_ble_eq_true rfl)⟩) g20 rfl rfl hl.1 rfl rfl (Nat.le_of_ble_eq_true rfl) dX1_reason_20 ?_
      refine J.br (fun _ _ _ _ ka kb => lv_if_ne (tgt := 28) X.1.1 X.1.2.1 dX1_reason_23 (by decide) kb ka) (fun c23 => ?_) (fun c23 => ?_)
      · refine J.pu (fun _ _ _ _ k => lv_iconst (v := 2) X.1.1 X.1.2.1 dX1_reason_26 (by decide) k) ?_
        exact J.iret (vr := jrI) (fin := fun _ : Int32 => σ) (t := t) X hr (by rfl) (by rfl) dX1_reason_27
      · refine J.pu (fun _ _ _ _ k => W.rload_n X.1.1 X.1.2.1 dX1_reason_28 rfl (lv_at hl 1 rfl) k) ?_
        refine J.getIN (k := 2) (ci := 4) X in_X5 (show jCl[4]? = some (RX5, TX5, 10) from rfl) (by decide) jnf39 (fun _ h => h) dX1_reason_29 (fun v29 h29 => ?_)
        refine J.br (fun _ _ _ _ ka kb => lv_if_le (tgt := 37) X.1.1 X.1.2.1 dX1_reason_32 (by decide) ka kb) (fun c32 => ?_) (fun c32 => ?_)
        · refine J.pu (fun _ _ _ _ k => W.rload_n X.1.1 X.1.2.1 dX1_reason_37 rfl (lv_at hl 1 rfl) k) ?_
          refine J.bind (fun o38 g38 => ?_)
          refine J.bind (fun v38 h38 => ?_)
          refine J.cV (q := (RX5, TX5, 10)) (ci := 4) (As := []) (rest := []) (s2 := [.int v38]) X ⟨rfl, rfl⟩ (ct_X5_isTracked l G n σ o38) (jrd_of h38) (fun _ _ => cwV 0 X.1.2.2.2.2 (lw_V q2396 q2100 q2101 q167 q2102) rfl rfl rfl (by decide +kernel) ⟨(Nat.le_of_ble_eq_true rfl), (Nat.le_of_ble_eq_true rfl)⟩) g38 rfl rfl hl.1 rfl rfl (Nat.le_of_ble_eq_true rfl) dX1_reason_38 ?_
          refine J.br (fun _ _ _ _ ka kb => lv_if_ne (tgt := 46) X.1.1 X.1.2.1 dX1_reason_41 (by decide) kb ka) (fun c41 => ?_) (fun c41 => ?_)
          · refine J.pu (fun _ _ _ _ k => lv_iconst (v := 4) X.1.1 X.1.2.1 dX1_reason_44 (by decide) k) ?_
            exact J.iret (vr := jrI) (fin := fun _ : Int32 => σ) (t := t) X hr (by rfl) (by rfl) dX1_reason_45
          · refine J.pu (fun _ _ _ _ k => lv_aload_n X.1.1 X.1.2.1 dX1_reason_46 rfl (lv_at hl 0 rfl) k) ?_
            refine J.getR (k := 4) (ci := 0) X in_X1 (show jCl[0]? = some (RX1, TX1, 9) from rfl) (by decide) q1329 (fun _ h => h) dX1_reason_47 (fun v47 h47 => ?_)
            refine J.pu (fun _ _ _ _ k => W.rload_n X.1.1 X.1.2.1 dX1_reason_50 rfl (lv_at hl 1 rfl) k) ?_
            refine J.getIN (k := 1) (ci := 4) X in_X5 (show jCl[4]? = some (RX5, TX5, 10) from rfl) (by decide) jnf37 (fun _ h => h) dX1_reason_51 (fun v51 h51 => ?_)
            refine J.bind (fun o54 g54 => ?_)
            refine J.bind (fun v54 h54 => ?_)
            refine J.cV (q := (RX2, TX2, 9)) (ci := 1) (As := [.int v51]) (rest := []) (s2 := [va_rf v54]) X ⟨rfl, rfl⟩ (ct_X2_chute l G n σ o54 v51) (jrd_of h54) (fun _ _ => cwV 1 X.1.2.2.2.2 (lw_V q2185 q844 q845 q139 q846) rfl rfl rfl (by decide +kernel) ⟨(Nat.le_of_ble_eq_true rfl), (Nat.le_of_ble_eq_true rfl)⟩) g54 rfl rfl hl.1 rfl rfl (Nat.le_of_ble_eq_true rfl) dX1_reason_54 ?_
            refine J.bind (fun o57 g57 => ?_)
            refine J.bind (fun v57 h57 => ?_)
            refine J.cV (q := (RX4, TX4, 9)) (ci := 3) (As := []) (rest := []) (s2 := [.int v57]) X ⟨rfl, rfl⟩ (ct_X4_canTake l G n σ o57) (jrd_of h57) (fun _ _ => cwV 0 X.1.2.2.2.2 (lw_V q2538 q2132 q2133 q161 q2134) rfl rfl rfl (by decide +kernel) ⟨(Nat.le_of_ble_eq_true rfl), (Nat.le_of_ble_eq_true rfl)⟩) g57 rfl rfl hl.1 rfl rfl (Nat.le_of_ble_eq_true rfl) dX1_reason_57 ?_
            refine J.br (fun _ _ _ _ ka kb => lv_if_ne (tgt := 65) X.1.1 X.1.2.1 dX1_reason_60 (by decide) kb ka) (fun c60 => ?_) (fun c60 => ?_)
            · refine J.pu (fun _ _ _ _ k => lv_iconst (v := 5) X.1.1 X.1.2.1 dX1_reason_63 (by decide) k) ?_
              exact J.iret (vr := jrI) (fin := fun _ : Int32 => σ) (t := t) X hr (by rfl) (by rfl) dX1_reason_64
            · refine J.pu (fun _ _ _ _ k => lv_aload_n X.1.1 X.1.2.1 dX1_reason_65 rfl (lv_at hl 0 rfl) k) ?_
              refine J.getR (k := 4) (ci := 0) X in_X1 (show jCl[0]? = some (RX1, TX1, 9) from rfl) (by decide) q1329 (fun _ h => h) dX1_reason_66 (fun v66 h66 => ?_)
              refine J.pu (fun _ _ _ _ k => W.rload_n X.1.1 X.1.2.1 dX1_reason_69 rfl (lv_at hl 1 rfl) k) ?_
              refine J.bind (fun o70 g70 => ?_)
              refine J.bind (fun v70 h70 => ?_)
              refine J.cV (q := (RX2, TX2, 9)) (ci := 1) (As := [va_rf a1]) (rest := []) (s2 := [.int v70]) X ⟨rfl, rfl⟩ (ct_X2_lag l G n σ o70 a1) (jrd_of h70) (fun _ _ => cwV 1 X.1.2.2.2.2 (lw_V q2243 q2116 q2117 q139 q2118) rfl rfl rfl (by decide +kernel) ⟨(Nat.le_of_ble_eq_true rfl), (Nat.le_of_ble_eq_true rfl)⟩) g70 rfl rfl hl.1 rfl rfl (Nat.le_of_ble_eq_true rfl) dX1_reason_70 ?_
              refine J.pu (fun _ _ _ _ k => lv_aload_n X.1.1 X.1.2.1 dX1_reason_73 rfl (lv_at hl 0 rfl) k) ?_
              refine J.getR (k := 4) (ci := 0) X in_X1 (show jCl[0]? = some (RX1, TX1, 9) from rfl) (by decide) q1329 (fun _ h => h) dX1_reason_74 (fun v74 h74 => ?_)
              refine J.pu (fun _ _ _ _ k => W.rload_n X.1.1 X.1.2.1 dX1_reason_77 rfl (lv_at hl 1 rfl) k) ?_
              refine J.getIN (k := 1) (ci := 4) X in_X5 (show jCl[4]? = some (RX5, TX5, 10) from rfl) (by decide) jnf37 (fun _ h => h) dX1_reason_78 (fun v78 h78 => ?_)
              refine J.bind (fun o81 g81 => ?_)
              refine J.bind (fun v81 h81 => ?_)
              refine J.cV (q := (RX2, TX2, 9)) (ci := 1) (As := [.int v78]) (rest := [.int v70]) (s2 := [va_rf v81, .int v70]) X ⟨rfl, rfl⟩ (ct_X2_chute l G n σ o81 v78) (jrd_of h81) (fun _ _ => cwV 1 X.1.2.2.2.2 (lw_V q2185 q844 q845 q139 q846) rfl rfl rfl (by decide +kernel) ⟨(Nat.le_of_ble_eq_true rfl), (Nat.le_of_ble_eq_true rfl)⟩) g81 rfl rfl hl.1 rfl rfl (Nat.le_of_ble_eq_true rfl) dX1_reason_81 ?_
              refine J.getIN (k := 5) (ci := 3) X in_X4 (show jCl[3]? = some (RX4, TX4, 9) from rfl) (by decide) jnf26 (fun _ h => h) dX1_reason_84 (fun v84 h84 => ?_)
              refine J.br (fun _ _ _ _ ka kb => lv_icmp_le (tgt := 95) X.1.1 X.1.2.1 dX1_reason_87 (by decide) ka kb) (fun c87 => ?_) (fun c87 => ?_)
              · refine J.pu (fun _ _ _ _ k => lv_bipush (v := 7) X.1.1 X.1.2.1 dX1_reason_95 (by decide) k) ?_
                exact J.iret (vr := jrI) (fin := fun _ : Int32 => σ) (t := t) X hr (by rfl) (by rfl) dX1_reason_97
              · refine J.pu (fun _ _ _ _ k => lv_bipush (v := 6) X.1.1 X.1.2.1 dX1_reason_90 (by decide) k) ?_
                refine J.pu (fun _ _ _ _ k => lv_goto (tgt := 97) X.1.1 X.1.2.1 dX1_reason_92 (by decide) k) ?_
                exact J.iret (vr := jrI) (fin := fun _ : Int32 => σ) (t := t) X hr (by rfl) (by rfl) dX1_reason_97
        · refine J.pu (fun _ _ _ _ k => lv_iconst (v := 3) X.1.1 X.1.2.1 dX1_reason_35 (by decide) k) ?_
          exact J.iret (vr := jrI) (fin := fun _ : Int32 => σ) (t := t) X hr (by rfl) (by rfl) dX1_reason_36
  · refine J.pu (fun _ _ _ _ k => lv_iconst (v := 0) X.1.1 X.1.2.1 dX1_reason_7 (by decide) k) ?_
    exact J.iret (vr := jrI) (fin := fun _ : Int32 => σ) (t := t) X hr (by rfl) (by rfl) dX1_reason_8
noncomputable def X1_cause (G : jG) (n : Nat) (σ : jH) (this : Nat) (a1 : Option Nat) (a2 : Int32) : Option (Int32) :=
  if a2 = 1 then ((gI σ a1 4 3).bind fun v47 => some (100 + v47)) else if a2 = 2 then ((gI σ a1 4 7).bind fun v58 => some (200 + v58)) else if a2 = 3 then ((gI σ a1 4 2).bind fun v69 => some (400 + v69)) else if a2 = 4 then ((rc σ (some this) 0).bind fun o82 => (X1_stepsToScanner G n σ o82 a1).bind fun v82 => (J12_max n 0 v82).bind fun v85 => some (600 + v85)) else if a2 = 5 then ((gI σ a1 4 1).bind fun v96 => some (700 + v96)) else if a2 = 6 then ((gR σ (some this) 0 4).bind fun v107 => (rc σ v107 1).bind fun o111 => (X2_lag G n σ o111 a1).bind fun v111 => some (900 + v111)) else if a2 = 7 then ((rc σ (some this) 0).bind fun o123 => (X1_stepsToChute G n σ o123 a1).bind fun v123 => some (1100 + v123)) else some 0
set_option maxHeartbeats 4000000 in
set_option maxRecDepth 100000 in
theorem ct_X1_cause (l : Launch) (G : jG) (n : Nat) (σ : jH) (this : Nat) (a1 : Option Nat) (a2 : Int32) : jCt l G yX1_cause (ws_ yX1_cause cX1_cause 3 (some .int)) 23 1264 jrI [.ref this, va_rf a1, .int a2] σ (jrd σ (X1_cause G n σ this a1 a2)) := by
  refine jCt.rd (lv := [(0, .ref this), (1, va_rf a1), (2, .int a2)]) (plainFor_of_name (by decide)) (by simp [lg_sl, va_rf_cat, jcI, jcA, jcJ, jcD, jcF]) (by simp [lv_args, va_rf_cat, jcI, jcA, jcJ, jcD, jcF]) ?_
  intro t p e s m args below meth c ls X hr hnm hl
  have X : jCx p c cX1_cause 3 s m args RX1 G meth := X
  unfold X1_cause
  refine J.pu (fun _ _ _ _ k => lv_iload_n X.1.1 X.1.2.1 dX1_cause_0 rfl (lv_at hl 2 rfl) k) ?_
  refine J.ite (fun c1_1 => ?_) (fun c1_1 => ?_)
  · refine J.pu (fun _ _ _ _ k => lv_tableIn (tgt := 44) (off := 43) X.1.1 X.1.2.1 dX1_cause_1 (by rw [c1_1]; decide) (by rw [c1_1]; decide) (by rw [c1_1]; decide) (by decide) k) ?_
    refine J.pu (fun _ _ _ _ k => lv_bipush (v := 100) X.1.1 X.1.2.1 dX1_cause_44 (by decide) k) ?_
    refine J.pu (fun _ _ _ _ k => W.rload_n X.1.1 X.1.2.1 dX1_cause_46 rfl (lv_at hl 1 rfl) k) ?_
    refine J.getIN (k := 3) (ci := 4) X in_X5 (show jCl[4]? = some (RX5, TX5, 10) from rfl) (by decide) jnf41 (fun _ h => h) dX1_cause_47 (fun v47 h47 => ?_)
    refine J.pu (fun _ _ _ _ k => lv_iadd X.1.1 X.1.2.1 dX1_cause_50 k) ?_
    refine J.pu (fun _ _ _ _ k => lv_goto (tgt := 131) X.1.1 X.1.2.1 dX1_cause_51 (by decide) k) ?_
    exact J.iret (vr := jrI) (fin := fun _ : Int32 => σ) (t := t) X hr (by rfl) (by rfl) dX1_cause_131
  refine J.ite (fun c1_2 => ?_) (fun c1_2 => ?_)
  · refine J.pu (fun _ _ _ _ k => lv_tableIn (tgt := 54) (off := 53) X.1.1 X.1.2.1 dX1_cause_1 (by rw [c1_2]; decide) (by rw [c1_2]; decide) (by rw [c1_2]; decide) (by decide) k) ?_
    refine J.pu (fun _ _ _ _ k => lv_sipush (v := 200) X.1.1 X.1.2.1 dX1_cause_54 (by decide) k) ?_
    refine J.pu (fun _ _ _ _ k => W.rload_n X.1.1 X.1.2.1 dX1_cause_57 rfl (lv_at hl 1 rfl) k) ?_
    refine J.getIN (k := 7) (ci := 4) X in_X5 (show jCl[4]? = some (RX5, TX5, 10) from rfl) (by decide) jnf49 (fun _ h => h) dX1_cause_58 (fun v58 h58 => ?_)
    refine J.pu (fun _ _ _ _ k => lv_iadd X.1.1 X.1.2.1 dX1_cause_61 k) ?_
    refine J.pu (fun _ _ _ _ k => lv_goto (tgt := 131) X.1.1 X.1.2.1 dX1_cause_62 (by decide) k) ?_
    exact J.iret (vr := jrI) (fin := fun _ : Int32 => σ) (t := t) X hr (by rfl) (by rfl) dX1_cause_131
  refine J.ite (fun c1_3 => ?_) (fun c1_3 => ?_)
  · refine J.pu (fun _ _ _ _ k => lv_tableIn (tgt := 65) (off := 64) X.1.1 X.1.2.1 dX1_cause_1 (by rw [c1_3]; decide) (by rw [c1_3]; decide) (by rw [c1_3]; decide) (by decide) k) ?_
    refine J.pu (fun _ _ _ _ k => lv_sipush (v := 400) X.1.1 X.1.2.1 dX1_cause_65 (by decide) k) ?_
    refine J.pu (fun _ _ _ _ k => W.rload_n X.1.1 X.1.2.1 dX1_cause_68 rfl (lv_at hl 1 rfl) k) ?_
    refine J.getIN (k := 2) (ci := 4) X in_X5 (show jCl[4]? = some (RX5, TX5, 10) from rfl) (by decide) jnf39 (fun _ h => h) dX1_cause_69 (fun v69 h69 => ?_)
    refine J.pu (fun _ _ _ _ k => lv_iadd X.1.1 X.1.2.1 dX1_cause_72 k) ?_
    refine J.pu (fun _ _ _ _ k => lv_goto (tgt := 131) X.1.1 X.1.2.1 dX1_cause_73 (by decide) k) ?_
    exact J.iret (vr := jrI) (fin := fun _ : Int32 => σ) (t := t) X hr (by rfl) (by rfl) dX1_cause_131
  refine J.ite (fun c1_4 => ?_) (fun c1_4 => ?_)
  · refine J.pu (fun _ _ _ _ k => lv_tableIn (tgt := 76) (off := 75) X.1.1 X.1.2.1 dX1_cause_1 (by rw [c1_4]; decide) (by rw [c1_4]; decide) (by rw [c1_4]; decide) (by decide) k) ?_
    refine J.pu (fun _ _ _ _ k => lv_sipush (v := 600) X.1.1 X.1.2.1 dX1_cause_76 (by decide) k) ?_
    refine J.pu (fun _ _ _ _ k => lv_iconst (v := 0) X.1.1 X.1.2.1 dX1_cause_79 (by decide) k) ?_
    refine J.pu (fun _ _ _ _ k => lv_aload_n X.1.1 X.1.2.1 dX1_cause_80 rfl (lv_at hl 0 rfl) k) ?_
    refine J.pu (fun _ _ _ _ k => W.rload_n X.1.1 X.1.2.1 dX1_cause_81 rfl (lv_at hl 1 rfl) k) ?_
    refine J.bind (fun o82 g82 => ?_)
    refine J.bind (fun v82 h82 => ?_)
    refine J.cV (q := (RX1, TX1, 9)) (ci := 0) (As := [va_rf a1]) (rest := [.int 0, .int 600]) (s2 := [.int v82, .int 0, .int 600]) X ⟨rfl, rfl⟩ (ct_X1_stepsToScanner l G n σ o82 a1) (jrd_of h82) (fun _ _ => cwV 1 X.1.2.2.2.2 (lw_V q2507 q2509 qs50 q138 q2510) rfl rfl rfl (by decide +kernel) ⟨(Nat.le_of_ble_eq_true rfl), (Nat.le_of_ble_eq_true rfl)⟩) g82 rfl rfl hl.1 rfl rfl (Nat.le_of_ble_eq_true rfl) dX1_cause_82 ?_
    refine J.bind (fun v85 h85 => ?_)
    refine J.cS (As := [.int 0, .int v82]) (rest := [.int 600]) (s2 := [.int v85, .int 600]) X ⟨rfl, rfl⟩ (ct_J12_max l G σ n 0 v82) (jrd_of h85) (fun _ _ => va_cwS 2 X.1.2.2.2.2 (lw_S q2543 q329 q152 q330) rfl rfl rfl (by decide +kernel) ⟨(Nat.le_of_ble_eq_true rfl), (Nat.le_of_ble_eq_true rfl)⟩) rfl hl.1 rfl rfl (Nat.le_of_ble_eq_true rfl) dX1_cause_85 ?_
    refine J.pu (fun _ _ _ _ k => lv_iadd X.1.1 X.1.2.1 dX1_cause_88 k) ?_
    refine J.pu (fun _ _ _ _ k => lv_goto (tgt := 131) X.1.1 X.1.2.1 dX1_cause_89 (by decide) k) ?_
    exact J.iret (vr := jrI) (fin := fun _ : Int32 => σ) (t := t) X hr (by rfl) (by rfl) dX1_cause_131
  refine J.ite (fun c1_5 => ?_) (fun c1_5 => ?_)
  · refine J.pu (fun _ _ _ _ k => lv_tableIn (tgt := 92) (off := 91) X.1.1 X.1.2.1 dX1_cause_1 (by rw [c1_5]; decide) (by rw [c1_5]; decide) (by rw [c1_5]; decide) (by decide) k) ?_
    refine J.pu (fun _ _ _ _ k => lv_sipush (v := 700) X.1.1 X.1.2.1 dX1_cause_92 (by decide) k) ?_
    refine J.pu (fun _ _ _ _ k => W.rload_n X.1.1 X.1.2.1 dX1_cause_95 rfl (lv_at hl 1 rfl) k) ?_
    refine J.getIN (k := 1) (ci := 4) X in_X5 (show jCl[4]? = some (RX5, TX5, 10) from rfl) (by decide) jnf37 (fun _ h => h) dX1_cause_96 (fun v96 h96 => ?_)
    refine J.pu (fun _ _ _ _ k => lv_iadd X.1.1 X.1.2.1 dX1_cause_99 k) ?_
    refine J.pu (fun _ _ _ _ k => lv_goto (tgt := 131) X.1.1 X.1.2.1 dX1_cause_100 (by decide) k) ?_
    exact J.iret (vr := jrI) (fin := fun _ : Int32 => σ) (t := t) X hr (by rfl) (by rfl) dX1_cause_131
  refine J.ite (fun c1_6 => ?_) (fun c1_6 => ?_)
  · refine J.pu (fun _ _ _ _ k => lv_tableIn (tgt := 103) (off := 102) X.1.1 X.1.2.1 dX1_cause_1 (by rw [c1_6]; decide) (by rw [c1_6]; decide) (by rw [c1_6]; decide) (by decide) k) ?_
    refine J.pu (fun _ _ _ _ k => lv_sipush (v := 900) X.1.1 X.1.2.1 dX1_cause_103 (by decide) k) ?_
    refine J.pu (fun _ _ _ _ k => lv_aload_n X.1.1 X.1.2.1 dX1_cause_106 rfl (lv_at hl 0 rfl) k) ?_
    refine J.getR (k := 4) (ci := 0) X in_X1 (show jCl[0]? = some (RX1, TX1, 9) from rfl) (by decide) q1329 (fun _ h => h) dX1_cause_107 (fun v107 h107 => ?_)
    refine J.pu (fun _ _ _ _ k => W.rload_n X.1.1 X.1.2.1 dX1_cause_110 rfl (lv_at hl 1 rfl) k) ?_
    refine J.bind (fun o111 g111 => ?_)
    refine J.bind (fun v111 h111 => ?_)
    refine J.cV (q := (RX2, TX2, 9)) (ci := 1) (As := [va_rf a1]) (rest := [.int 900]) (s2 := [.int v111, .int 900]) X ⟨rfl, rfl⟩ (ct_X2_lag l G n σ o111 a1) (jrd_of h111) (fun _ _ => cwV 1 X.1.2.2.2.2 (lw_V q2243 q2116 q2117 q139 q2118) rfl rfl rfl (by decide +kernel) ⟨(Nat.le_of_ble_eq_true rfl), (Nat.le_of_ble_eq_true rfl)⟩) g111 rfl rfl hl.1 rfl rfl (Nat.le_of_ble_eq_true rfl) dX1_cause_111 ?_
    refine J.pu (fun _ _ _ _ k => lv_iadd X.1.1 X.1.2.1 dX1_cause_114 k) ?_
    refine J.pu (fun _ _ _ _ k => lv_goto (tgt := 131) X.1.1 X.1.2.1 dX1_cause_115 (by decide) k) ?_
    exact J.iret (vr := jrI) (fin := fun _ : Int32 => σ) (t := t) X hr (by rfl) (by rfl) dX1_cause_131
  refine J.ite (fun c1_7 => ?_) (fun c1_7 => ?_)
  · refine J.pu (fun _ _ _ _ k => lv_tableIn (tgt := 118) (off := 117) X.1.1 X.1.2.1 dX1_cause_1 (by rw [c1_7]; decide) (by rw [c1_7]; decide) (by rw [c1_7]; decide) (by decide) k) ?_
    refine J.pu (fun _ _ _ _ k => lv_sipush (v := 1100) X.1.1 X.1.2.1 dX1_cause_118 (by decide) k) ?_
    refine J.pu (fun _ _ _ _ k => lv_aload_n X.1.1 X.1.2.1 dX1_cause_121 rfl (lv_at hl 0 rfl) k) ?_
    refine J.pu (fun _ _ _ _ k => W.rload_n X.1.1 X.1.2.1 dX1_cause_122 rfl (lv_at hl 1 rfl) k) ?_
    refine J.bind (fun o123 g123 => ?_)
    refine J.bind (fun v123 h123 => ?_)
    refine J.cV (q := (RX1, TX1, 9)) (ci := 0) (As := [va_rf a1]) (rest := [.int 1100]) (s2 := [.int v123, .int 1100]) X ⟨rfl, rfl⟩ (ct_X1_stepsToChute l G n σ o123 a1) (jrd_of h123) (fun _ _ => cwV 1 X.1.2.2.2.2 (lw_V q2518 q2520 qs51 q138 q2521) rfl rfl rfl (by decide +kernel) ⟨(Nat.le_of_ble_eq_true rfl), (Nat.le_of_ble_eq_true rfl)⟩) g123 rfl rfl hl.1 rfl rfl (Nat.le_of_ble_eq_true rfl) dX1_cause_123 ?_
    refine J.pu (fun _ _ _ _ k => lv_iadd X.1.1 X.1.2.1 dX1_cause_126 k) ?_
    refine J.pu (fun _ _ _ _ k => lv_goto (tgt := 131) X.1.1 X.1.2.1 dX1_cause_127 (by decide) k) ?_
    exact J.iret (vr := jrI) (fin := fun _ : Int32 => σ) (t := t) X hr (by rfl) (by rfl) dX1_cause_131
  by_cases b1 : a2.toInt < 1 ∨ 7 < a2.toInt
  · refine J.pu (fun _ _ _ _ k => lv_tableOut (tgt := 130) X.1.1 X.1.2.1 dX1_cause_1 b1 (by decide) k) ?_
    refine J.pu (fun _ _ _ _ k => lv_iconst (v := 0) X.1.1 X.1.2.1 dX1_cause_130 (by decide) k) ?_
    exact J.iret (vr := jrI) (fin := fun _ : Int32 => σ) (t := t) X hr (by rfl) (by rfl) dX1_cause_131
  · exfalso; have := lv_neT c1_1 (a := 1) rfl; have := lv_neT c1_2 (a := 2) rfl; have := lv_neT c1_3 (a := 3) rfl; have := lv_neT c1_4 (a := 4) rfl; have := lv_neT c1_5 (a := 5) rfl; have := lv_neT c1_6 (a := 6) rfl; have := lv_neT c1_7 (a := 7) rfl; omega
noncomputable def X1_whyNoSlip_b (G : jG) (n : Nat) (σ : jH) (this : Nat) (a1 : Int32) : Option (jTh Int32 × jH) :=
  (gR σ (some this) 0 4).bind fun v1 => (rc σ (some this) 0).bind fun o6 => tb (X1_parcelAt G n σ o6 a1) fun v6 S6 => (rc S6 v1 1).bind fun o9 => (X2_againstSlip G n S6 o9 v6).bind fun v9 => some (.inl v9, S6)
noncomputable def X1_whyNoSlip (G : jG) (n : Nat) (σ : jH) (this : Nat) (a1 : Int32) : Option (jTh Int32 × jH) := jck σ (X1_whyNoSlip_b G n σ this a1)
set_option maxHeartbeats 4000000 in
set_option maxRecDepth 100000 in
theorem ct_X1_whyNoSlip (l : Launch) (hfl : l.stackTraces = false) (G : jG) (n : Nat) (σ : jH) (this : Nat) (a1 : Int32) : jTt l G yX1_whyNoSlip (ws_ yX1_whyNoSlip cX1_whyNoSlip 2 (some .int)) 23 1263 jrI [.ref this, .int a1] σ (X1_whyNoSlip G n σ this a1) := by
  refine jTt.wr (lv := [(0, .ref this), (1, .int a1)]) rfl (Nat.le_of_ble_eq_true rfl) rfl ?_
  intro t p e s m args below meth c ls X hr hnm hout hl
  have X : jCx p c cX1_whyNoSlip 2 s m args RX1 G meth := X
  unfold X1_whyNoSlip_b
  refine J.pu (fun _ _ _ _ k => lv_aload_n X.1.1 X.1.2.1 dX1_whyNoSlip_0 rfl (lv_at hl 0 rfl) k) ?_
  refine J.getR (k := 4) (ci := 0) X in_X1 (show jCl[0]? = some (RX1, TX1, 9) from rfl) (by decide) q1329 (fun _ h => h) dX1_whyNoSlip_1 (fun v1 h1 => ?_)
  refine J.pu (fun _ _ _ _ k => lv_aload_n X.1.1 X.1.2.1 dX1_whyNoSlip_4 rfl (lv_at hl 0 rfl) k) ?_
  refine J.pu (fun _ _ _ _ k => lv_iload_n X.1.1 X.1.2.1 dX1_whyNoSlip_5 rfl (lv_at hl 1 rfl) k) ?_
  refine J.bind (fun o6 g6 => ?_)
  refine J.tV (q := (RX1, TX1, 9)) (ci := 0) (As := [.int a1]) (rest := [va_rf v1]) X hout ⟨rfl, rfl⟩ (ct_X1_parcelAt l hfl G n σ o6 a1) (fun _ _ => cwV 1 X.1.2.2.2.2 (lw_V q2454 q2456 qs47 q138 q2457) rfl rfl rfl (by decide +kernel) ⟨(Nat.le_of_ble_eq_true rfl), (Nat.le_of_ble_eq_true rfl)⟩) g6 rfl rfl hl.1 rfl (by simp [va_rf_cat, jcI, jcA, jcJ, jcD, jcF]) dX1_whyNoSlip_6 (fun v6 S6 h6 => ?_)
  refine J.geq (g2 := F0 m 9 ls [va_rf v6, va_rf v1]) rfl ?_
  refine J.bind (fun o9 g9 => ?_)
  refine J.bind (fun v9 h9 => ?_)
  refine J.cV (q := (RX2, TX2, 9)) (ci := 1) (As := [va_rf v6]) (rest := []) (s2 := [.int v9]) X ⟨rfl, rfl⟩ (ct_X2_againstSlip l G n S6 o9 v6) (jrd_of h9) (fun _ _ => cwV 1 X.1.2.2.2.2 (lw_V q2555 q2039 q2040 q139 q2041) rfl rfl rfl (by decide +kernel) ⟨(Nat.le_of_ble_eq_true rfl), (Nat.le_of_ble_eq_true rfl)⟩) g9 rfl rfl hl.1 rfl rfl (Nat.le_of_ble_eq_true rfl) dX1_whyNoSlip_9 ?_
  exact J.tret (J.iret (vr := fun t : Int32 × jH => jrI t.1) (fin := (Prod.snd : Int32 × jH → jH)) (t := (v9, S6)) X hr (by rfl) (by rfl) dX1_whyNoSlip_12)
noncomputable def X12_does_b (G : jG) (n : Nat) (σ : jH) (this : Nat) (a1 : Option Nat) : Option (Int32 × jH) :=
  (rc σ a1 1).bind fun o1 => (X2_againstPut G n σ o1).bind fun v1 => if v1 = 0 then ((rc σ (some this) 9).bind fun o9 => (X11_first_X12 G n σ o9).bind fun v9 => (rc σ (some this) 9).bind fun o13 => (X11_second_X12 G n σ o13).bind fun v13 => (rc σ a1 1).bind fun o16 => bd (X2_puts G n σ o16 v9 v13) fun v16 S16 => if v16 < 0 then (some (0, S16)) else (some (1, S16))) else (some (0, σ))
noncomputable def X12_does (G : jG) (n : Nat) (σ : jH) (this : Nat) (a1 : Option Nat) : Option (Int32 × jH) := jck σ (X12_does_b G n σ this a1)
set_option maxHeartbeats 4000000 in
set_option maxRecDepth 100000 in
theorem ct_X12_does (l : Launch) (G : jG) (n : Nat) (σ : jH) (this : Nat) (a1 : Option Nat) : jCt l G yX12_does (ws_ yX12_does cX12_does 2 (some .boolean)) 23 1269 jrI [.ref this, va_rf a1] σ (X12_does G n σ this a1) := by
  refine jCt.wr (lv := [(0, .ref this), (1, va_rf a1)]) (plainFor_of_name (by decide)) (by simp [lg_sl, va_rf_cat, jcI, jcA, jcJ, jcD, jcF]) (by simp [lv_args, va_rf_cat, jcI, jcA, jcJ, jcD, jcF]) ?_
  intro t p e s m args below meth c ls X hr hnm hl
  have X : jCx p c cX12_does 2 s m args RX12 G meth := X
  unfold X12_does_b
  refine J.pu (fun _ _ _ _ k => W.rload_n X.1.1 X.1.2.1 dX12_does_0 rfl (lv_at hl 1 rfl) k) ?_
  refine J.bind (fun o1 g1 => ?_)
  refine J.bind (fun v1 h1 => ?_)
  refine J.cV (q := (RX2, TX2, 9)) (ci := 1) (As := []) (rest := []) (s2 := [.int v1]) X ⟨rfl, rfl⟩ (ct_X2_againstPut l G n σ o1) (jrd_of h1) (fun _ _ => cwV 0 X.1.2.2.2.2 (lw_V q1995 q1996 q1997 q139 q1998) rfl rfl rfl (by decide +kernel) ⟨(Nat.le_of_ble_eq_true rfl), (Nat.le_of_ble_eq_true rfl)⟩) g1 rfl rfl hl.1 rfl rfl (Nat.le_of_ble_eq_true rfl) dX12_does_1 ?_
  refine J.br (fun _ _ _ _ ka kb => lv_if_ne (tgt := 26) X.1.1 X.1.2.1 dX12_does_4 (by decide) kb ka) (fun c4 => ?_) (fun c4 => ?_)
  · refine J.pu (fun _ _ _ _ k => W.rload_n X.1.1 X.1.2.1 dX12_does_7 rfl (lv_at hl 1 rfl) k) ?_
    refine J.pu (fun _ _ _ _ k => lv_aload_n X.1.1 X.1.2.1 dX12_does_8 rfl (lv_at hl 0 rfl) k) ?_
    refine J.bind (fun o9 g9 => ?_)
    refine J.bind (fun v9 h9 => ?_)
    refine J.cU (q := (RX12, TX12, 2)) (ci := 9) (As := []) (rest := [va_rf a1]) (s2 := [.int v9, va_rf a1]) X ⟨rfl, rfl⟩ (ct_X11_first_X12 l G n σ o9) (jrd_of h9) (fun _ _ => va_cwU 0 X.1.2.2.2.2 (lw_U q2005 q2006 q2007 q1968 q183 q1969) rfl rfl rfl rfl (by decide +kernel) ⟨(Nat.le_of_ble_eq_true rfl), (Nat.le_of_ble_eq_true rfl)⟩) g9 rfl rfl hl.1 rfl rfl (by simp [va_rf_cat, jcI, jcA, jcJ, jcD, jcF]) dX12_does_9 ?_
    refine J.pu (fun _ _ _ _ k => lv_aload_n X.1.1 X.1.2.1 dX12_does_12 rfl (lv_at hl 0 rfl) k) ?_
    refine J.bind (fun o13 g13 => ?_)
    refine J.bind (fun v13 h13 => ?_)
    refine J.cU (q := (RX12, TX12, 2)) (ci := 9) (As := []) (rest := [.int v9, va_rf a1]) (s2 := [.int v13, .int v9, va_rf a1]) X ⟨rfl, rfl⟩ (ct_X11_second_X12 l G n σ o13) (jrd_of h13) (fun _ _ => va_cwU 0 X.1.2.2.2.2 (lw_U q2008 q2009 q2010 q1986 q183 q1987) rfl rfl rfl rfl (by decide +kernel) ⟨(Nat.le_of_ble_eq_true rfl), (Nat.le_of_ble_eq_true rfl)⟩) g13 rfl rfl hl.1 rfl rfl (by simp [va_rf_cat, jcI, jcA, jcJ, jcD, jcF]) dX12_does_13 ?_
    refine J.bind (fun o16 g16 => ?_)
    refine J.bd' (fun v16 S16 h16 => ?_)
    refine J.cV (q := (RX2, TX2, 9)) (ci := 1) (As := [.int v9, .int v13]) (rest := []) (s2 := [.int v16]) X ⟨rfl, rfl⟩ (ct_X2_puts l G n σ o16 v9 v13) h16 (fun _ _ => cwV 2 X.1.2.2.2.2 (lw_V q2011 q2012 q2013 q139 q2014) rfl rfl rfl (by decide +kernel) ⟨(Nat.le_of_ble_eq_true rfl), (Nat.le_of_ble_eq_true rfl)⟩) g16 rfl rfl hl.1 rfl rfl (Nat.le_of_ble_eq_true rfl) dX12_does_16 ?_
    refine J.br (fun _ _ _ _ ka kb => lv_if_lt (tgt := 26) X.1.1 X.1.2.1 dX12_does_19 (by decide) ka kb) (fun c19 => ?_) (fun c19 => ?_)
    · refine J.pu (fun _ _ _ _ k => lv_iconst (v := 0) X.1.1 X.1.2.1 dX12_does_26 (by decide) k) ?_
      exact J.zret (vr := fun t : Int32 × jH => jrI t.1) (fin := Prod.snd) (t := t) X hr (by decide) (by rfl) (by rfl) dX12_does_27
    · refine J.pu (fun _ _ _ _ k => lv_iconst (v := 1) X.1.1 X.1.2.1 dX12_does_22 (by decide) k) ?_
      refine J.pu (fun _ _ _ _ k => lv_goto (tgt := 27) X.1.1 X.1.2.1 dX12_does_23 (by decide) k) ?_
      exact J.zret (vr := fun t : Int32 × jH => jrI t.1) (fin := Prod.snd) (t := t) X hr (by decide) (by rfl) (by rfl) dX12_does_27
  · refine J.pu (fun _ _ _ _ k => lv_iconst (v := 0) X.1.1 X.1.2.1 dX12_does_26 (by decide) k) ?_
    exact J.zret (vr := fun t : Int32 × jH => jrI t.1) (fin := Prod.snd) (t := t) X hr (by decide) (by rfl) (by rfl) dX12_does_27
noncomputable def X14_does_b (G : jG) (n : Nat) (σ : jH) (this : Nat) (a1 : Option Nat) : Option (Int32 × jH) :=
  (rc σ (some this) 11).bind fun o1 => (X11_first_X14 G n σ o1).bind fun v1 => (gR σ a1 1 4).bind fun v5 => (rc σ v5 15).bind fun o8 => (lSize 0 σ o8).bind fun v8 => if v8 ≤ v1 then (some (0, σ)) else ((rc σ (some this) 11).bind fun o19 => (X11_first_X14 G n σ o19).bind fun v19 => (rc σ a1 1).bind fun o22 => (X2_parcel G n σ o22 v19).bind fun v22 => (rc σ a1 1).bind fun o25 => (X2_againstSlip G n σ o25 v22).bind fun v25 => if v25 = 0 then ((rc σ (some this) 11).bind fun o34 => (X11_first_X14 G n σ o34).bind fun v34 => (rc σ a1 1).bind fun o37 => (X2_parcel G n σ o37 v34).bind fun v37 => (rc σ a1 1).bind fun o40 => bd (X2_slips G n σ o40 v37) fun v40 S40 => if v40 < 0 then (some (0, S40)) else (some (1, S40))) else (some (0, σ)))
noncomputable def X14_does (G : jG) (n : Nat) (σ : jH) (this : Nat) (a1 : Option Nat) : Option (Int32 × jH) := jck σ (X14_does_b G n σ this a1)
set_option maxHeartbeats 4000000 in
set_option maxRecDepth 100000 in
theorem ct_X14_does (l : Launch) (G : jG) (n : Nat) (σ : jH) (this : Nat) (a1 : Option Nat) : jCt l G yX14_does (ws_ yX14_does cX14_does 2 (some .boolean)) 23 1267 jrI [.ref this, va_rf a1] σ (X14_does G n σ this a1) := by
  refine jCt.wr (lv := [(0, .ref this), (1, va_rf a1)]) (plainFor_of_name (by decide)) (by simp [lg_sl, va_rf_cat, jcI, jcA, jcJ, jcD, jcF]) (by simp [lv_args, va_rf_cat, jcI, jcA, jcJ, jcD, jcF]) ?_
  intro t p e s m args below meth c ls X hr hnm hl
  have X : jCx p c cX14_does 2 s m args RX14 G meth := X
  unfold X14_does_b
  refine J.pu (fun _ _ _ _ k => lv_aload_n X.1.1 X.1.2.1 dX14_does_0 rfl (lv_at hl 0 rfl) k) ?_
  refine J.bind (fun o1 g1 => ?_)
  refine J.bind (fun v1 h1 => ?_)
  refine J.cU (q := (RX14, TX14, 2)) (ci := 11) (As := []) (rest := []) (s2 := [.int v1]) X ⟨rfl, rfl⟩ (ct_X11_first_X14 l G n σ o1) (jrd_of h1) (fun _ _ => va_cwU 0 X.1.2.2.2.2 (lw_U q2032 q2033 q2034 q1968 q183 q1969) rfl rfl rfl rfl (by decide +kernel) ⟨(Nat.le_of_ble_eq_true rfl), (Nat.le_of_ble_eq_true rfl)⟩) g1 rfl rfl hl.1 rfl rfl (Nat.le_of_ble_eq_true rfl) dX14_does_1 ?_
  refine J.pu (fun _ _ _ _ k => W.rload_n X.1.1 X.1.2.1 dX14_does_4 rfl (lv_at hl 1 rfl) k) ?_
  refine J.getRN (k := 4) (ci := 1) X in_X2 (show jCl[1]? = some (RX2, TX2, 9) from rfl) (by decide) jnf9 (fun _ h => h) dX14_does_5 (fun v5 h5 => ?_)
  refine J.bind (fun o8 g8 => ?_)
  refine J.bind (fun v8 h8 => ?_)
  refine J.cF (q := (RJ2, TJ2, 3)) (ci := 15) (As := []) (rest := [.int v1]) (s2 := [.int v8, .int v1]) X ⟨rfl, rfl⟩ (ct_J2_size l G σ o8) (jrd_of h8) (fun _ _ => va_cwF 0 X.1.2.2.2.2 (lw_F q2036 q832 q834 q142 q836) rfl rfl rfl (jfw2 X.2.1) (by decide +kernel) ⟨(Nat.le_of_ble_eq_true rfl), (Nat.le_of_ble_eq_true rfl)⟩) g8 rfl rfl hl.1 rfl rfl (Nat.le_of_ble_eq_true rfl) dX14_does_8 ?_
  refine J.br (fun _ _ _ _ ka kb => lv_icmp_ge (tgt := 50) X.1.1 X.1.2.1 dX14_does_13 (by decide) ka kb) (fun c13 => ?_) (fun c13 => ?_)
  · refine J.pu (fun _ _ _ _ k => lv_iconst (v := 0) X.1.1 X.1.2.1 dX14_does_50 (by decide) k) ?_
    exact J.zret (vr := fun t : Int32 × jH => jrI t.1) (fin := Prod.snd) (t := t) X hr (by decide) (by rfl) (by rfl) dX14_does_51
  · refine J.pu (fun _ _ _ _ k => W.rload_n X.1.1 X.1.2.1 dX14_does_16 rfl (lv_at hl 1 rfl) k) ?_
    refine J.pu (fun _ _ _ _ k => W.rload_n X.1.1 X.1.2.1 dX14_does_17 rfl (lv_at hl 1 rfl) k) ?_
    refine J.pu (fun _ _ _ _ k => lv_aload_n X.1.1 X.1.2.1 dX14_does_18 rfl (lv_at hl 0 rfl) k) ?_
    refine J.bind (fun o19 g19 => ?_)
    refine J.bind (fun v19 h19 => ?_)
    refine J.cU (q := (RX14, TX14, 2)) (ci := 11) (As := []) (rest := [va_rf a1, va_rf a1]) (s2 := [.int v19, va_rf a1, va_rf a1]) X ⟨rfl, rfl⟩ (ct_X11_first_X14 l G n σ o19) (jrd_of h19) (fun _ _ => va_cwU 0 X.1.2.2.2.2 (lw_U q2032 q2033 q2034 q1968 q183 q1969) rfl rfl rfl rfl (by decide +kernel) ⟨(Nat.le_of_ble_eq_true rfl), (Nat.le_of_ble_eq_true rfl)⟩) g19 rfl rfl hl.1 rfl rfl (by simp [va_rf_cat, jcI, jcA, jcJ, jcD, jcF]) dX14_does_19 ?_
    refine J.bind (fun o22 g22 => ?_)
    refine J.bind (fun v22 h22 => ?_)
    refine J.cV (q := (RX2, TX2, 9)) (ci := 1) (As := [.int v19]) (rest := [va_rf a1]) (s2 := [va_rf v22, va_rf a1]) X ⟨rfl, rfl⟩ (ct_X2_parcel l G n σ o22 v19) (jrd_of h22) (fun _ _ => cwV 1 X.1.2.2.2.2 (lw_V q2037 q943 q944 q139 q945) rfl rfl rfl (by decide +kernel) ⟨(Nat.le_of_ble_eq_true rfl), (Nat.le_of_ble_eq_true rfl)⟩) g22 rfl rfl hl.1 rfl rfl (by simp [va_rf_cat, jcI, jcA, jcJ, jcD, jcF]) dX14_does_22 ?_
    refine J.bind (fun o25 g25 => ?_)
    refine J.bind (fun v25 h25 => ?_)
    refine J.cV (q := (RX2, TX2, 9)) (ci := 1) (As := [va_rf v22]) (rest := []) (s2 := [.int v25]) X ⟨rfl, rfl⟩ (ct_X2_againstSlip l G n σ o25 v22) (jrd_of h25) (fun _ _ => cwV 1 X.1.2.2.2.2 (lw_V q2038 q2039 q2040 q139 q2041) rfl rfl rfl (by decide +kernel) ⟨(Nat.le_of_ble_eq_true rfl), (Nat.le_of_ble_eq_true rfl)⟩) g25 rfl rfl hl.1 rfl rfl (Nat.le_of_ble_eq_true rfl) dX14_does_25 ?_
    refine J.br (fun _ _ _ _ ka kb => lv_if_ne (tgt := 50) X.1.1 X.1.2.1 dX14_does_28 (by decide) kb ka) (fun c28 => ?_) (fun c28 => ?_)
    · refine J.pu (fun _ _ _ _ k => W.rload_n X.1.1 X.1.2.1 dX14_does_31 rfl (lv_at hl 1 rfl) k) ?_
      refine J.pu (fun _ _ _ _ k => W.rload_n X.1.1 X.1.2.1 dX14_does_32 rfl (lv_at hl 1 rfl) k) ?_
      refine J.pu (fun _ _ _ _ k => lv_aload_n X.1.1 X.1.2.1 dX14_does_33 rfl (lv_at hl 0 rfl) k) ?_
      refine J.bind (fun o34 g34 => ?_)
      refine J.bind (fun v34 h34 => ?_)
      refine J.cU (q := (RX14, TX14, 2)) (ci := 11) (As := []) (rest := [va_rf a1, va_rf a1]) (s2 := [.int v34, va_rf a1, va_rf a1]) X ⟨rfl, rfl⟩ (ct_X11_first_X14 l G n σ o34) (jrd_of h34) (fun _ _ => va_cwU 0 X.1.2.2.2.2 (lw_U q2032 q2033 q2034 q1968 q183 q1969) rfl rfl rfl rfl (by decide +kernel) ⟨(Nat.le_of_ble_eq_true rfl), (Nat.le_of_ble_eq_true rfl)⟩) g34 rfl rfl hl.1 rfl rfl (by simp [va_rf_cat, jcI, jcA, jcJ, jcD, jcF]) dX14_does_34 ?_
      refine J.bind (fun o37 g37 => ?_)
      refine J.bind (fun v37 h37 => ?_)
      refine J.cV (q := (RX2, TX2, 9)) (ci := 1) (As := [.int v34]) (rest := [va_rf a1]) (s2 := [va_rf v37, va_rf a1]) X ⟨rfl, rfl⟩ (ct_X2_parcel l G n σ o37 v34) (jrd_of h37) (fun _ _ => cwV 1 X.1.2.2.2.2 (lw_V q2037 q943 q944 q139 q945) rfl rfl rfl (by decide +kernel) ⟨(Nat.le_of_ble_eq_true rfl), (Nat.le_of_ble_eq_true rfl)⟩) g37 rfl rfl hl.1 rfl rfl (by simp [va_rf_cat, jcI, jcA, jcJ, jcD, jcF]) dX14_does_37 ?_
      refine J.bind (fun o40 g40 => ?_)
      refine J.bd' (fun v40 S40 h40 => ?_)
      refine J.cV (q := (RX2, TX2, 9)) (ci := 1) (As := [va_rf v37]) (rest := []) (s2 := [.int v40]) X ⟨rfl, rfl⟩ (ct_X2_slips l G n σ o40 v37) h40 (fun _ _ => cwV 1 X.1.2.2.2.2 (lw_V q2042 q2043 q2044 q139 q2045) rfl rfl rfl (by decide +kernel) ⟨(Nat.le_of_ble_eq_true rfl), (Nat.le_of_ble_eq_true rfl)⟩) g40 rfl rfl hl.1 rfl rfl (Nat.le_of_ble_eq_true rfl) dX14_does_40 ?_
      refine J.br (fun _ _ _ _ ka kb => lv_if_lt (tgt := 50) X.1.1 X.1.2.1 dX14_does_43 (by decide) ka kb) (fun c43 => ?_) (fun c43 => ?_)
      · refine J.pu (fun _ _ _ _ k => lv_iconst (v := 0) X.1.1 X.1.2.1 dX14_does_50 (by decide) k) ?_
        exact J.zret (vr := fun t : Int32 × jH => jrI t.1) (fin := Prod.snd) (t := t) X hr (by decide) (by rfl) (by rfl) dX14_does_51
      · refine J.pu (fun _ _ _ _ k => lv_iconst (v := 1) X.1.1 X.1.2.1 dX14_does_46 (by decide) k) ?_
        refine J.pu (fun _ _ _ _ k => lv_goto (tgt := 51) X.1.1 X.1.2.1 dX14_does_47 (by decide) k) ?_
        exact J.zret (vr := fun t : Int32 × jH => jrI t.1) (fin := Prod.snd) (t := t) X hr (by decide) (by rfl) (by rfl) dX14_does_51
    · refine J.pu (fun _ _ _ _ k => lv_iconst (v := 0) X.1.1 X.1.2.1 dX14_does_50 (by decide) k) ?_
      exact J.zret (vr := fun t : Int32 × jH => jrI t.1) (fin := Prod.snd) (t := t) X hr (by decide) (by rfl) (by rfl) dX14_does_51
noncomputable def X2_takes_h206 (G : jG) (n : Nat) (this : Nat) (a1 : Option Nat) (rec206 : Int32 × jH → Option ((Option Nat) × jH)) (q206 : Int32 × jH) : Option ((Option Nat) × jH) :=
  let x2_206 := q206.1; let B206 := q206.2; (gR B206 (some this) 1 3).bind fun v208 => (rc B206 v208 15).bind fun o211 => (lSize 0 B206 o211).bind fun v211 => if v211 ≤ x2_206 then ((gR B206 a1 1 6).bind fun v240 => (gR B206 (some this) 1 6).bind fun v245 => (acI G B206 v240 0 v245 0 12).bind fun S251 => (gI S251 a1 1 7).bind fun v256 => (pI G S251 (some this) 1 7 v256).bind fun S259 => (gI S259 a1 1 8).bind fun v264 => (pI G S259 (some this) 1 8 v264).bind fun S267 => some ((some this), S267)) else ((rc B206 (some this) 1).bind fun o222 => (X2_chute G n B206 o222 x2_206).bind fun v222 => (rc B206 a1 1).bind fun o227 => (X2_chute G n B206 o227 x2_206).bind fun v227 => (rc B206 (some this) 1).bind fun o230 => bd (X2_fills G n B206 o230 v222 v227) fun v230 S230 => rec206 ((x2_206 + 1), S230))
noncomputable def X2_takes_j198 (G : jG) (n : Nat) (this : Nat) (a1 : Option Nat) (rec154 : Int32 × jH → Option ((Option Nat) × jH)) (x2_198 : Int32) (B198 : jH) : Option ((Option Nat) × jH) :=
  rec154 ((x2_198 + 1), B198)
noncomputable def X2_takes_h154 (G : jG) (n : Nat) (this : Nat) (a1 : Option Nat) (rec154 : Int32 × jH → Option ((Option Nat) × jH)) (q154 : Int32 × jH) : Option ((Option Nat) × jH) :=
  let x2_154 := q154.1; let B154 := q154.2; (gR B154 (some this) 1 4).bind fun v156 => (rc B154 v156 15).bind fun o159 => (lSize 0 B154 o159).bind fun v159 => if v159 ≤ x2_154 then (jloop (X2_takes_h206 G n this a1) n (0, B154)) else ((rc B154 (some this) 1).bind fun o169 => (X2_parcel G n B154 o169 x2_154).bind fun v169 => (rc B154 v169 4).bind fun o172 => (X5_isOn G n B154 o172).bind fun v172 => if v172 = 0 then (X2_takes_j198 G n this a1 rec154 x2_154 B154) else ((gR B154 (some this) 1 5).bind fun v179 => (rc B154 (some this) 1).bind fun o184 => (X2_parcel G n B154 o184 x2_154).bind fun v184 => (gI B154 v184 4 5).bind fun v187 => (rc B154 (some this) 1).bind fun o192 => (X2_parcel G n B154 o192 x2_154).bind fun v192 => (rc B154 v179 2).bind fun o195 => bd (X3_lays G n B154 o195 v187 v192) fun v195 S195 => X2_takes_j198 G n this a1 rec154 x2_154 S195))
noncomputable def X2_takes_j139 (G : jG) (n : Nat) (this : Nat) (a1 : Option Nat) (rec47 : Int32 × jH → Option ((Option Nat) × jH)) (x2_139 : Int32) (B139 : jH) : Option ((Option Nat) × jH) :=
  rec47 ((x2_139 + 1), B139)
noncomputable def X2_takes_h47 (G : jG) (n : Nat) (this : Nat) (a1 : Option Nat) (rec47 : Int32 × jH → Option ((Option Nat) × jH)) (q47 : Int32 × jH) : Option ((Option Nat) × jH) :=
  let x2_47 := q47.1; let B47 := q47.2; (gR B47 a1 1 4).bind fun v49 => (rc B47 v49 15).bind fun o52 => (lSize 0 B47 o52).bind fun v52 => if v52 ≤ x2_47 then ((gR B47 (some this) 1 5).bind fun v146 => (rc B47 v146 2).bind fun o149 => bd (X3_clears G n B47 o149) fun v149 S149 => jloop (X2_takes_h154 G n this a1) n (0, S149)) else ((rc B47 a1 1).bind fun o62 => (X2_parcel G n B47 o62 x2_47).bind fun v62 => (gR B47 (some this) 1 4).bind fun v68 => (rc B47 v68 15).bind fun o71 => (lSize 0 B47 o71).bind fun v71 => if x2_47 = v71 then ((gR B47 (some this) 1 4).bind fun v80 => (rc B47 v62 4).bind fun o84 => bd (X5_twin G n B47 o84) fun v84 S84 => (rc S84 v80 15).bind fun o87 => bd (jck S84 (alAdd G S84 o87 v84)) fun v87 S87 => X2_takes_j139 G n this a1 rec47 x2_47 S87) else ((rc B47 (some this) 1).bind fun o98 => (X2_parcel G n B47 o98 x2_47).bind fun v98 => (gI B47 v98 4 1).bind fun v101 => (gI B47 v62 4 1).bind fun v105 => if v101 = v105 then ((rc B47 (some this) 1).bind fun o131 => (X2_parcel G n B47 o131 x2_47).bind fun v131 => (rc B47 v131 4).bind fun o135 => bd (X5_takes G n B47 o135 v62) fun v135 S135 => X2_takes_j139 G n this a1 rec47 x2_47 S135) else ((gR B47 (some this) 1 4).bind fun v112 => (rc B47 v62 4).bind fun o117 => bd (X5_twin G n B47 o117) fun v117 S117 => (rc S117 v112 15).bind fun o120 => bd (jck S117 (alSet G S117 o120 x2_47 v117)) fun v120 S120 => X2_takes_j139 G n this a1 rec47 x2_47 S120)))
noncomputable def X2_takes_h0 (G : jG) (n : Nat) (this : Nat) (a1 : Option Nat) (rec0 : jH → Option ((Option Nat) × jH)) (q0 : jH) : Option ((Option Nat) × jH) :=
  let B0 := q0; (gR B0 (some this) 1 4).bind fun v1 => (rc B0 v1 15).bind fun o4 => (lSize 0 B0 o4).bind fun v4 => (gR B0 a1 1 4).bind fun v10 => (rc B0 v10 15).bind fun o13 => (lSize 0 B0 o13).bind fun v13 => if v4 ≤ v13 then (jloop (X2_takes_h47 G n this a1) n (0, B0)) else ((gR B0 (some this) 1 4).bind fun v22 => (gR B0 (some this) 1 4).bind fun v26 => (rc B0 v26 15).bind fun o29 => (lSize 0 B0 o29).bind fun v29 => (rc B0 v22 15).bind fun o36 => bd (jck B0 (alRem G B0 o36 (v29 - 1))) fun v36 S36 => rec0 S36)
noncomputable def X2_takes_b (G : jG) (n : Nat) (σ : jH) (this : Nat) (a1 : Option Nat) : Option ((Option Nat) × jH) :=
  jloop (X2_takes_h0 G n this a1) n σ
noncomputable def X2_takes (G : jG) (n : Nat) (σ : jH) (this : Nat) (a1 : Option Nat) : Option ((Option Nat) × jH) := jck σ (X2_takes_b G n σ this a1)
set_option maxHeartbeats 4000000 in
set_option maxRecDepth 100000 in
theorem ct_X2_takes (l : Launch) (G : jG) (n : Nat) (σ : jH) (this : Nat) (a1 : Option Nat) : jCt l G yX2_takes (ws_ yX2_takes cX2_takes 4 (some (.object "SortingLoop$Loop"))) 23 1267 jrR [.ref this, va_rf a1] σ (X2_takes G n σ this a1) := by
  refine jCt.wr (lv := [(0, .ref this), (1, va_rf a1)]) (plainFor_of_name (by decide)) (by simp [lg_sl, va_rf_cat, jcI, jcA, jcJ, jcD, jcF]) (by simp [lv_args, va_rf_cat, jcI, jcA, jcJ, jcD, jcF]) ?_
  intro t p e s m args below meth c ls X hr hnm hl
  have X : jCx p c cX2_takes 4 s m args RX2 G meth := X
  have L206 : ∀ (n206 : Nat) (x2_206 : Int32) (B206 : jH) (ls : Array Slot), lv_has ls 4 [(0, .ref this), (1, va_rf a1), (2, .int x2_206)] → jGo l G 23 1267 σ (Prod.snd : (Option Nat) × jH → jH) (fun t => jrR t.1) t p e s m args below meth c (jloop (X2_takes_h206 G n this a1) n206 (x2_206, B206)) B206 (F0 m 206 ls []) := by
    intro n206
    induction n206 with
    | zero => intro x2_206 B206 ls hl; exact J.nil_
    | succ n206 ih206 =>
      intro x2_206 B206 ls hl
      refine J.eq (jloop_s _ _ _) ?_
      dsimp only [X2_takes_h206]
      refine J.pu (fun _ _ _ _ k => lv_iload_n X.1.1 X.1.2.1 dX2_takes_206 rfl (lv_at hl 2 rfl) k) ?_
      refine J.pu (fun _ _ _ _ k => lv_aload_n X.1.1 X.1.2.1 dX2_takes_207 rfl (lv_at hl 0 rfl) k) ?_
      refine J.getR (k := 3) (ci := 1) X in_X2 (show jCl[1]? = some (RX2, TX2, 9) from rfl) (by decide) q692 (fun _ h => h) dX2_takes_208 (fun v208 h208 => ?_)
      refine J.bind (fun o211 g211 => ?_)
      refine J.bind (fun v211 h211 => ?_)
      refine J.cF (q := (RJ2, TJ2, 3)) (ci := 15) (As := []) (rest := [.int x2_206]) (s2 := [.int v211, .int x2_206]) X ⟨rfl, rfl⟩ (ct_J2_size l G B206 o211) (jrd_of h211) (fun _ _ => va_cwF 0 X.1.2.2.2.2 (lw_F q829 q832 q834 q142 q836) rfl rfl rfl (jfw2 X.2.1) (by decide +kernel) ⟨(Nat.le_of_ble_eq_true rfl), (Nat.le_of_ble_eq_true rfl)⟩) g211 rfl rfl hl.1 rfl rfl (Nat.le_of_ble_eq_true rfl) dX2_takes_211 ?_
      refine J.br (fun _ _ _ _ ka kb => lv_icmp_ge (tgt := 239) X.1.1 X.1.2.1 dX2_takes_216 (by decide) ka kb) (fun c216 => ?_) (fun c216 => ?_)
      · refine J.pu (fun _ _ _ _ k => W.rload_n X.1.1 X.1.2.1 dX2_takes_239 rfl (lv_at hl 1 rfl) k) ?_
        refine J.getR (k := 6) (ci := 1) X in_X2 (show jCl[1]? = some (RX2, TX2, 9) from rfl) (by decide) q701 (fun _ h => h) dX2_takes_240 (fun v240 h240 => ?_)
        refine J.pu (fun _ _ _ _ k => lv_iconst (v := 0) X.1.1 X.1.2.1 dX2_takes_243 (by decide) k) ?_
        refine J.pu (fun _ _ _ _ k => lv_aload_n X.1.1 X.1.2.1 dX2_takes_244 rfl (lv_at hl 0 rfl) k) ?_
        refine J.getR (k := 6) (ci := 1) X in_X2 (show jCl[1]? = some (RX2, TX2, 9) from rfl) (by decide) q701 (fun _ h => h) dX2_takes_245 (fun v245 h245 => ?_)
        refine J.pu (fun _ _ _ _ k => lv_iconst (v := 0) X.1.1 X.1.2.1 dX2_takes_248 (by decide) k) ?_
        refine J.pu (fun _ _ _ _ k => lv_bipush (v := 12) X.1.1 X.1.2.1 dX2_takes_249 (by decide) k) ?_
        refine J.ac (rest := []) X q1321 hl.1 (Nat.le_of_ble_eq_true rfl) (Nat.le_trans (m := 400) (show 0 + (nativeFrameWords "java/lang/System" "arraycopy" 5 + 11) ≤ 400 by decide +kernel) (Nat.le_of_ble_eq_true rfl)) dX2_takes_251 (fun S251 h251 => ?_)
        refine J.pu (fun _ _ _ _ k => lv_aload_n X.1.1 X.1.2.1 dX2_takes_254 rfl (lv_at hl 0 rfl) k) ?_
        refine J.pu (fun _ _ _ _ k => W.rload_n X.1.1 X.1.2.1 dX2_takes_255 rfl (lv_at hl 1 rfl) k) ?_
        refine J.getI (k := 7) (ci := 1) X in_X2 (show jCl[1]? = some (RX2, TX2, 9) from rfl) (by decide) q704 (fun _ h => h) dX2_takes_256 (fun v256 h256 => ?_)
        refine J.putI (k := 7) (ci := 1) X in_X2 (show jCl[1]? = some (RX2, TX2, 9) from rfl) tyX2_ok (fun a ha b hb h => Or.inl (nmX2 a ha b hb h)) (by decide) q704 (fun _ h => h) rfl rfl dX2_takes_259 (fun S259 h259 => ?_)
        refine J.pu (fun _ _ _ _ k => lv_aload_n X.1.1 X.1.2.1 dX2_takes_262 rfl (lv_at hl 0 rfl) k) ?_
        refine J.pu (fun _ _ _ _ k => W.rload_n X.1.1 X.1.2.1 dX2_takes_263 rfl (lv_at hl 1 rfl) k) ?_
        refine J.getI (k := 8) (ci := 1) X in_X2 (show jCl[1]? = some (RX2, TX2, 9) from rfl) (by decide) q706 (fun _ h => h) dX2_takes_264 (fun v264 h264 => ?_)
        refine J.putI (k := 8) (ci := 1) X in_X2 (show jCl[1]? = some (RX2, TX2, 9) from rfl) tyX2_ok (fun a ha b hb h => Or.inl (nmX2 a ha b hb h)) (by decide) q706 (fun _ h => h) rfl rfl dX2_takes_267 (fun S267 h267 => ?_)
        refine J.pu (fun _ _ _ _ k => lv_aload_n X.1.1 X.1.2.1 dX2_takes_270 rfl (lv_at hl 0 rfl) k) ?_
        exact J.aret (vr := fun t : (Option Nat) × jH => jrR t.1) (fin := Prod.snd) (t := t) X hr (Or.inl ⟨_, rfl⟩) (by rfl) (by rfl) dX2_takes_271
      · refine J.pu (fun _ _ _ _ k => lv_aload_n X.1.1 X.1.2.1 dX2_takes_219 rfl (lv_at hl 0 rfl) k) ?_
        refine J.pu (fun _ _ _ _ k => lv_aload_n X.1.1 X.1.2.1 dX2_takes_220 rfl (lv_at hl 0 rfl) k) ?_
        refine J.pu (fun _ _ _ _ k => lv_iload_n X.1.1 X.1.2.1 dX2_takes_221 rfl (lv_at hl 2 rfl) k) ?_
        refine J.bind (fun o222 g222 => ?_)
        refine J.bind (fun v222 h222 => ?_)
        refine J.cV (q := (RX2, TX2, 9)) (ci := 1) (As := [.int x2_206]) (rest := [.ref this]) (s2 := [va_rf v222, .ref this]) X ⟨rfl, rfl⟩ (ct_X2_chute l G n B206 o222 x2_206) (jrd_of h222) (fun _ _ => cwV 1 X.1.2.2.2.2 (lw_V q843 q844 q845 q139 q846) rfl rfl rfl (by decide +kernel) ⟨(Nat.le_of_ble_eq_true rfl), (Nat.le_of_ble_eq_true rfl)⟩) g222 rfl rfl hl.1 rfl rfl (Nat.le_of_ble_eq_true rfl) dX2_takes_222 ?_
        refine J.pu (fun _ _ _ _ k => W.rload_n X.1.1 X.1.2.1 dX2_takes_225 rfl (lv_at hl 1 rfl) k) ?_
        refine J.pu (fun _ _ _ _ k => lv_iload_n X.1.1 X.1.2.1 dX2_takes_226 rfl (lv_at hl 2 rfl) k) ?_
        refine J.bind (fun o227 g227 => ?_)
        refine J.bind (fun v227 h227 => ?_)
        refine J.cV (q := (RX2, TX2, 9)) (ci := 1) (As := [.int x2_206]) (rest := [va_rf v222, .ref this]) (s2 := [va_rf v227, va_rf v222, .ref this]) X ⟨rfl, rfl⟩ (ct_X2_chute l G n B206 o227 x2_206) (jrd_of h227) (fun _ _ => cwV 1 X.1.2.2.2.2 (lw_V q843 q844 q845 q139 q846) rfl rfl rfl (by decide +kernel) ⟨(Nat.le_of_ble_eq_true rfl), (Nat.le_of_ble_eq_true rfl)⟩) g227 rfl rfl hl.1 rfl rfl (by simp [va_rf_cat, jcI, jcA, jcJ, jcD, jcF]) dX2_takes_227 ?_
        refine J.bind (fun o230 g230 => ?_)
        refine J.bd' (fun v230 S230 h230 => ?_)
        refine J.cV (q := (RX2, TX2, 9)) (ci := 1) (As := [va_rf v222, va_rf v227]) (rest := []) (s2 := []) X ⟨rfl, rfl⟩ (ct_X2_fills l G n B206 o230 v222 v227) h230 (fun _ _ => cwV 2 X.1.2.2.2.2 (lw_V q1045 q1047 qs8 q139 q1048) rfl rfl rfl (by decide +kernel) ⟨(Nat.le_of_ble_eq_true rfl), (Nat.le_of_ble_eq_true rfl)⟩) g230 rfl rfl hl.1 rfl rfl (Nat.le_of_ble_eq_true rfl) dX2_takes_230 ?_
        refine J.iinc (k := 2) (lv' := [(2, .int (x2_206 + 1)), (0, .ref this), (1, va_rf a1)]) (w := (x2_206 + 1)) X.1.1 X.1.2.1 dX2_takes_233 hl rfl rfl (by decide) (by first | rfl | simp [va_rf_cat, jcI, jcA, jcJ, jcD, jcF]) (fun ls hl => ?_)
        refine J.pu (fun _ _ _ _ k => lv_goto (tgt := 206) X.1.1 X.1.2.1 dX2_takes_236 (by decide) k) ?_
        exact ih206 (x2_206 + 1) S230 ls (lv_sub hl [1, 2, 0] rfl)
  have L154 : ∀ (n154 : Nat) (x2_154 : Int32) (B154 : jH) (ls : Array Slot), lv_has ls 4 [(0, .ref this), (1, va_rf a1), (2, .int x2_154)] → jGo l G 23 1267 σ (Prod.snd : (Option Nat) × jH → jH) (fun t => jrR t.1) t p e s m args below meth c (jloop (X2_takes_h154 G n this a1) n154 (x2_154, B154)) B154 (F0 m 154 ls []) := by
    intro n154
    induction n154 with
    | zero => intro x2_154 B154 ls hl; exact J.nil_
    | succ n154 ih154 =>
      have j198 : ∀ (x2_198 : Int32) (B198 : jH) (ls : Array Slot), lv_has ls 4 [(0, .ref this), (1, va_rf a1), (2, .int x2_198)] → jGo l G 23 1267 σ (Prod.snd : (Option Nat) × jH → jH) (fun t => jrR t.1) t p e s m args below meth c (X2_takes_j198 G n this a1 (jloop (X2_takes_h154 G n this a1) n154) x2_198 B198) B198 (F0 m 198 ls []) := by
        intro x2_198 B198 ls hl
        unfold X2_takes_j198
        refine J.iinc (k := 2) (lv' := [(2, .int (x2_198 + 1)), (0, .ref this), (1, va_rf a1)]) (w := (x2_198 + 1)) X.1.1 X.1.2.1 dX2_takes_198 hl rfl rfl (by decide) (by first | rfl | simp [va_rf_cat, jcI, jcA, jcJ, jcD, jcF]) (fun ls hl => ?_)
        refine J.pu (fun _ _ _ _ k => lv_goto (tgt := 154) X.1.1 X.1.2.1 dX2_takes_201 (by decide) k) ?_
        exact ih154 (x2_198 + 1) B198 ls (lv_sub hl [1, 2, 0] rfl)
      intro x2_154 B154 ls hl
      refine J.eq (jloop_s _ _ _) ?_
      dsimp only [X2_takes_h154]
      refine J.pu (fun _ _ _ _ k => lv_iload_n X.1.1 X.1.2.1 dX2_takes_154 rfl (lv_at hl 2 rfl) k) ?_
      refine J.pu (fun _ _ _ _ k => lv_aload_n X.1.1 X.1.2.1 dX2_takes_155 rfl (lv_at hl 0 rfl) k) ?_
      refine J.getR (k := 4) (ci := 1) X in_X2 (show jCl[1]? = some (RX2, TX2, 9) from rfl) (by decide) q696 (fun _ h => h) dX2_takes_156 (fun v156 h156 => ?_)
      refine J.bind (fun o159 g159 => ?_)
      refine J.bind (fun v159 h159 => ?_)
      refine J.cF (q := (RJ2, TJ2, 3)) (ci := 15) (As := []) (rest := [.int x2_154]) (s2 := [.int v159, .int x2_154]) X ⟨rfl, rfl⟩ (ct_J2_size l G B154 o159) (jrd_of h159) (fun _ _ => va_cwF 0 X.1.2.2.2.2 (lw_F q829 q832 q834 q142 q836) rfl rfl rfl (jfw2 X.2.1) (by decide +kernel) ⟨(Nat.le_of_ble_eq_true rfl), (Nat.le_of_ble_eq_true rfl)⟩) g159 rfl rfl hl.1 rfl rfl (Nat.le_of_ble_eq_true rfl) dX2_takes_159 ?_
      refine J.br (fun _ _ _ _ ka kb => lv_icmp_ge (tgt := 204) X.1.1 X.1.2.1 dX2_takes_164 (by decide) ka kb) (fun c164 => ?_) (fun c164 => ?_)
      · refine J.pu (fun _ _ _ _ k => lv_iconst (v := 0) X.1.1 X.1.2.1 dX2_takes_204 (by decide) k) ?_
        refine J.istore_n (i := 2) (lv' := [(2, .int 0), (0, .ref this), (1, va_rf a1)]) X.1.1 X.1.2.1 dX2_takes_205 rfl hl (by decide) (by first | rfl | simp [va_rf_cat, jcI, jcA, jcJ, jcD, jcF]) (fun ls hl => ?_)
        exact L206 n 0 B154 ls (lv_sub hl [1, 2, 0] rfl)
      · refine J.pu (fun _ _ _ _ k => lv_aload_n X.1.1 X.1.2.1 dX2_takes_167 rfl (lv_at hl 0 rfl) k) ?_
        refine J.pu (fun _ _ _ _ k => lv_iload_n X.1.1 X.1.2.1 dX2_takes_168 rfl (lv_at hl 2 rfl) k) ?_
        refine J.bind (fun o169 g169 => ?_)
        refine J.bind (fun v169 h169 => ?_)
        refine J.cV (q := (RX2, TX2, 9)) (ci := 1) (As := [.int x2_154]) (rest := []) (s2 := [va_rf v169]) X ⟨rfl, rfl⟩ (ct_X2_parcel l G n B154 o169 x2_154) (jrd_of h169) (fun _ _ => cwV 1 X.1.2.2.2.2 (lw_V q942 q943 q944 q139 q945) rfl rfl rfl (by decide +kernel) ⟨(Nat.le_of_ble_eq_true rfl), (Nat.le_of_ble_eq_true rfl)⟩) g169 rfl rfl hl.1 rfl rfl (Nat.le_of_ble_eq_true rfl) dX2_takes_169 ?_
        refine J.bind (fun o172 g172 => ?_)
        refine J.bind (fun v172 h172 => ?_)
        refine J.cV (q := (RX5, TX5, 10)) (ci := 4) (As := []) (rest := []) (s2 := [.int v172]) X ⟨rfl, rfl⟩ (ct_X5_isOn l G n B154 o172) (jrd_of h172) (fun _ _ => cwV 0 X.1.2.2.2.2 (lw_V q1040 q1041 q1042 q167 q1043) rfl rfl rfl (by decide +kernel) ⟨(Nat.le_of_ble_eq_true rfl), (Nat.le_of_ble_eq_true rfl)⟩) g172 rfl rfl hl.1 rfl rfl (Nat.le_of_ble_eq_true rfl) dX2_takes_172 ?_
        refine J.br (fun _ _ _ _ ka kb => lv_if_eq (tgt := 198) X.1.1 X.1.2.1 dX2_takes_175 (by decide) ka kb) (fun c175 => ?_) (fun c175 => ?_)
        · exact j198 x2_154 B154 ls (lv_sub hl [0, 1, 2] rfl)
        · refine J.pu (fun _ _ _ _ k => lv_aload_n X.1.1 X.1.2.1 dX2_takes_178 rfl (lv_at hl 0 rfl) k) ?_
          refine J.getR (k := 5) (ci := 1) X in_X2 (show jCl[1]? = some (RX2, TX2, 9) from rfl) (by decide) q699 (fun _ h => h) dX2_takes_179 (fun v179 h179 => ?_)
          refine J.pu (fun _ _ _ _ k => lv_aload_n X.1.1 X.1.2.1 dX2_takes_182 rfl (lv_at hl 0 rfl) k) ?_
          refine J.pu (fun _ _ _ _ k => lv_iload_n X.1.1 X.1.2.1 dX2_takes_183 rfl (lv_at hl 2 rfl) k) ?_
          refine J.bind (fun o184 g184 => ?_)
          refine J.bind (fun v184 h184 => ?_)
          refine J.cV (q := (RX2, TX2, 9)) (ci := 1) (As := [.int x2_154]) (rest := [va_rf v179]) (s2 := [va_rf v184, va_rf v179]) X ⟨rfl, rfl⟩ (ct_X2_parcel l G n B154 o184 x2_154) (jrd_of h184) (fun _ _ => cwV 1 X.1.2.2.2.2 (lw_V q942 q943 q944 q139 q945) rfl rfl rfl (by decide +kernel) ⟨(Nat.le_of_ble_eq_true rfl), (Nat.le_of_ble_eq_true rfl)⟩) g184 rfl rfl hl.1 rfl rfl (by simp [va_rf_cat, jcI, jcA, jcJ, jcD, jcF]) dX2_takes_184 ?_
          refine J.getIN (k := 5) (ci := 4) X in_X5 (show jCl[4]? = some (RX5, TX5, 10) from rfl) (by decide) jnf44 (fun _ h => h) dX2_takes_187 (fun v187 h187 => ?_)
          refine J.pu (fun _ _ _ _ k => lv_aload_n X.1.1 X.1.2.1 dX2_takes_190 rfl (lv_at hl 0 rfl) k) ?_
          refine J.pu (fun _ _ _ _ k => lv_iload_n X.1.1 X.1.2.1 dX2_takes_191 rfl (lv_at hl 2 rfl) k) ?_
          refine J.bind (fun o192 g192 => ?_)
          refine J.bind (fun v192 h192 => ?_)
          refine J.cV (q := (RX2, TX2, 9)) (ci := 1) (As := [.int x2_154]) (rest := [.int v187, va_rf v179]) (s2 := [va_rf v192, .int v187, va_rf v179]) X ⟨rfl, rfl⟩ (ct_X2_parcel l G n B154 o192 x2_154) (jrd_of h192) (fun _ _ => cwV 1 X.1.2.2.2.2 (lw_V q942 q943 q944 q139 q945) rfl rfl rfl (by decide +kernel) ⟨(Nat.le_of_ble_eq_true rfl), (Nat.le_of_ble_eq_true rfl)⟩) g192 rfl rfl hl.1 rfl rfl (by simp [va_rf_cat, jcI, jcA, jcJ, jcD, jcF]) dX2_takes_192 ?_
          refine J.bind (fun o195 g195 => ?_)
          refine J.bd' (fun v195 S195 h195 => ?_)
          refine J.cV (q := (RX3, TX3, 1)) (ci := 2) (As := [.int v187, va_rf v192]) (rest := []) (s2 := []) X ⟨rfl, rfl⟩ (ct_X3_lays l G n B154 o195 v187 v192) h195 (fun _ _ => cwV 2 X.1.2.2.2.2 (lw_V q1044 q1034 q1035 q159 q1036) rfl rfl rfl (by decide +kernel) ⟨(Nat.le_of_ble_eq_true rfl), (Nat.le_of_ble_eq_true rfl)⟩) g195 rfl rfl hl.1 rfl rfl (Nat.le_of_ble_eq_true rfl) dX2_takes_195 ?_
          exact j198 x2_154 S195 ls (lv_sub hl [0, 1, 2] rfl)
  have L47 : ∀ (n47 : Nat) (x2_47 : Int32) (B47 : jH) (ls : Array Slot), lv_has ls 4 [(0, .ref this), (1, va_rf a1), (2, .int x2_47)] → jGo l G 23 1267 σ (Prod.snd : (Option Nat) × jH → jH) (fun t => jrR t.1) t p e s m args below meth c (jloop (X2_takes_h47 G n this a1) n47 (x2_47, B47)) B47 (F0 m 47 ls []) := by
    intro n47
    induction n47 with
    | zero => intro x2_47 B47 ls hl; exact J.nil_
    | succ n47 ih47 =>
      have j139 : ∀ (x2_139 : Int32) (B139 : jH) (ls : Array Slot), lv_has ls 4 [(0, .ref this), (1, va_rf a1), (2, .int x2_139)] → jGo l G 23 1267 σ (Prod.snd : (Option Nat) × jH → jH) (fun t => jrR t.1) t p e s m args below meth c (X2_takes_j139 G n this a1 (jloop (X2_takes_h47 G n this a1) n47) x2_139 B139) B139 (F0 m 139 ls []) := by
        intro x2_139 B139 ls hl
        unfold X2_takes_j139
        refine J.iinc (k := 2) (lv' := [(2, .int (x2_139 + 1)), (0, .ref this), (1, va_rf a1)]) (w := (x2_139 + 1)) X.1.1 X.1.2.1 dX2_takes_139 hl rfl rfl (by decide) (by first | rfl | simp [va_rf_cat, jcI, jcA, jcJ, jcD, jcF]) (fun ls hl => ?_)
        refine J.pu (fun _ _ _ _ k => lv_goto (tgt := 47) X.1.1 X.1.2.1 dX2_takes_142 (by decide) k) ?_
        exact ih47 (x2_139 + 1) B139 ls (lv_sub hl [1, 2, 0] rfl)
      intro x2_47 B47 ls hl
      refine J.eq (jloop_s _ _ _) ?_
      dsimp only [X2_takes_h47]
      refine J.pu (fun _ _ _ _ k => lv_iload_n X.1.1 X.1.2.1 dX2_takes_47 rfl (lv_at hl 2 rfl) k) ?_
      refine J.pu (fun _ _ _ _ k => W.rload_n X.1.1 X.1.2.1 dX2_takes_48 rfl (lv_at hl 1 rfl) k) ?_
      refine J.getR (k := 4) (ci := 1) X in_X2 (show jCl[1]? = some (RX2, TX2, 9) from rfl) (by decide) q696 (fun _ h => h) dX2_takes_49 (fun v49 h49 => ?_)
      refine J.bind (fun o52 g52 => ?_)
      refine J.bind (fun v52 h52 => ?_)
      refine J.cF (q := (RJ2, TJ2, 3)) (ci := 15) (As := []) (rest := [.int x2_47]) (s2 := [.int v52, .int x2_47]) X ⟨rfl, rfl⟩ (ct_J2_size l G B47 o52) (jrd_of h52) (fun _ _ => va_cwF 0 X.1.2.2.2.2 (lw_F q829 q832 q834 q142 q836) rfl rfl rfl (jfw2 X.2.1) (by decide +kernel) ⟨(Nat.le_of_ble_eq_true rfl), (Nat.le_of_ble_eq_true rfl)⟩) g52 rfl rfl hl.1 rfl rfl (Nat.le_of_ble_eq_true rfl) dX2_takes_52 ?_
      refine J.br (fun _ _ _ _ ka kb => lv_icmp_ge (tgt := 145) X.1.1 X.1.2.1 dX2_takes_57 (by decide) ka kb) (fun c57 => ?_) (fun c57 => ?_)
      · refine J.pu (fun _ _ _ _ k => lv_aload_n X.1.1 X.1.2.1 dX2_takes_145 rfl (lv_at hl 0 rfl) k) ?_
        refine J.getR (k := 5) (ci := 1) X in_X2 (show jCl[1]? = some (RX2, TX2, 9) from rfl) (by decide) q699 (fun _ h => h) dX2_takes_146 (fun v146 h146 => ?_)
        refine J.bind (fun o149 g149 => ?_)
        refine J.bd' (fun v149 S149 h149 => ?_)
        refine J.cV (q := (RX3, TX3, 1)) (ci := 2) (As := []) (rest := []) (s2 := []) X ⟨rfl, rfl⟩ (ct_X3_clears l G n B47 o149) h149 (fun _ _ => cwV 0 X.1.2.2.2.2 (lw_V q1027 q1028 q1029 q159 q1030) rfl rfl rfl (by decide +kernel) ⟨(Nat.le_of_ble_eq_true rfl), (Nat.le_of_ble_eq_true rfl)⟩) g149 rfl rfl hl.1 rfl rfl (Nat.le_of_ble_eq_true rfl) dX2_takes_149 ?_
        refine J.pu (fun _ _ _ _ k => lv_iconst (v := 0) X.1.1 X.1.2.1 dX2_takes_152 (by decide) k) ?_
        refine J.istore_n (i := 2) (lv' := [(2, .int 0), (0, .ref this), (1, va_rf a1)]) X.1.1 X.1.2.1 dX2_takes_153 rfl hl (by decide) (by first | rfl | simp [va_rf_cat, jcI, jcA, jcJ, jcD, jcF]) (fun ls hl => ?_)
        exact L154 n 0 S149 ls (lv_sub hl [1, 2, 0] rfl)
      · refine J.pu (fun _ _ _ _ k => W.rload_n X.1.1 X.1.2.1 dX2_takes_60 rfl (lv_at hl 1 rfl) k) ?_
        refine J.pu (fun _ _ _ _ k => lv_iload_n X.1.1 X.1.2.1 dX2_takes_61 rfl (lv_at hl 2 rfl) k) ?_
        refine J.bind (fun o62 g62 => ?_)
        refine J.bind (fun v62 h62 => ?_)
        refine J.cV (q := (RX2, TX2, 9)) (ci := 1) (As := [.int x2_47]) (rest := []) (s2 := [va_rf v62]) X ⟨rfl, rfl⟩ (ct_X2_parcel l G n B47 o62 x2_47) (jrd_of h62) (fun _ _ => cwV 1 X.1.2.2.2.2 (lw_V q942 q943 q944 q139 q945) rfl rfl rfl (by decide +kernel) ⟨(Nat.le_of_ble_eq_true rfl), (Nat.le_of_ble_eq_true rfl)⟩) g62 rfl rfl hl.1 rfl rfl (Nat.le_of_ble_eq_true rfl) dX2_takes_62 ?_
        refine J.astore_n (r := v62) (i := 3) (lv' := [(3, va_rf v62), (0, .ref this), (1, va_rf a1), (2, .int x2_47)]) X.1.1 X.1.2.1 dX2_takes_65 rfl hl (by decide) (by first | rfl | simp [va_rf_cat, jcI, jcA, jcJ, jcD, jcF]) (fun ls hl => ?_)
        refine J.pu (fun _ _ _ _ k => lv_iload_n X.1.1 X.1.2.1 dX2_takes_66 rfl (lv_at hl 3 rfl) k) ?_
        refine J.pu (fun _ _ _ _ k => lv_aload_n X.1.1 X.1.2.1 dX2_takes_67 rfl (lv_at hl 1 rfl) k) ?_
        refine J.getR (k := 4) (ci := 1) X in_X2 (show jCl[1]? = some (RX2, TX2, 9) from rfl) (by decide) q696 (fun _ h => h) dX2_takes_68 (fun v68 h68 => ?_)
        refine J.bind (fun o71 g71 => ?_)
        refine J.bind (fun v71 h71 => ?_)
        refine J.cF (q := (RJ2, TJ2, 3)) (ci := 15) (As := []) (rest := [.int x2_47]) (s2 := [.int v71, .int x2_47]) X ⟨rfl, rfl⟩ (ct_J2_size l G B47 o71) (jrd_of h71) (fun _ _ => va_cwF 0 X.1.2.2.2.2 (lw_F q829 q832 q834 q142 q836) rfl rfl rfl (jfw2 X.2.1) (by decide +kernel) ⟨(Nat.le_of_ble_eq_true rfl), (Nat.le_of_ble_eq_true rfl)⟩) g71 rfl rfl hl.1 rfl rfl (Nat.le_of_ble_eq_true rfl) dX2_takes_71 ?_
        refine J.br (fun _ _ _ _ ka kb => lv_icmp_ne (tgt := 96) X.1.1 X.1.2.1 dX2_takes_76 (by decide) kb ka) (fun c76 => ?_) (fun c76 => ?_)
        · refine J.pu (fun _ _ _ _ k => lv_aload_n X.1.1 X.1.2.1 dX2_takes_79 rfl (lv_at hl 1 rfl) k) ?_
          refine J.getR (k := 4) (ci := 1) X in_X2 (show jCl[1]? = some (RX2, TX2, 9) from rfl) (by decide) q696 (fun _ h => h) dX2_takes_80 (fun v80 h80 => ?_)
          refine J.pu (fun _ _ _ _ k => W.rload_n X.1.1 X.1.2.1 dX2_takes_83 rfl (lv_at hl 0 rfl) k) ?_
          refine J.bind (fun o84 g84 => ?_)
          refine J.bd' (fun v84 S84 h84 => ?_)
          refine J.cV (q := (RX5, TX5, 10)) (ci := 4) (As := []) (rest := [va_rf v80]) (s2 := [va_rf v84, va_rf v80]) X ⟨rfl, rfl⟩ (ct_X5_twin l G n B47 o84) h84 (fun _ _ => cwV 0 X.1.2.2.2.2 (lw_V q947 q948 q949 q167 q950) rfl rfl rfl (by decide +kernel) ⟨(Nat.le_of_ble_eq_true rfl), (Nat.le_of_ble_eq_true rfl)⟩) g84 rfl rfl hl.1 rfl rfl (by simp [va_rf_cat, jcI, jcA, jcJ, jcD, jcF]) dX2_takes_84 ?_
          refine J.bind (fun o87 g87 => ?_)
          refine J.bd' (fun v87 S87 h87 => ?_)
          refine J.cF (q := (RJ2, TJ2, 3)) (ci := 15) (As := [va_rf v84]) (rest := []) (s2 := [.int v87]) X ⟨rfl, rfl⟩ (ct_J2_add l G S84 o87 v84) h87 (fun _ _ => va_cwF 1 X.1.2.2.2.2 (lw_F q914 q582 q584 q142 q586) rfl rfl rfl (jfw0 X.2.1) (by decide +kernel) ⟨(Nat.le_of_ble_eq_true rfl), (Nat.le_of_ble_eq_true rfl)⟩) g87 rfl rfl hl.1 rfl rfl (Nat.le_of_ble_eq_true rfl) dX2_takes_87 ?_
          refine J.pu (fun _ _ _ _ k => lv_pop X.1.1 X.1.2.1 dX2_takes_92 rfl k) ?_
          refine J.pu (fun _ _ _ _ k => lv_goto (tgt := 139) X.1.1 X.1.2.1 dX2_takes_93 (by decide) k) ?_
          exact j139 x2_47 S87 ls (lv_sub hl [1, 2, 3] rfl)
        · refine J.pu (fun _ _ _ _ k => lv_aload_n X.1.1 X.1.2.1 dX2_takes_96 rfl (lv_at hl 1 rfl) k) ?_
          refine J.pu (fun _ _ _ _ k => lv_iload_n X.1.1 X.1.2.1 dX2_takes_97 rfl (lv_at hl 3 rfl) k) ?_
          refine J.bind (fun o98 g98 => ?_)
          refine J.bind (fun v98 h98 => ?_)
          refine J.cV (q := (RX2, TX2, 9)) (ci := 1) (As := [.int x2_47]) (rest := []) (s2 := [va_rf v98]) X ⟨rfl, rfl⟩ (ct_X2_parcel l G n B47 o98 x2_47) (jrd_of h98) (fun _ _ => cwV 1 X.1.2.2.2.2 (lw_V q942 q943 q944 q139 q945) rfl rfl rfl (by decide +kernel) ⟨(Nat.le_of_ble_eq_true rfl), (Nat.le_of_ble_eq_true rfl)⟩) g98 rfl rfl hl.1 rfl rfl (Nat.le_of_ble_eq_true rfl) dX2_takes_98 ?_
          refine J.getIN (k := 1) (ci := 4) X in_X5 (show jCl[4]? = some (RX5, TX5, 10) from rfl) (by decide) jnf35 (fun _ h => h) dX2_takes_101 (fun v101 h101 => ?_)
          refine J.pu (fun _ _ _ _ k => W.rload_n X.1.1 X.1.2.1 dX2_takes_104 rfl (lv_at hl 0 rfl) k) ?_
          refine J.getIN (k := 1) (ci := 4) X in_X5 (show jCl[4]? = some (RX5, TX5, 10) from rfl) (by decide) jnf35 (fun _ h => h) dX2_takes_105 (fun v105 h105 => ?_)
          refine J.br (fun _ _ _ _ ka kb => lv_icmp_eq (tgt := 129) X.1.1 X.1.2.1 dX2_takes_108 (by decide) ka kb) (fun c108 => ?_) (fun c108 => ?_)
          · refine J.pu (fun _ _ _ _ k => lv_aload_n X.1.1 X.1.2.1 dX2_takes_129 rfl (lv_at hl 1 rfl) k) ?_
            refine J.pu (fun _ _ _ _ k => lv_iload_n X.1.1 X.1.2.1 dX2_takes_130 rfl (lv_at hl 3 rfl) k) ?_
            refine J.bind (fun o131 g131 => ?_)
            refine J.bind (fun v131 h131 => ?_)
            refine J.cV (q := (RX2, TX2, 9)) (ci := 1) (As := [.int x2_47]) (rest := []) (s2 := [va_rf v131]) X ⟨rfl, rfl⟩ (ct_X2_parcel l G n B47 o131 x2_47) (jrd_of h131) (fun _ _ => cwV 1 X.1.2.2.2.2 (lw_V q942 q943 q944 q139 q945) rfl rfl rfl (by decide +kernel) ⟨(Nat.le_of_ble_eq_true rfl), (Nat.le_of_ble_eq_true rfl)⟩) g131 rfl rfl hl.1 rfl rfl (Nat.le_of_ble_eq_true rfl) dX2_takes_131 ?_
            refine J.pu (fun _ _ _ _ k => W.rload_n X.1.1 X.1.2.1 dX2_takes_134 rfl (lv_at hl 0 rfl) k) ?_
            refine J.bind (fun o135 g135 => ?_)
            refine J.bd' (fun v135 S135 h135 => ?_)
            refine J.cV (q := (RX5, TX5, 10)) (ci := 4) (As := [va_rf v62]) (rest := []) (s2 := [va_rf v135]) X ⟨rfl, rfl⟩ (ct_X5_takes l G n B47 o135 v62) h135 (fun _ _ => cwV 1 X.1.2.2.2.2 (lw_V q1026 q1009 q1010 q167 q1011) rfl rfl rfl (by decide +kernel) ⟨(Nat.le_of_ble_eq_true rfl), (Nat.le_of_ble_eq_true rfl)⟩) g135 rfl rfl hl.1 rfl rfl (Nat.le_of_ble_eq_true rfl) dX2_takes_135 ?_
            refine J.pu (fun _ _ _ _ k => lv_pop X.1.1 X.1.2.1 dX2_takes_138 (va_rf_cat _) k) ?_
            exact j139 x2_47 S135 ls (lv_sub hl [1, 2, 3] rfl)
          · refine J.pu (fun _ _ _ _ k => lv_aload_n X.1.1 X.1.2.1 dX2_takes_111 rfl (lv_at hl 1 rfl) k) ?_
            refine J.getR (k := 4) (ci := 1) X in_X2 (show jCl[1]? = some (RX2, TX2, 9) from rfl) (by decide) q696 (fun _ h => h) dX2_takes_112 (fun v112 h112 => ?_)
            refine J.pu (fun _ _ _ _ k => lv_iload_n X.1.1 X.1.2.1 dX2_takes_115 rfl (lv_at hl 3 rfl) k) ?_
            refine J.pu (fun _ _ _ _ k => W.rload_n X.1.1 X.1.2.1 dX2_takes_116 rfl (lv_at hl 0 rfl) k) ?_
            refine J.bind (fun o117 g117 => ?_)
            refine J.bd' (fun v117 S117 h117 => ?_)
            refine J.cV (q := (RX5, TX5, 10)) (ci := 4) (As := []) (rest := [.int x2_47, va_rf v112]) (s2 := [va_rf v117, .int x2_47, va_rf v112]) X ⟨rfl, rfl⟩ (ct_X5_twin l G n B47 o117) h117 (fun _ _ => cwV 0 X.1.2.2.2.2 (lw_V q947 q948 q949 q167 q950) rfl rfl rfl (by decide +kernel) ⟨(Nat.le_of_ble_eq_true rfl), (Nat.le_of_ble_eq_true rfl)⟩) g117 rfl rfl hl.1 rfl rfl (by simp [va_rf_cat, jcI, jcA, jcJ, jcD, jcF]) dX2_takes_117 ?_
            refine J.bind (fun o120 g120 => ?_)
            refine J.bd' (fun v120 S120 h120 => ?_)
            refine J.cF (q := (RJ2, TJ2, 3)) (ci := 15) (As := [.int x2_47, va_rf v117]) (rest := []) (s2 := [va_rf v120]) X ⟨rfl, rfl⟩ (ct_J2_set l G S117 o120 x2_47 v117) h120 (fun _ _ => va_cwF 2 X.1.2.2.2.2 (lw_F q1013 q1016 q1018 q142 q1020) rfl rfl rfl (jfw8 X.2.1) (by decide +kernel) ⟨(Nat.le_of_ble_eq_true rfl), (Nat.le_of_ble_eq_true rfl)⟩) g120 rfl rfl hl.1 rfl rfl (Nat.le_of_ble_eq_true rfl) dX2_takes_120 ?_
            refine J.pu (fun _ _ _ _ k => lv_pop X.1.1 X.1.2.1 dX2_takes_125 (va_rf_cat _) k) ?_
            refine J.pu (fun _ _ _ _ k => lv_goto (tgt := 139) X.1.1 X.1.2.1 dX2_takes_126 (by decide) k) ?_
            exact j139 x2_47 S120 ls (lv_sub hl [1, 2, 3] rfl)
  have L0 : ∀ (n0 : Nat) (B0 : jH) (ls : Array Slot), lv_has ls 4 [(0, .ref this), (1, va_rf a1)] → jGo l G 23 1267 σ (Prod.snd : (Option Nat) × jH → jH) (fun t => jrR t.1) t p e s m args below meth c (jloop (X2_takes_h0 G n this a1) n0 B0) B0 (F0 m 0 ls []) := by
    intro n0
    induction n0 with
    | zero => intro B0 ls hl; exact J.nil_
    | succ n0 ih0 =>
      intro B0 ls hl
      refine J.eq (jloop_s _ _ _) ?_
      dsimp only [X2_takes_h0]
      refine J.pu (fun _ _ _ _ k => lv_aload_n X.1.1 X.1.2.1 dX2_takes_0 rfl (lv_at hl 0 rfl) k) ?_
      refine J.getR (k := 4) (ci := 1) X in_X2 (show jCl[1]? = some (RX2, TX2, 9) from rfl) (by decide) q696 (fun _ h => h) dX2_takes_1 (fun v1 h1 => ?_)
      refine J.bind (fun o4 g4 => ?_)
      refine J.bind (fun v4 h4 => ?_)
      refine J.cF (q := (RJ2, TJ2, 3)) (ci := 15) (As := []) (rest := []) (s2 := [.int v4]) X ⟨rfl, rfl⟩ (ct_J2_size l G B0 o4) (jrd_of h4) (fun _ _ => va_cwF 0 X.1.2.2.2.2 (lw_F q829 q832 q834 q142 q836) rfl rfl rfl (jfw2 X.2.1) (by decide +kernel) ⟨(Nat.le_of_ble_eq_true rfl), (Nat.le_of_ble_eq_true rfl)⟩) g4 rfl rfl hl.1 rfl rfl (Nat.le_of_ble_eq_true rfl) dX2_takes_4 ?_
      refine J.pu (fun _ _ _ _ k => W.rload_n X.1.1 X.1.2.1 dX2_takes_9 rfl (lv_at hl 1 rfl) k) ?_
      refine J.getR (k := 4) (ci := 1) X in_X2 (show jCl[1]? = some (RX2, TX2, 9) from rfl) (by decide) q696 (fun _ h => h) dX2_takes_10 (fun v10 h10 => ?_)
      refine J.bind (fun o13 g13 => ?_)
      refine J.bind (fun v13 h13 => ?_)
      refine J.cF (q := (RJ2, TJ2, 3)) (ci := 15) (As := []) (rest := [.int v4]) (s2 := [.int v13, .int v4]) X ⟨rfl, rfl⟩ (ct_J2_size l G B0 o13) (jrd_of h13) (fun _ _ => va_cwF 0 X.1.2.2.2.2 (lw_F q829 q832 q834 q142 q836) rfl rfl rfl (jfw2 X.2.1) (by decide +kernel) ⟨(Nat.le_of_ble_eq_true rfl), (Nat.le_of_ble_eq_true rfl)⟩) g13 rfl rfl hl.1 rfl rfl (Nat.le_of_ble_eq_true rfl) dX2_takes_13 ?_
      refine J.br (fun _ _ _ _ ka kb => lv_icmp_le (tgt := 45) X.1.1 X.1.2.1 dX2_takes_18 (by decide) ka kb) (fun c18 => ?_) (fun c18 => ?_)
      · refine J.pu (fun _ _ _ _ k => lv_iconst (v := 0) X.1.1 X.1.2.1 dX2_takes_45 (by decide) k) ?_
        refine J.istore_n (i := 2) (lv' := [(2, .int 0), (0, .ref this), (1, va_rf a1)]) X.1.1 X.1.2.1 dX2_takes_46 rfl hl (by decide) (by first | rfl | simp [va_rf_cat, jcI, jcA, jcJ, jcD, jcF]) (fun ls hl => ?_)
        exact L47 n 0 B0 ls (lv_sub hl [1, 2, 0] rfl)
      · refine J.pu (fun _ _ _ _ k => lv_aload_n X.1.1 X.1.2.1 dX2_takes_21 rfl (lv_at hl 0 rfl) k) ?_
        refine J.getR (k := 4) (ci := 1) X in_X2 (show jCl[1]? = some (RX2, TX2, 9) from rfl) (by decide) q696 (fun _ h => h) dX2_takes_22 (fun v22 h22 => ?_)
        refine J.pu (fun _ _ _ _ k => lv_aload_n X.1.1 X.1.2.1 dX2_takes_25 rfl (lv_at hl 0 rfl) k) ?_
        refine J.getR (k := 4) (ci := 1) X in_X2 (show jCl[1]? = some (RX2, TX2, 9) from rfl) (by decide) q696 (fun _ h => h) dX2_takes_26 (fun v26 h26 => ?_)
        refine J.bind (fun o29 g29 => ?_)
        refine J.bind (fun v29 h29 => ?_)
        refine J.cF (q := (RJ2, TJ2, 3)) (ci := 15) (As := []) (rest := [va_rf v22]) (s2 := [.int v29, va_rf v22]) X ⟨rfl, rfl⟩ (ct_J2_size l G B0 o29) (jrd_of h29) (fun _ _ => va_cwF 0 X.1.2.2.2.2 (lw_F q829 q832 q834 q142 q836) rfl rfl rfl (jfw2 X.2.1) (by decide +kernel) ⟨(Nat.le_of_ble_eq_true rfl), (Nat.le_of_ble_eq_true rfl)⟩) g29 rfl rfl hl.1 rfl rfl (by simp [va_rf_cat, jcI, jcA, jcJ, jcD, jcF]) dX2_takes_29 ?_
        refine J.pu (fun _ _ _ _ k => lv_iconst (v := 1) X.1.1 X.1.2.1 dX2_takes_34 (by decide) k) ?_
        refine J.pu (fun _ _ _ _ k => lv_isub X.1.1 X.1.2.1 dX2_takes_35 k) ?_
        refine J.bind (fun o36 g36 => ?_)
        refine J.bd' (fun v36 S36 h36 => ?_)
        refine J.cF (q := (RJ2, TJ2, 3)) (ci := 15) (As := [.int (v29 - 1)]) (rest := []) (s2 := [va_rf v36]) X ⟨rfl, rfl⟩ (ct_J2_remove l G B0 o36 (v29 - 1)) h36 (fun _ _ => va_cwF 1 X.1.2.2.2.2 (lw_F q920 q923 q925 q142 q927) rfl rfl rfl (jfw6 X.2.1) (by decide +kernel) ⟨(Nat.le_of_ble_eq_true rfl), (Nat.le_of_ble_eq_true rfl)⟩) g36 rfl rfl hl.1 rfl rfl (Nat.le_of_ble_eq_true rfl) dX2_takes_36 ?_
        refine J.pu (fun _ _ _ _ k => lv_pop X.1.1 X.1.2.1 dX2_takes_41 (va_rf_cat _) k) ?_
        refine J.pu (fun _ _ _ _ k => lv_goto (tgt := 0) X.1.1 X.1.2.1 dX2_takes_42 (by decide) k) ?_
        exact ih0 S36 ls (lv_sub hl [0, 1] rfl)
  unfold X2_takes_b
  exact L0 n σ ls (lv_sub hl [0, 1] rfl)
noncomputable def X2_turns_j98 (G : jG) (n : Nat) (this : Nat) (rec51 : Int32 × jH → Option (Unit × jH)) (x1_98 : Int32) (B98 : jH) : Option (Unit × jH) :=
  rec51 ((x1_98 + 1), B98)
noncomputable def X2_turns_h51 (G : jG) (n : Nat) (this : Nat) (rec51 : Int32 × jH → Option (Unit × jH)) (q51 : Int32 × jH) : Option (Unit × jH) :=
  let x1_51 := q51.1; let B51 := q51.2; (gR B51 (some this) 1 4).bind fun v53 => (rc B51 v53 15).bind fun o56 => (lSize 0 B51 o56).bind fun v56 => if v56 ≤ x1_51 then ((gR B51 (some this) 1 5).bind fun v105 => (rc B51 v105 2).bind fun o109 => (X3_isFree G n B51 o109 0).bind fun v109 => if v109 = 0 then ((gR B51 (some this) 1 5).bind fun v117 => (rc B51 v117 2).bind fun o121 => (X3_at G n B51 o121 0).bind fun v121 => (jck' B51 v121 [4]).bind fun _ => (rc B51 (some this) 1).bind fun o127 => bd (X2_laps G n B51 o127 v121) fun v127 S127 => some ((), S127)) else (some ((), B51))) else ((rc B51 (some this) 1).bind fun o66 => (X2_parcel G n B51 o66 x1_51).bind fun v66 => (rc B51 v66 4).bind fun o69 => (X5_isTracked G n B51 o69).bind fun v69 => if v69 = 0 then (X2_turns_j98 G n this rec51 x1_51 B51) else ((rc B51 (some this) 1).bind fun o77 => (X2_parcel G n B51 o77 x1_51).bind fun v77 => (rc B51 (some this) 1).bind fun o82 => (X2_parcel G n B51 o82 x1_51).bind fun v82 => (gI B51 v82 4 6).bind fun v85 => (gI B51 (some this) 1 0).bind fun v91 => jnz v91 fun _ => (pI G B51 v77 4 6 ((v85 + 1) - (v85 + 1) / v91 * v91)).bind fun S95 => X2_turns_j98 G n this rec51 x1_51 S95))
noncomputable def X2_turns_j43 (G : jG) (n : Nat) (this : Nat) (rec9 : Int32 × jH → Option (Unit × jH)) (x1_43 : Int32) (B43 : jH) : Option (Unit × jH) :=
  rec9 ((x1_43 + 1), B43)
noncomputable def X2_turns_h9 (G : jG) (n : Nat) (this : Nat) (rec9 : Int32 × jH → Option (Unit × jH)) (q9 : Int32 × jH) : Option (Unit × jH) :=
  let x1_9 := q9.1; let B9 := q9.2; (gI B9 (some this) 1 0).bind fun v11 => if v11 ≤ x1_9 then (jloop (X2_turns_h51 G n this) n (0, B9)) else ((gR B9 (some this) 1 5).bind fun v18 => (rc B9 v18 2).bind fun o22 => (X3_isFree G n B9 o22 x1_9).bind fun v22 => if v22 = 0 then ((gR B9 (some this) 1 5).bind fun v29 => (rc B9 v29 2).bind fun o33 => (X3_at G n B9 o33 x1_9).bind fun v33 => (jck' B9 v33 [4]).bind fun _ => (pI G B9 v33 4 5 x1_9).bind fun S40 => X2_turns_j43 G n this rec9 x1_9 S40) else (X2_turns_j43 G n this rec9 x1_9 B9))
noncomputable def X2_turns_b (G : jG) (n : Nat) (σ : jH) (this : Nat) : Option (Unit × jH) :=
  (gR σ (some this) 1 5).bind fun v1 => (rc σ v1 2).bind fun o4 => bd (X3_turns G n σ o4) fun v4 S4 => jloop (X2_turns_h9 G n this) n (0, S4)
noncomputable def X2_turns (G : jG) (n : Nat) (σ : jH) (this : Nat) : Option (Unit × jH) := jck σ (X2_turns_b G n σ this)
set_option maxHeartbeats 4000000 in
set_option maxRecDepth 100000 in
theorem ct_X2_turns (l : Launch) (G : jG) (n : Nat) (σ : jH) (this : Nat) : jCt l G yX2_turns (ws_ yX2_turns cX2_turns 2 none) 23 1267 jrV [.ref this] σ (X2_turns G n σ this) := by
  refine jCt.wr (lv := [(0, .ref this)]) (plainFor_of_name (by decide)) (Nat.le_of_ble_eq_true rfl) rfl ?_
  intro t p e s m args below meth c ls X hr hnm hl
  have X : jCx p c cX2_turns 2 s m args RX2 G meth := X
  have L51 : ∀ (n51 : Nat) (x1_51 : Int32) (B51 : jH) (ls : Array Slot), lv_has ls 2 [(0, .ref this), (1, .int x1_51)] → jGo l G 23 1267 σ (Prod.snd : Unit × jH → jH) (fun t => jrV t.1) t p e s m args below meth c (jloop (X2_turns_h51 G n this) n51 (x1_51, B51)) B51 (F0 m 51 ls []) := by
    intro n51
    induction n51 with
    | zero => intro x1_51 B51 ls hl; exact J.nil_
    | succ n51 ih51 =>
      have j98 : ∀ (x1_98 : Int32) (B98 : jH) (ls : Array Slot), lv_has ls 2 [(0, .ref this), (1, .int x1_98)] → jGo l G 23 1267 σ (Prod.snd : Unit × jH → jH) (fun t => jrV t.1) t p e s m args below meth c (X2_turns_j98 G n this (jloop (X2_turns_h51 G n this) n51) x1_98 B98) B98 (F0 m 98 ls []) := by
        intro x1_98 B98 ls hl
        unfold X2_turns_j98
        refine J.iinc (k := 1) (lv' := [(1, .int (x1_98 + 1)), (0, .ref this)]) (w := (x1_98 + 1)) X.1.1 X.1.2.1 dX2_turns_98 hl rfl rfl (by decide) (by first | rfl | simp [va_rf_cat, jcI, jcA, jcJ, jcD, jcF]) (fun ls hl => ?_)
        refine J.pu (fun _ _ _ _ k => lv_goto (tgt := 51) X.1.1 X.1.2.1 dX2_turns_101 (by decide) k) ?_
        exact ih51 (x1_98 + 1) B98 ls (lv_sub hl [1, 0] rfl)
      intro x1_51 B51 ls hl
      refine J.eq (jloop_s _ _ _) ?_
      dsimp only [X2_turns_h51]
      refine J.pu (fun _ _ _ _ k => lv_iload_n X.1.1 X.1.2.1 dX2_turns_51 rfl (lv_at hl 1 rfl) k) ?_
      refine J.pu (fun _ _ _ _ k => lv_aload_n X.1.1 X.1.2.1 dX2_turns_52 rfl (lv_at hl 0 rfl) k) ?_
      refine J.getR (k := 4) (ci := 1) X in_X2 (show jCl[1]? = some (RX2, TX2, 9) from rfl) (by decide) q696 (fun _ h => h) dX2_turns_53 (fun v53 h53 => ?_)
      refine J.bind (fun o56 g56 => ?_)
      refine J.bind (fun v56 h56 => ?_)
      refine J.cF (q := (RJ2, TJ2, 3)) (ci := 15) (As := []) (rest := [.int x1_51]) (s2 := [.int v56, .int x1_51]) X ⟨rfl, rfl⟩ (ct_J2_size l G B51 o56) (jrd_of h56) (fun _ _ => va_cwF 0 X.1.2.2.2.2 (lw_F q829 q832 q834 q142 q836) rfl rfl rfl (jfw2 X.2.1) (by decide +kernel) ⟨(Nat.le_of_ble_eq_true rfl), (Nat.le_of_ble_eq_true rfl)⟩) g56 rfl rfl hl.1 rfl rfl (Nat.le_of_ble_eq_true rfl) dX2_turns_56 ?_
      refine J.br (fun _ _ _ _ ka kb => lv_icmp_ge (tgt := 104) X.1.1 X.1.2.1 dX2_turns_61 (by decide) ka kb) (fun c61 => ?_) (fun c61 => ?_)
      · refine J.pu (fun _ _ _ _ k => lv_aload_n X.1.1 X.1.2.1 dX2_turns_104 rfl (lv_at hl 0 rfl) k) ?_
        refine J.getR (k := 5) (ci := 1) X in_X2 (show jCl[1]? = some (RX2, TX2, 9) from rfl) (by decide) q699 (fun _ h => h) dX2_turns_105 (fun v105 h105 => ?_)
        refine J.pu (fun _ _ _ _ k => lv_iconst (v := 0) X.1.1 X.1.2.1 dX2_turns_108 (by decide) k) ?_
        refine J.bind (fun o109 g109 => ?_)
        refine J.bind (fun v109 h109 => ?_)
        refine J.cV (q := (RX3, TX3, 1)) (ci := 2) (As := [.int 0]) (rest := []) (s2 := [.int v109]) X ⟨rfl, rfl⟩ (ct_X3_isFree l G n B51 o109 0) (jrd_of h109) (fun _ _ => cwV 1 X.1.2.2.2.2 (lw_V q1999 q2000 q2001 q159 q2002) rfl rfl rfl (by decide +kernel) ⟨(Nat.le_of_ble_eq_true rfl), (Nat.le_of_ble_eq_true rfl)⟩) g109 rfl rfl hl.1 rfl rfl (Nat.le_of_ble_eq_true rfl) dX2_turns_109 ?_
        refine J.br (fun _ _ _ _ ka kb => lv_if_ne (tgt := 130) X.1.1 X.1.2.1 dX2_turns_112 (by decide) kb ka) (fun c112 => ?_) (fun c112 => ?_)
        · refine J.pu (fun _ _ _ _ k => lv_aload_n X.1.1 X.1.2.1 dX2_turns_115 rfl (lv_at hl 0 rfl) k) ?_
          refine J.pu (fun _ _ _ _ k => lv_aload_n X.1.1 X.1.2.1 dX2_turns_116 rfl (lv_at hl 0 rfl) k) ?_
          refine J.getR (k := 5) (ci := 1) X in_X2 (show jCl[1]? = some (RX2, TX2, 9) from rfl) (by decide) q699 (fun _ h => h) dX2_turns_117 (fun v117 h117 => ?_)
          refine J.pu (fun _ _ _ _ k => lv_iconst (v := 0) X.1.1 X.1.2.1 dX2_turns_120 (by decide) k) ?_
          refine J.bind (fun o121 g121 => ?_)
          refine J.bind (fun v121 h121 => ?_)
          refine J.cV (q := (RX3, TX3, 1)) (ci := 2) (As := [.int 0]) (rest := [.ref this]) (s2 := [va_rf v121, .ref this]) X ⟨rfl, rfl⟩ (ct_X3_at l G n B51 o121 0) (jrd_of h121) (fun _ _ => cwV 1 X.1.2.2.2.2 (lw_V q2095 q2096 q2097 q159 q2098) rfl rfl rfl (by decide +kernel) ⟨(Nat.le_of_ble_eq_true rfl), (Nat.le_of_ble_eq_true rfl)⟩) g121 rfl rfl hl.1 rfl rfl (Nat.le_of_ble_eq_true rfl) dX2_turns_121 ?_
          refine J.cast (nm := "SortingLoop$Parcel") X q946 (List.forall_mem_cons.mpr ⟨⟨_, rfl, Or.inl rfl⟩, jnil_all⟩) dX2_turns_124 ?_
          refine J.bind (fun o127 g127 => ?_)
          refine J.bd' (fun v127 S127 h127 => ?_)
          refine J.cV (q := (RX2, TX2, 9)) (ci := 1) (As := [va_rf v121]) (rest := []) (s2 := []) X ⟨rfl, rfl⟩ (ct_X2_laps l G n B51 o127 v121) h127 (fun _ _ => cwV 1 X.1.2.2.2.2 (lw_V q2103 q2105 qs33 q139 q2106) rfl rfl rfl (by decide +kernel) ⟨(Nat.le_of_ble_eq_true rfl), (Nat.le_of_ble_eq_true rfl)⟩) g127 rfl rfl hl.1 rfl rfl (Nat.le_of_ble_eq_true rfl) dX2_turns_127 ?_
          exact J.vret (vr := fun t : Unit × jH => jrV t.1) (fin := Prod.snd) (t := t) X hr (by rfl) (by rfl) dX2_turns_130
        · exact J.vret (vr := fun t : Unit × jH => jrV t.1) (fin := Prod.snd) (t := t) X hr (by rfl) (by rfl) dX2_turns_130
      · refine J.pu (fun _ _ _ _ k => lv_aload_n X.1.1 X.1.2.1 dX2_turns_64 rfl (lv_at hl 0 rfl) k) ?_
        refine J.pu (fun _ _ _ _ k => lv_iload_n X.1.1 X.1.2.1 dX2_turns_65 rfl (lv_at hl 1 rfl) k) ?_
        refine J.bind (fun o66 g66 => ?_)
        refine J.bind (fun v66 h66 => ?_)
        refine J.cV (q := (RX2, TX2, 9)) (ci := 1) (As := [.int x1_51]) (rest := []) (s2 := [va_rf v66]) X ⟨rfl, rfl⟩ (ct_X2_parcel l G n B51 o66 x1_51) (jrd_of h66) (fun _ _ => cwV 1 X.1.2.2.2.2 (lw_V q942 q943 q944 q139 q945) rfl rfl rfl (by decide +kernel) ⟨(Nat.le_of_ble_eq_true rfl), (Nat.le_of_ble_eq_true rfl)⟩) g66 rfl rfl hl.1 rfl rfl (Nat.le_of_ble_eq_true rfl) dX2_turns_66 ?_
        refine J.bind (fun o69 g69 => ?_)
        refine J.bind (fun v69 h69 => ?_)
        refine J.cV (q := (RX5, TX5, 10)) (ci := 4) (As := []) (rest := []) (s2 := [.int v69]) X ⟨rfl, rfl⟩ (ct_X5_isTracked l G n B51 o69) (jrd_of h69) (fun _ _ => cwV 0 X.1.2.2.2.2 (lw_V q2099 q2100 q2101 q167 q2102) rfl rfl rfl (by decide +kernel) ⟨(Nat.le_of_ble_eq_true rfl), (Nat.le_of_ble_eq_true rfl)⟩) g69 rfl rfl hl.1 rfl rfl (Nat.le_of_ble_eq_true rfl) dX2_turns_69 ?_
        refine J.br (fun _ _ _ _ ka kb => lv_if_eq (tgt := 98) X.1.1 X.1.2.1 dX2_turns_72 (by decide) ka kb) (fun c72 => ?_) (fun c72 => ?_)
        · exact j98 x1_51 B51 ls (lv_sub hl [0, 1] rfl)
        · refine J.pu (fun _ _ _ _ k => lv_aload_n X.1.1 X.1.2.1 dX2_turns_75 rfl (lv_at hl 0 rfl) k) ?_
          refine J.pu (fun _ _ _ _ k => lv_iload_n X.1.1 X.1.2.1 dX2_turns_76 rfl (lv_at hl 1 rfl) k) ?_
          refine J.bind (fun o77 g77 => ?_)
          refine J.bind (fun v77 h77 => ?_)
          refine J.cV (q := (RX2, TX2, 9)) (ci := 1) (As := [.int x1_51]) (rest := []) (s2 := [va_rf v77]) X ⟨rfl, rfl⟩ (ct_X2_parcel l G n B51 o77 x1_51) (jrd_of h77) (fun _ _ => cwV 1 X.1.2.2.2.2 (lw_V q942 q943 q944 q139 q945) rfl rfl rfl (by decide +kernel) ⟨(Nat.le_of_ble_eq_true rfl), (Nat.le_of_ble_eq_true rfl)⟩) g77 rfl rfl hl.1 rfl rfl (Nat.le_of_ble_eq_true rfl) dX2_turns_77 ?_
          refine J.pu (fun _ _ _ _ k => lv_aload_n X.1.1 X.1.2.1 dX2_turns_80 rfl (lv_at hl 0 rfl) k) ?_
          refine J.pu (fun _ _ _ _ k => lv_iload_n X.1.1 X.1.2.1 dX2_turns_81 rfl (lv_at hl 1 rfl) k) ?_
          refine J.bind (fun o82 g82 => ?_)
          refine J.bind (fun v82 h82 => ?_)
          refine J.cV (q := (RX2, TX2, 9)) (ci := 1) (As := [.int x1_51]) (rest := [va_rf v77]) (s2 := [va_rf v82, va_rf v77]) X ⟨rfl, rfl⟩ (ct_X2_parcel l G n B51 o82 x1_51) (jrd_of h82) (fun _ _ => cwV 1 X.1.2.2.2.2 (lw_V q942 q943 q944 q139 q945) rfl rfl rfl (by decide +kernel) ⟨(Nat.le_of_ble_eq_true rfl), (Nat.le_of_ble_eq_true rfl)⟩) g82 rfl rfl hl.1 rfl rfl (by simp [va_rf_cat, jcI, jcA, jcJ, jcD, jcF]) dX2_turns_82 ?_
          refine J.getIN (k := 6) (ci := 4) X in_X5 (show jCl[4]? = some (RX5, TX5, 10) from rfl) (by decide) jnf46 (fun _ h => h) dX2_turns_85 (fun v85 h85 => ?_)
          refine J.pu (fun _ _ _ _ k => lv_iconst (v := 1) X.1.1 X.1.2.1 dX2_turns_88 (by decide) k) ?_
          refine J.pu (fun _ _ _ _ k => lv_iadd X.1.1 X.1.2.1 dX2_turns_89 k) ?_
          refine J.pu (fun _ _ _ _ k => lv_aload_n X.1.1 X.1.2.1 dX2_turns_90 rfl (lv_at hl 0 rfl) k) ?_
          refine J.getI (k := 0) (ci := 1) X in_X2 (show jCl[1]? = some (RX2, TX2, 9) from rfl) (by decide) q684 (fun _ h => h) dX2_turns_91 (fun v91 h91 => ?_)
          refine J.nz (fun z94 => ?_)
          refine J.pu (fun _ _ _ _ k => lv_irem X.1.1 X.1.2.1 dX2_turns_94 z94 k) ?_
          refine J.putIN (k := 6) (ci := 4) X in_X5 (show jCl[4]? = some (RX5, TX5, 10) from rfl) tyX5_ok (fun a ha b hb h => Or.inl (nmX5 a ha b hb h)) (by decide) jnf46 (fun _ h => h) rfl rfl dX2_turns_95 (fun S95 h95 => ?_)
          exact j98 x1_51 S95 ls (lv_sub hl [0, 1] rfl)
  have L9 : ∀ (n9 : Nat) (x1_9 : Int32) (B9 : jH) (ls : Array Slot), lv_has ls 2 [(0, .ref this), (1, .int x1_9)] → jGo l G 23 1267 σ (Prod.snd : Unit × jH → jH) (fun t => jrV t.1) t p e s m args below meth c (jloop (X2_turns_h9 G n this) n9 (x1_9, B9)) B9 (F0 m 9 ls []) := by
    intro n9
    induction n9 with
    | zero => intro x1_9 B9 ls hl; exact J.nil_
    | succ n9 ih9 =>
      have j43 : ∀ (x1_43 : Int32) (B43 : jH) (ls : Array Slot), lv_has ls 2 [(0, .ref this), (1, .int x1_43)] → jGo l G 23 1267 σ (Prod.snd : Unit × jH → jH) (fun t => jrV t.1) t p e s m args below meth c (X2_turns_j43 G n this (jloop (X2_turns_h9 G n this) n9) x1_43 B43) B43 (F0 m 43 ls []) := by
        intro x1_43 B43 ls hl
        unfold X2_turns_j43
        refine J.iinc (k := 1) (lv' := [(1, .int (x1_43 + 1)), (0, .ref this)]) (w := (x1_43 + 1)) X.1.1 X.1.2.1 dX2_turns_43 hl rfl rfl (by decide) (by first | rfl | simp [va_rf_cat, jcI, jcA, jcJ, jcD, jcF]) (fun ls hl => ?_)
        refine J.pu (fun _ _ _ _ k => lv_goto (tgt := 9) X.1.1 X.1.2.1 dX2_turns_46 (by decide) k) ?_
        exact ih9 (x1_43 + 1) B43 ls (lv_sub hl [1, 0] rfl)
      intro x1_9 B9 ls hl
      refine J.eq (jloop_s _ _ _) ?_
      dsimp only [X2_turns_h9]
      refine J.pu (fun _ _ _ _ k => lv_iload_n X.1.1 X.1.2.1 dX2_turns_9 rfl (lv_at hl 1 rfl) k) ?_
      refine J.pu (fun _ _ _ _ k => lv_aload_n X.1.1 X.1.2.1 dX2_turns_10 rfl (lv_at hl 0 rfl) k) ?_
      refine J.getI (k := 0) (ci := 1) X in_X2 (show jCl[1]? = some (RX2, TX2, 9) from rfl) (by decide) q684 (fun _ h => h) dX2_turns_11 (fun v11 h11 => ?_)
      refine J.br (fun _ _ _ _ ka kb => lv_icmp_ge (tgt := 49) X.1.1 X.1.2.1 dX2_turns_14 (by decide) ka kb) (fun c14 => ?_) (fun c14 => ?_)
      · refine J.pu (fun _ _ _ _ k => lv_iconst (v := 0) X.1.1 X.1.2.1 dX2_turns_49 (by decide) k) ?_
        refine J.istore_n (i := 1) (lv' := [(1, .int 0), (0, .ref this)]) X.1.1 X.1.2.1 dX2_turns_50 rfl hl (by decide) (by first | rfl | simp [va_rf_cat, jcI, jcA, jcJ, jcD, jcF]) (fun ls hl => ?_)
        exact L51 n 0 B9 ls (lv_sub hl [1, 0] rfl)
      · refine J.pu (fun _ _ _ _ k => lv_aload_n X.1.1 X.1.2.1 dX2_turns_17 rfl (lv_at hl 0 rfl) k) ?_
        refine J.getR (k := 5) (ci := 1) X in_X2 (show jCl[1]? = some (RX2, TX2, 9) from rfl) (by decide) q699 (fun _ h => h) dX2_turns_18 (fun v18 h18 => ?_)
        refine J.pu (fun _ _ _ _ k => lv_iload_n X.1.1 X.1.2.1 dX2_turns_21 rfl (lv_at hl 1 rfl) k) ?_
        refine J.bind (fun o22 g22 => ?_)
        refine J.bind (fun v22 h22 => ?_)
        refine J.cV (q := (RX3, TX3, 1)) (ci := 2) (As := [.int x1_9]) (rest := []) (s2 := [.int v22]) X ⟨rfl, rfl⟩ (ct_X3_isFree l G n B9 o22 x1_9) (jrd_of h22) (fun _ _ => cwV 1 X.1.2.2.2.2 (lw_V q1999 q2000 q2001 q159 q2002) rfl rfl rfl (by decide +kernel) ⟨(Nat.le_of_ble_eq_true rfl), (Nat.le_of_ble_eq_true rfl)⟩) g22 rfl rfl hl.1 rfl rfl (Nat.le_of_ble_eq_true rfl) dX2_turns_22 ?_
        refine J.br (fun _ _ _ _ ka kb => lv_if_ne (tgt := 43) X.1.1 X.1.2.1 dX2_turns_25 (by decide) kb ka) (fun c25 => ?_) (fun c25 => ?_)
        · refine J.pu (fun _ _ _ _ k => lv_aload_n X.1.1 X.1.2.1 dX2_turns_28 rfl (lv_at hl 0 rfl) k) ?_
          refine J.getR (k := 5) (ci := 1) X in_X2 (show jCl[1]? = some (RX2, TX2, 9) from rfl) (by decide) q699 (fun _ h => h) dX2_turns_29 (fun v29 h29 => ?_)
          refine J.pu (fun _ _ _ _ k => lv_iload_n X.1.1 X.1.2.1 dX2_turns_32 rfl (lv_at hl 1 rfl) k) ?_
          refine J.bind (fun o33 g33 => ?_)
          refine J.bind (fun v33 h33 => ?_)
          refine J.cV (q := (RX3, TX3, 1)) (ci := 2) (As := [.int x1_9]) (rest := []) (s2 := [va_rf v33]) X ⟨rfl, rfl⟩ (ct_X3_at l G n B9 o33 x1_9) (jrd_of h33) (fun _ _ => cwV 1 X.1.2.2.2.2 (lw_V q2095 q2096 q2097 q159 q2098) rfl rfl rfl (by decide +kernel) ⟨(Nat.le_of_ble_eq_true rfl), (Nat.le_of_ble_eq_true rfl)⟩) g33 rfl rfl hl.1 rfl rfl (Nat.le_of_ble_eq_true rfl) dX2_turns_33 ?_
          refine J.cast (nm := "SortingLoop$Parcel") X q946 (List.forall_mem_cons.mpr ⟨⟨_, rfl, Or.inl rfl⟩, jnil_all⟩) dX2_turns_36 ?_
          refine J.pu (fun _ _ _ _ k => lv_iload_n X.1.1 X.1.2.1 dX2_turns_39 rfl (lv_at hl 1 rfl) k) ?_
          refine J.putIN (k := 5) (ci := 4) X in_X5 (show jCl[4]? = some (RX5, TX5, 10) from rfl) tyX5_ok (fun a ha b hb h => Or.inl (nmX5 a ha b hb h)) (by decide) jnf44 (fun _ h => h) rfl rfl dX2_turns_40 (fun S40 h40 => ?_)
          exact j43 x1_9 S40 ls (lv_sub hl [0, 1] rfl)
        · exact j43 x1_9 B9 ls (lv_sub hl [0, 1] rfl)
  unfold X2_turns_b
  refine J.pu (fun _ _ _ _ k => lv_aload_n X.1.1 X.1.2.1 dX2_turns_0 rfl (lv_at hl 0 rfl) k) ?_
  refine J.getR (k := 5) (ci := 1) X in_X2 (show jCl[1]? = some (RX2, TX2, 9) from rfl) (by decide) q699 (fun _ h => h) dX2_turns_1 (fun v1 h1 => ?_)
  refine J.bind (fun o4 g4 => ?_)
  refine J.bd' (fun v4 S4 h4 => ?_)
  refine J.cV (q := (RX3, TX3, 1)) (ci := 2) (As := []) (rest := []) (s2 := []) X ⟨rfl, rfl⟩ (ct_X3_turns l G n σ o4) h4 (fun _ _ => cwV 0 X.1.2.2.2.2 (lw_V q2069 q2070 q2071 q159 q2072) rfl rfl rfl (by decide +kernel) ⟨(Nat.le_of_ble_eq_true rfl), (Nat.le_of_ble_eq_true rfl)⟩) g4 rfl rfl hl.1 rfl rfl (Nat.le_of_ble_eq_true rfl) dX2_turns_4 ?_
  refine J.pu (fun _ _ _ _ k => lv_iconst (v := 0) X.1.1 X.1.2.1 dX2_turns_7 (by decide) k) ?_
  refine J.istore_n (i := 1) (lv' := [(1, .int 0), (0, .ref this)]) X.1.1 X.1.2.1 dX2_turns_8 rfl hl (by decide) (by first | rfl | simp [va_rf_cat, jcI, jcA, jcJ, jcD, jcF]) (fun ls hl => ?_)
  exact L9 n 0 S4 ls (lv_sub hl [1, 0] rfl)
noncomputable def X2_scans_j50 (G : jG) (n : Nat) (this : Nat) (a1 : Option Nat) (s0_50 : Option Nat) (s1_50 : Int32) (s2_50 : Int32) (s3_50 : Int32) (B50 : jH) : Option (Unit × jH) :=
  (X1_bit G n B50 s3_50).bind fun v50 => (sI G B50 s0_50 0 s1_50 (s2_50 + v50)).bind fun S54 => (gI S54 a1 4 5).bind fun v57 => (pI G S54 a1 4 6 v57).bind fun S60 => some ((), S60)
noncomputable def X2_scans_b (G : jG) (n : Nat) (σ : jH) (this : Nat) (a1 : Option Nat) : Option (Unit × jH) :=
  (gI σ a1 4 2).bind fun v1 => if v1 ≤ 0 then ((gR σ (some this) 1 6).bind fun v30 => (aI σ v30 0 8).bind fun v36 => (rc σ (some this) 1).bind fun o39 => (X2_lag G n σ o39 a1).bind fun v39 => if v39 = 0 then (X2_scans_j50 G n this a1 v30 8 v36 0 σ) else (X2_scans_j50 G n this a1 v30 8 v36 1 σ)) else ((gI σ a1 4 2).bind fun v9 => (pI G σ a1 4 2 (v9 - 1)).bind fun S14 => (gR S14 (some this) 1 6).bind fun v18 => (aI S14 v18 0 9).bind fun v24 => (sI G S14 v18 0 9 (v24 + 1)).bind fun S27 => some ((), S27))
noncomputable def X2_scans (G : jG) (n : Nat) (σ : jH) (this : Nat) (a1 : Option Nat) : Option (Unit × jH) := jck σ (X2_scans_b G n σ this a1)
set_option maxHeartbeats 4000000 in
set_option maxRecDepth 100000 in
theorem ct_X2_scans (l : Launch) (G : jG) (n : Nat) (σ : jH) (this : Nat) (a1 : Option Nat) : jCt l G yX2_scans (ws_ yX2_scans cX2_scans 2 none) 2 43 jrV [.ref this, va_rf a1] σ (X2_scans G n σ this a1) := by
  refine jCt.wr (lv := [(0, .ref this), (1, va_rf a1)]) (plainFor_of_name (by decide)) (by simp [lg_sl, va_rf_cat, jcI, jcA, jcJ, jcD, jcF]) (by simp [lv_args, va_rf_cat, jcI, jcA, jcJ, jcD, jcF]) ?_
  intro t p e s m args below meth c ls X hr hnm hl
  have X : jCx p c cX2_scans 2 s m args RX2 G meth := X
  have j50 : ∀ (s0_50 : Option Nat) (s1_50 : Int32) (s2_50 : Int32) (s3_50 : Int32) (B50 : jH) (ls : Array Slot), lv_has ls 2 [(1, va_rf a1)] → jGo l G 2 43 σ (Prod.snd : Unit × jH → jH) (fun t => jrV t.1) t p e s m args below meth c (X2_scans_j50 G n this a1 s0_50 s1_50 s2_50 s3_50 B50) B50 (F0 m 50 ls [.int s3_50, .int s2_50, .int s1_50, va_rf s0_50]) := by
    intro s0_50 s1_50 s2_50 s3_50 B50 ls hl
    unfold X2_scans_j50
    refine J.bind (fun v50 h50 => ?_)
    refine J.cSN (As := [.int s3_50]) (rest := [.int s2_50, .int s1_50, va_rf s0_50]) (s2 := [.int v50, .int s2_50, .int s1_50, va_rf s0_50]) X ⟨rfl, rfl⟩ (ct_X1_bit l G n B50 s3_50) (jrd_of h50) (fun _ _ => ⟨va_cnB 1 X.1.2.2.2.2 (lw_meth q1704) rfl rfl rfl (jnm2 X.2.1) (X.1.2.2.2.2 _ q138) (by decide +kernel) ⟨(Nat.le_of_ble_eq_true rfl), (Nat.le_of_ble_eq_true rfl)⟩, X.1.2.2.2.2 _ q1703, trivial⟩) rfl hl.1 rfl rfl (by simp [va_rf_cat, jcI, jcA, jcJ, jcD, jcF]) dX2_scans_50 ?_
    refine J.pu (fun _ _ _ _ k => lv_iadd X.1.1 X.1.2.1 dX2_scans_53 k) ?_
    refine J.sI0 X dX2_scans_54 (fun S54 h54 => ?_)
    refine J.pu (fun _ _ _ _ k => W.rload_n X.1.1 X.1.2.1 dX2_scans_55 rfl (lv_at hl 0 rfl) k) ?_
    refine J.pu (fun _ _ _ _ k => W.rload_n X.1.1 X.1.2.1 dX2_scans_56 rfl (lv_at hl 0 rfl) k) ?_
    refine J.getIN (k := 5) (ci := 4) X in_X5 (show jCl[4]? = some (RX5, TX5, 10) from rfl) (by decide) jnf44 (fun _ h => h) dX2_scans_57 (fun v57 h57 => ?_)
    refine J.putIN (k := 6) (ci := 4) X in_X5 (show jCl[4]? = some (RX5, TX5, 10) from rfl) tyX5_ok (fun a ha b hb h => Or.inl (nmX5 a ha b hb h)) (by decide) jnf46 (fun _ h => h) rfl rfl dX2_scans_60 (fun S60 h60 => ?_)
    exact J.vret (vr := fun t : Unit × jH => jrV t.1) (fin := Prod.snd) (t := t) X hr (by rfl) (by rfl) dX2_scans_63
  unfold X2_scans_b
  refine J.pu (fun _ _ _ _ k => W.rload_n X.1.1 X.1.2.1 dX2_scans_0 rfl (lv_at hl 1 rfl) k) ?_
  refine J.getIN (k := 2) (ci := 4) X in_X5 (show jCl[4]? = some (RX5, TX5, 10) from rfl) (by decide) jnf38 (fun _ h => h) dX2_scans_1 (fun v1 h1 => ?_)
  refine J.br (fun _ _ _ _ ka kb => lv_if_le (tgt := 29) X.1.1 X.1.2.1 dX2_scans_4 (by decide) ka kb) (fun c4 => ?_) (fun c4 => ?_)
  · refine J.pu (fun _ _ _ _ k => lv_aload_n X.1.1 X.1.2.1 dX2_scans_29 rfl (lv_at hl 0 rfl) k) ?_
    refine J.getR (k := 6) (ci := 1) X in_X2 (show jCl[1]? = some (RX2, TX2, 9) from rfl) (by decide) q701 (fun _ h => h) dX2_scans_30 (fun v30 h30 => ?_)
    refine J.pu (fun _ _ _ _ k => lv_bipush (v := 8) X.1.1 X.1.2.1 dX2_scans_33 (by decide) k) ?_
    refine J.pu (fun _ _ _ _ k => lv_dup2_11 X.1.1 X.1.2.1 dX2_scans_35 rfl (va_rf_cat _) k) ?_
    refine J.aI0 X dX2_scans_36 (fun v36 h36 => ?_)
    refine J.pu (fun _ _ _ _ k => lv_aload_n X.1.1 X.1.2.1 dX2_scans_37 rfl (lv_at hl 0 rfl) k) ?_
    refine J.pu (fun _ _ _ _ k => W.rload_n X.1.1 X.1.2.1 dX2_scans_38 rfl (lv_at hl 1 rfl) k) ?_
    refine J.bind (fun o39 g39 => ?_)
    refine J.bind (fun v39 h39 => ?_)
    refine J.cV (q := (RX2, TX2, 9)) (ci := 1) (As := [va_rf a1]) (rest := [.int v36, .int 8, va_rf v30]) (s2 := [.int v39, .int v36, .int 8, va_rf v30]) X ⟨rfl, rfl⟩ (ct_X2_lag l G n σ o39 a1) (jrd_of h39) (fun _ _ => cwV 1 X.1.2.2.2.2 (lw_V q2115 q2116 q2117 q139 q2118) rfl rfl rfl (by decide +kernel) ⟨(Nat.le_of_ble_eq_true rfl), (Nat.le_of_ble_eq_true rfl)⟩) g39 rfl rfl hl.1 rfl rfl (by simp [va_rf_cat, jcI, jcA, jcJ, jcD, jcF]) dX2_scans_39 ?_
    refine J.br (fun _ _ _ _ ka kb => lv_if_eq (tgt := 49) X.1.1 X.1.2.1 dX2_scans_42 (by decide) ka kb) (fun c42 => ?_) (fun c42 => ?_)
    · refine J.pu (fun _ _ _ _ k => lv_iconst (v := 0) X.1.1 X.1.2.1 dX2_scans_49 (by decide) k) ?_
      exact j50 v30 8 v36 0 σ ls (lv_sub hl [1] rfl)
    · refine J.pu (fun _ _ _ _ k => lv_iconst (v := 1) X.1.1 X.1.2.1 dX2_scans_45 (by decide) k) ?_
      refine J.pu (fun _ _ _ _ k => lv_goto (tgt := 50) X.1.1 X.1.2.1 dX2_scans_46 (by decide) k) ?_
      exact j50 v30 8 v36 1 σ ls (lv_sub hl [1] rfl)
  · refine J.pu (fun _ _ _ _ k => W.rload_n X.1.1 X.1.2.1 dX2_scans_7 rfl (lv_at hl 1 rfl) k) ?_
    refine J.pu (fun _ _ _ _ k => lv_dup X.1.1 X.1.2.1 dX2_scans_8 (va_rf_cat _) k) ?_
    refine J.getIN (k := 2) (ci := 4) X in_X5 (show jCl[4]? = some (RX5, TX5, 10) from rfl) (by decide) jnf38 (fun _ h => h) dX2_scans_9 (fun v9 h9 => ?_)
    refine J.pu (fun _ _ _ _ k => lv_iconst (v := 1) X.1.1 X.1.2.1 dX2_scans_12 (by decide) k) ?_
    refine J.pu (fun _ _ _ _ k => lv_isub X.1.1 X.1.2.1 dX2_scans_13 k) ?_
    refine J.putIN (k := 2) (ci := 4) X in_X5 (show jCl[4]? = some (RX5, TX5, 10) from rfl) tyX5_ok (fun a ha b hb h => Or.inl (nmX5 a ha b hb h)) (by decide) jnf38 (fun _ h => h) rfl rfl dX2_scans_14 (fun S14 h14 => ?_)
    refine J.pu (fun _ _ _ _ k => lv_aload_n X.1.1 X.1.2.1 dX2_scans_17 rfl (lv_at hl 0 rfl) k) ?_
    refine J.getR (k := 6) (ci := 1) X in_X2 (show jCl[1]? = some (RX2, TX2, 9) from rfl) (by decide) q701 (fun _ h => h) dX2_scans_18 (fun v18 h18 => ?_)
    refine J.pu (fun _ _ _ _ k => lv_bipush (v := 9) X.1.1 X.1.2.1 dX2_scans_21 (by decide) k) ?_
    refine J.pu (fun _ _ _ _ k => lv_dup2_11 X.1.1 X.1.2.1 dX2_scans_23 rfl (va_rf_cat _) k) ?_
    refine J.aI0 X dX2_scans_24 (fun v24 h24 => ?_)
    refine J.pu (fun _ _ _ _ k => lv_iconst (v := 1) X.1.1 X.1.2.1 dX2_scans_25 (by decide) k) ?_
    refine J.pu (fun _ _ _ _ k => lv_iadd X.1.1 X.1.2.1 dX2_scans_26 k) ?_
    refine J.sI0 X dX2_scans_27 (fun S27 h27 => ?_)
    exact J.vret (vr := fun t : Unit × jH => jrV t.1) (fin := Prod.snd) (t := t) X hr (by rfl) (by rfl) dX2_scans_28
noncomputable def X2_fires_b (G : jG) (n : Nat) (σ : jH) (this : Nat) (a1 : Option Nat) (a2 : Option Nat) : Option (Unit × jH) :=
  (rc σ (some this) 1).bind fun o2 => (X2_lag G n σ o2 a2).bind fun v2 => (gI σ a1 3 5).bind fun v6 => if v6 < v2 then ((pI G σ a2 4 6 (-1)).bind fun S21 => (gR S21 (some this) 1 5).bind fun v25 => (gI S21 a1 3 1).bind fun v29 => (rc S21 v25 2).bind fun o32 => (X3_isFree G n S21 o32 v29).bind fun v32 => if v32 = 0 then ((gR S21 (some this) 1 5).bind fun v55 => (gI S21 a1 3 1).bind fun v59 => (rc S21 v55 2).bind fun o62 => (X3_at G n S21 o62 v59).bind fun v62 => (jck' S21 v62 [4]).bind fun _ => (rc S21 (some this) 1).bind fun o68 => bd (X2_comes G n S21 o68 a1 v62) fun v68 S68 => some ((), S68)) else ((gR S21 (some this) 1 6).bind fun v39 => (aI S21 v39 0 6).bind fun v45 => (sI G S21 v39 0 6 (v45 + 1)).bind fun S48 => some ((), S48))) else ((rc σ (some this) 1).bind fun o15 => bd (X2_comes G n σ o15 a1 a2) fun v15 S15 => some ((), S15))
noncomputable def X2_fires (G : jG) (n : Nat) (σ : jH) (this : Nat) (a1 : Option Nat) (a2 : Option Nat) : Option (Unit × jH) := jck σ (X2_fires_b G n σ this a1 a2)
set_option maxHeartbeats 4000000 in
set_option maxRecDepth 100000 in
theorem ct_X2_fires (l : Launch) (G : jG) (n : Nat) (σ : jH) (this : Nat) (a1 : Option Nat) (a2 : Option Nat) : jCt l G yX2_fires (ws_ yX2_fires cX2_fires 3 none) 23 1268 jrV [.ref this, va_rf a1, va_rf a2] σ (X2_fires G n σ this a1 a2) := by
  refine jCt.wr (lv := [(0, .ref this), (1, va_rf a1), (2, va_rf a2)]) (plainFor_of_name (by decide)) (by simp [lg_sl, va_rf_cat, jcI, jcA, jcJ, jcD, jcF]) (by simp [lv_args, va_rf_cat, jcI, jcA, jcJ, jcD, jcF]) ?_
  intro t p e s m args below meth c ls X hr hnm hl
  have X : jCx p c cX2_fires 3 s m args RX2 G meth := X
  unfold X2_fires_b
  refine J.pu (fun _ _ _ _ k => lv_aload_n X.1.1 X.1.2.1 dX2_fires_0 rfl (lv_at hl 0 rfl) k) ?_
  refine J.pu (fun _ _ _ _ k => W.rload_n X.1.1 X.1.2.1 dX2_fires_1 rfl (lv_at hl 2 rfl) k) ?_
  refine J.bind (fun o2 g2 => ?_)
  refine J.bind (fun v2 h2 => ?_)
  refine J.cV (q := (RX2, TX2, 9)) (ci := 1) (As := [va_rf a2]) (rest := []) (s2 := [.int v2]) X ⟨rfl, rfl⟩ (ct_X2_lag l G n σ o2 a2) (jrd_of h2) (fun _ _ => cwV 1 X.1.2.2.2.2 (lw_V q2115 q2116 q2117 q139 q2118) rfl rfl rfl (by decide +kernel) ⟨(Nat.le_of_ble_eq_true rfl), (Nat.le_of_ble_eq_true rfl)⟩) g2 rfl rfl hl.1 rfl rfl (Nat.le_of_ble_eq_true rfl) dX2_fires_2 ?_
  refine J.pu (fun _ _ _ _ k => W.rload_n X.1.1 X.1.2.1 dX2_fires_5 rfl (lv_at hl 1 rfl) k) ?_
  refine J.getIN (k := 5) (ci := 3) X in_X4 (show jCl[3]? = some (RX4, TX4, 9) from rfl) (by decide) jnf25 (fun _ h => h) dX2_fires_6 (fun v6 h6 => ?_)
  refine J.br (fun _ _ _ _ ka kb => lv_icmp_gt (tgt := 19) X.1.1 X.1.2.1 dX2_fires_9 (by decide) ka kb) (fun c9 => ?_) (fun c9 => ?_)
  · refine J.pu (fun _ _ _ _ k => W.rload_n X.1.1 X.1.2.1 dX2_fires_19 rfl (lv_at hl 2 rfl) k) ?_
    refine J.pu (fun _ _ _ _ k => lv_iconst (v := (-1)) X.1.1 X.1.2.1 dX2_fires_20 (by decide) k) ?_
    refine J.putIN (k := 6) (ci := 4) X in_X5 (show jCl[4]? = some (RX5, TX5, 10) from rfl) tyX5_ok (fun a ha b hb h => Or.inl (nmX5 a ha b hb h)) (by decide) jnf46 (fun _ h => h) rfl rfl dX2_fires_21 (fun S21 h21 => ?_)
    refine J.pu (fun _ _ _ _ k => lv_aload_n X.1.1 X.1.2.1 dX2_fires_24 rfl (lv_at hl 0 rfl) k) ?_
    refine J.getR (k := 5) (ci := 1) X in_X2 (show jCl[1]? = some (RX2, TX2, 9) from rfl) (by decide) q699 (fun _ h => h) dX2_fires_25 (fun v25 h25 => ?_)
    refine J.pu (fun _ _ _ _ k => W.rload_n X.1.1 X.1.2.1 dX2_fires_28 rfl (lv_at hl 1 rfl) k) ?_
    refine J.getIN (k := 1) (ci := 3) X in_X4 (show jCl[3]? = some (RX4, TX4, 9) from rfl) (by decide) jnf18 (fun _ h => h) dX2_fires_29 (fun v29 h29 => ?_)
    refine J.bind (fun o32 g32 => ?_)
    refine J.bind (fun v32 h32 => ?_)
    refine J.cV (q := (RX3, TX3, 1)) (ci := 2) (As := [.int v29]) (rest := []) (s2 := [.int v32]) X ⟨rfl, rfl⟩ (ct_X3_isFree l G n S21 o32 v29) (jrd_of h32) (fun _ _ => cwV 1 X.1.2.2.2.2 (lw_V q1999 q2000 q2001 q159 q2002) rfl rfl rfl (by decide +kernel) ⟨(Nat.le_of_ble_eq_true rfl), (Nat.le_of_ble_eq_true rfl)⟩) g32 rfl rfl hl.1 rfl rfl (Nat.le_of_ble_eq_true rfl) dX2_fires_32 ?_
    refine J.br (fun _ _ _ _ ka kb => lv_if_eq (tgt := 52) X.1.1 X.1.2.1 dX2_fires_35 (by decide) ka kb) (fun c35 => ?_) (fun c35 => ?_)
    · refine J.pu (fun _ _ _ _ k => lv_aload_n X.1.1 X.1.2.1 dX2_fires_52 rfl (lv_at hl 0 rfl) k) ?_
      refine J.pu (fun _ _ _ _ k => W.rload_n X.1.1 X.1.2.1 dX2_fires_53 rfl (lv_at hl 1 rfl) k) ?_
      refine J.pu (fun _ _ _ _ k => lv_aload_n X.1.1 X.1.2.1 dX2_fires_54 rfl (lv_at hl 0 rfl) k) ?_
      refine J.getR (k := 5) (ci := 1) X in_X2 (show jCl[1]? = some (RX2, TX2, 9) from rfl) (by decide) q699 (fun _ h => h) dX2_fires_55 (fun v55 h55 => ?_)
      refine J.pu (fun _ _ _ _ k => W.rload_n X.1.1 X.1.2.1 dX2_fires_58 rfl (lv_at hl 1 rfl) k) ?_
      refine J.getIN (k := 1) (ci := 3) X in_X4 (show jCl[3]? = some (RX4, TX4, 9) from rfl) (by decide) jnf18 (fun _ h => h) dX2_fires_59 (fun v59 h59 => ?_)
      refine J.bind (fun o62 g62 => ?_)
      refine J.bind (fun v62 h62 => ?_)
      refine J.cV (q := (RX3, TX3, 1)) (ci := 2) (As := [.int v59]) (rest := [va_rf a1, .ref this]) (s2 := [va_rf v62, va_rf a1, .ref this]) X ⟨rfl, rfl⟩ (ct_X3_at l G n S21 o62 v59) (jrd_of h62) (fun _ _ => cwV 1 X.1.2.2.2.2 (lw_V q2095 q2096 q2097 q159 q2098) rfl rfl rfl (by decide +kernel) ⟨(Nat.le_of_ble_eq_true rfl), (Nat.le_of_ble_eq_true rfl)⟩) g62 rfl rfl hl.1 rfl rfl (by simp [va_rf_cat, jcI, jcA, jcJ, jcD, jcF]) dX2_fires_62 ?_
      refine J.cast (nm := "SortingLoop$Parcel") X q946 (List.forall_mem_cons.mpr ⟨⟨_, rfl, Or.inl rfl⟩, jnil_all⟩) dX2_fires_65 ?_
      refine J.bind (fun o68 g68 => ?_)
      refine J.bd' (fun v68 S68 h68 => ?_)
      refine J.cV (q := (RX2, TX2, 9)) (ci := 1) (As := [va_rf a1, va_rf v62]) (rest := []) (s2 := []) X ⟨rfl, rfl⟩ (ct_X2_comes l G n S21 o68 a1 v62) h68 (fun _ _ => cwV 2 X.1.2.2.2.2 (lw_V q2141 q2143 qs38 q139 q2144) rfl rfl rfl (by decide +kernel) ⟨(Nat.le_of_ble_eq_true rfl), (Nat.le_of_ble_eq_true rfl)⟩) g68 rfl rfl hl.1 rfl rfl (Nat.le_of_ble_eq_true rfl) dX2_fires_68 ?_
      exact J.vret (vr := fun t : Unit × jH => jrV t.1) (fin := Prod.snd) (t := t) X hr (by rfl) (by rfl) dX2_fires_71
    · refine J.pu (fun _ _ _ _ k => lv_aload_n X.1.1 X.1.2.1 dX2_fires_38 rfl (lv_at hl 0 rfl) k) ?_
      refine J.getR (k := 6) (ci := 1) X in_X2 (show jCl[1]? = some (RX2, TX2, 9) from rfl) (by decide) q701 (fun _ h => h) dX2_fires_39 (fun v39 h39 => ?_)
      refine J.pu (fun _ _ _ _ k => lv_bipush (v := 6) X.1.1 X.1.2.1 dX2_fires_42 (by decide) k) ?_
      refine J.pu (fun _ _ _ _ k => lv_dup2_11 X.1.1 X.1.2.1 dX2_fires_44 rfl (va_rf_cat _) k) ?_
      refine J.aI0 X dX2_fires_45 (fun v45 h45 => ?_)
      refine J.pu (fun _ _ _ _ k => lv_iconst (v := 1) X.1.1 X.1.2.1 dX2_fires_46 (by decide) k) ?_
      refine J.pu (fun _ _ _ _ k => lv_iadd X.1.1 X.1.2.1 dX2_fires_47 k) ?_
      refine J.sI0 X dX2_fires_48 (fun S48 h48 => ?_)
      refine J.pu (fun _ _ _ _ k => lv_goto (tgt := 71) X.1.1 X.1.2.1 dX2_fires_49 (by decide) k) ?_
      exact J.vret (vr := fun t : Unit × jH => jrV t.1) (fin := Prod.snd) (t := t) X hr (by rfl) (by rfl) dX2_fires_71
  · refine J.pu (fun _ _ _ _ k => lv_aload_n X.1.1 X.1.2.1 dX2_fires_12 rfl (lv_at hl 0 rfl) k) ?_
    refine J.pu (fun _ _ _ _ k => W.rload_n X.1.1 X.1.2.1 dX2_fires_13 rfl (lv_at hl 1 rfl) k) ?_
    refine J.pu (fun _ _ _ _ k => W.rload_n X.1.1 X.1.2.1 dX2_fires_14 rfl (lv_at hl 2 rfl) k) ?_
    refine J.bind (fun o15 g15 => ?_)
    refine J.bd' (fun v15 S15 h15 => ?_)
    refine J.cV (q := (RX2, TX2, 9)) (ci := 1) (As := [va_rf a1, va_rf a2]) (rest := []) (s2 := []) X ⟨rfl, rfl⟩ (ct_X2_comes l G n σ o15 a1 a2) h15 (fun _ _ => cwV 2 X.1.2.2.2.2 (lw_V q2141 q2143 qs38 q139 q2144) rfl rfl rfl (by decide +kernel) ⟨(Nat.le_of_ble_eq_true rfl), (Nat.le_of_ble_eq_true rfl)⟩) g15 rfl rfl hl.1 rfl rfl (Nat.le_of_ble_eq_true rfl) dX2_fires_15 ?_
    exact J.vret (vr := fun t : Unit × jH => jrV t.1) (fin := Prod.snd) (t := t) X hr (by rfl) (by rfl) dX2_fires_18
noncomputable def X7_init_X8_b (G : jG) (n : Nat) (σ : jH) (this : Nat) (a1 : Option Nat) : Option (Unit × jH) :=
  (pR G σ (some this) 6 5 a1).bind fun S2 => (pR G S2 (some this) 6 4 (G.2.2.2 7)).bind fun S12 => (rc S12 (some this) 6).bind fun o16 => bd (X7_advance_X8 G n S12 o16) fun v16 S16 => some ((), S16)
noncomputable def X7_init_X8 (G : jG) (n : Nat) (σ : jH) (this : Nat) (a1 : Option Nat) : Option (Unit × jH) := jck σ (X7_init_X8_b G n σ this a1)
set_option maxHeartbeats 4000000 in
set_option maxRecDepth 100000 in
theorem ct_X7_init_X8 (l : Launch) (G : jG) (n : Nat) (σ : jH) (this : Nat) (a1 : Option Nat) : jCt l G yX7_init (ws_ yX7_init cX7_init 2 none) 23 1266 jrV [.ref this, va_rf a1] σ (X7_init_X8 G n σ this a1) := by
  refine jCt.wr (lv := [(0, .ref this), (1, va_rf a1)]) (plainFor_of_name (by decide)) (by simp [lg_sl, va_rf_cat, jcI, jcA, jcJ, jcD, jcF]) (by simp [lv_args, va_rf_cat, jcI, jcA, jcJ, jcD, jcF]) ?_
  intro t p e s m args below meth c ls X hr hnm hl
  have X : jCx p c cX7_init 2 s m args RX7 G meth := X
  unfold X7_init_X8_b
  refine J.pu (fun _ _ _ _ k => lv_aload_n X.1.1 X.1.2.1 dX7_init_0 rfl (lv_at hl 0 rfl) k) ?_
  refine J.pu (fun _ _ _ _ k => W.rload_n X.1.1 X.1.2.1 dX7_init_1 rfl (lv_at hl 1 rfl) k) ?_
  refine J.putRF (k := 5) (ci := 6) X hnm in_X8 (show jCl[6]? = some (RX8, TX8, 8) from rfl) tyX8_ok jap_X8 (by decide) q1524 (fun _ h => h) rfl rfl (Or.inl ⟨_, rfl⟩) dX7_init_2 (fun S2 h2 => ?_)
  refine J.pu (fun _ _ _ _ k => lv_aload_n X.1.1 X.1.2.1 dX7_init_5 rfl (lv_at hl 0 rfl) k) ?_
  refine J.objI (a := this) X q1385 hl.1 dX7_init_6 (Nat.le_of_ble_eq_true rfl) (Nat.le_of_ble_eq_true rfl) ?_
  refine J.pu (fun _ _ _ _ k => lv_aload_n X.1.1 X.1.2.1 dX7_init_9 rfl (lv_at hl 0 rfl) k) ?_
  refine J.pu (fun _ _ _ _ k => W.ldcS (i := 7) X rfl dX7_init_10 k) ?_
  refine J.putR (k := 4) (ci := 6) X in_X8 (show jCl[6]? = some (RX8, TX8, 8) from rfl) tyX8_ok jap_X8 (by decide) q1523 (fun _ h => h) rfl (Or.inl ⟨_, rfl⟩) dX7_init_12 (fun S12 h12 => ?_)
  refine J.pu (fun _ _ _ _ k => lv_aload_n X.1.1 X.1.2.1 dX7_init_15 rfl (lv_at hl 0 rfl) k) ?_
  refine J.bind (fun o16 g16 => ?_)
  refine J.bd' (fun v16 S16 h16 => ?_)
  refine J.cU (q := (RX8, TX8, 8)) (ci := 6) (As := []) (rest := []) (s2 := []) X ⟨rfl, rfl⟩ (ct_X7_advance_X8 l G n S12 o16) h16 (fun _ _ => va_cwU 0 X.1.2.2.2.2 (lw_U q1387 q1389 q1391 q1388 q175 q1392) rfl rfl rfl rfl (by decide +kernel) ⟨(Nat.le_of_ble_eq_true rfl), (Nat.le_of_ble_eq_true rfl)⟩) g16 rfl rfl hl.1 rfl rfl (Nat.le_of_ble_eq_true rfl) dX7_init_16 ?_
  exact J.vret (vr := fun t : Unit × jH => jrV t.1) (fin := Prod.snd) (t := t) X hr (by rfl) (by rfl) dX7_init_19
noncomputable def X7_init_X10_b (G : jG) (n : Nat) (σ : jH) (this : Nat) (a1 : Option Nat) : Option (Unit × jH) :=
  (pR G σ (some this) 7 5 a1).bind fun S2 => (pR G S2 (some this) 7 4 (G.2.2.2 7)).bind fun S12 => (rc S12 (some this) 7).bind fun o16 => bd (X7_advance_X10 G n S12 o16) fun v16 S16 => some ((), S16)
noncomputable def X7_init_X10 (G : jG) (n : Nat) (σ : jH) (this : Nat) (a1 : Option Nat) : Option (Unit × jH) := jck σ (X7_init_X10_b G n σ this a1)
set_option maxHeartbeats 4000000 in
set_option maxRecDepth 100000 in
theorem ct_X7_init_X10 (l : Launch) (G : jG) (n : Nat) (σ : jH) (this : Nat) (a1 : Option Nat) : jCt l G yX7_init (ws_ yX7_init cX7_init 2 none) 23 1266 jrV [.ref this, va_rf a1] σ (X7_init_X10 G n σ this a1) := by
  refine jCt.wr (lv := [(0, .ref this), (1, va_rf a1)]) (plainFor_of_name (by decide)) (by simp [lg_sl, va_rf_cat, jcI, jcA, jcJ, jcD, jcF]) (by simp [lv_args, va_rf_cat, jcI, jcA, jcJ, jcD, jcF]) ?_
  intro t p e s m args below meth c ls X hr hnm hl
  have X : jCx p c cX7_init 2 s m args RX7 G meth := X
  unfold X7_init_X10_b
  refine J.pu (fun _ _ _ _ k => lv_aload_n X.1.1 X.1.2.1 dX7_init_0 rfl (lv_at hl 0 rfl) k) ?_
  refine J.pu (fun _ _ _ _ k => W.rload_n X.1.1 X.1.2.1 dX7_init_1 rfl (lv_at hl 1 rfl) k) ?_
  refine J.putRF (k := 5) (ci := 7) X hnm in_X10 (show jCl[7]? = some (RX10, TX10, 8) from rfl) tyX10_ok jap_X10 (by decide) q1524 (fun _ h => h) rfl rfl (Or.inl ⟨_, rfl⟩) dX7_init_2 (fun S2 h2 => ?_)
  refine J.pu (fun _ _ _ _ k => lv_aload_n X.1.1 X.1.2.1 dX7_init_5 rfl (lv_at hl 0 rfl) k) ?_
  refine J.objI (a := this) X q1385 hl.1 dX7_init_6 (Nat.le_of_ble_eq_true rfl) (Nat.le_of_ble_eq_true rfl) ?_
  refine J.pu (fun _ _ _ _ k => lv_aload_n X.1.1 X.1.2.1 dX7_init_9 rfl (lv_at hl 0 rfl) k) ?_
  refine J.pu (fun _ _ _ _ k => W.ldcS (i := 7) X rfl dX7_init_10 k) ?_
  refine J.putR (k := 4) (ci := 7) X in_X10 (show jCl[7]? = some (RX10, TX10, 8) from rfl) tyX10_ok jap_X10 (by decide) q1523 (fun _ h => h) rfl (Or.inl ⟨_, rfl⟩) dX7_init_12 (fun S12 h12 => ?_)
  refine J.pu (fun _ _ _ _ k => lv_aload_n X.1.1 X.1.2.1 dX7_init_15 rfl (lv_at hl 0 rfl) k) ?_
  refine J.bind (fun o16 g16 => ?_)
  refine J.bd' (fun v16 S16 h16 => ?_)
  refine J.cU (q := (RX10, TX10, 8)) (ci := 7) (As := []) (rest := []) (s2 := []) X ⟨rfl, rfl⟩ (ct_X7_advance_X10 l G n S12 o16) h16 (fun _ _ => va_cwU 0 X.1.2.2.2.2 (lw_U q1387 q1389 q1390 q1388 q175 q1392) rfl rfl rfl rfl (by decide +kernel) ⟨(Nat.le_of_ble_eq_true rfl), (Nat.le_of_ble_eq_true rfl)⟩) g16 rfl rfl hl.1 rfl rfl (Nat.le_of_ble_eq_true rfl) dX7_init_16 ?_
  exact J.vret (vr := fun t : Unit × jH => jrV t.1) (fin := Prod.snd) (t := t) X hr (by rfl) (by rfl) dX7_init_19
noncomputable def X7_number_X8_b (G : jG) (n : Nat) (σ : jH) (this : Nat) (a1 : Int32) (a2 : Int32) : Option (jTh Int32 × jH) :=
  (rc σ (some this) 6).bind fun o3 => tb (X7_numberHere_X8 G n σ o3 a1 a2) fun v3 S3 => (rc S3 (some this) 6).bind fun o8 => bd (X7_advance_X8 G n S3 o8) fun v8 S8 => some (.inl v3, S8)
noncomputable def X7_number_X8 (G : jG) (n : Nat) (σ : jH) (this : Nat) (a1 : Int32) (a2 : Int32) : Option (jTh Int32 × jH) := jck σ (X7_number_X8_b G n σ this a1 a2)
set_option maxHeartbeats 4000000 in
set_option maxRecDepth 100000 in
theorem ct_X7_number_X8 (l : Launch) (hfl : l.stackTraces = false) (G : jG) (n : Nat) (σ : jH) (this : Nat) (a1 : Int32) (a2 : Int32) : jTt l G yX7_number (ws_ yX7_number cX7_number 4 (some .int)) 23 1266 jrI [.ref this, .int a1, .int a2] σ (X7_number_X8 G n σ this a1 a2) := by
  refine jTt.wr (lv := [(0, .ref this), (1, .int a1), (2, .int a2)]) rfl (Nat.le_of_ble_eq_true rfl) rfl ?_
  intro t p e s m args below meth c ls X hr hnm hout hl
  have X : jCx p c cX7_number 4 s m args RX7 G meth := X
  unfold X7_number_X8_b
  refine J.pu (fun _ _ _ _ k => lv_aload_n X.1.1 X.1.2.1 dX7_number_0 rfl (lv_at hl 0 rfl) k) ?_
  refine J.pu (fun _ _ _ _ k => lv_iload_n X.1.1 X.1.2.1 dX7_number_1 rfl (lv_at hl 1 rfl) k) ?_
  refine J.pu (fun _ _ _ _ k => lv_iload_n X.1.1 X.1.2.1 dX7_number_2 rfl (lv_at hl 2 rfl) k) ?_
  refine J.bind (fun o3 g3 => ?_)
  refine J.tU (q := (RX8, TX8, 8)) (ci := 6) (As := [.int a1, .int a2]) (rest := []) X hout ⟨rfl, rfl⟩ (ct_X7_numberHere_X8 l hfl G n σ o3 a1 a2) (fun _ _ => va_cwU 2 X.1.2.2.2.2 (lw_U q1609 q1611 q1613 q1610 q175 q1614) rfl rfl rfl rfl (by decide +kernel) ⟨(Nat.le_of_ble_eq_true rfl), (Nat.le_of_ble_eq_true rfl)⟩) g3 rfl rfl hl.1 rfl (Nat.le_of_ble_eq_true rfl) dX7_number_3 (fun v3 S3 h3 => ?_)
  refine J.geq (g2 := F0 m 6 ls [.int v3]) rfl ?_
  refine J.istore_n (i := 3) (lv' := [(3, .int v3), (0, .ref this), (1, .int a1), (2, .int a2)]) X.1.1 X.1.2.1 dX7_number_6 rfl hl (by decide) (by first | rfl | simp [va_rf_cat, jcI, jcA, jcJ, jcD, jcF]) (fun ls hl => ?_)
  refine J.pu (fun _ _ _ _ k => lv_aload_n X.1.1 X.1.2.1 dX7_number_7 rfl (lv_at hl 1 rfl) k) ?_
  refine J.bind (fun o8 g8 => ?_)
  refine J.bd' (fun v8 S8 h8 => ?_)
  refine J.cU (q := (RX8, TX8, 8)) (ci := 6) (As := []) (rest := []) (s2 := []) X ⟨rfl, rfl⟩ (ct_X7_advance_X8 l G n S3 o8) h8 (fun _ _ => va_cwU 0 X.1.2.2.2.2 (lw_U q1387 q1389 q1391 q1388 q175 q1392) rfl rfl rfl rfl (by decide +kernel) ⟨(Nat.le_of_ble_eq_true rfl), (Nat.le_of_ble_eq_true rfl)⟩) g8 rfl rfl hl.1 rfl rfl (Nat.le_of_ble_eq_true rfl) dX7_number_8 ?_
  refine J.pu (fun _ _ _ _ k => lv_iload_n X.1.1 X.1.2.1 dX7_number_11 rfl (lv_at hl 0 rfl) k) ?_
  exact J.tret (J.iret (vr := fun t : Int32 × jH => jrI t.1) (fin := (Prod.snd : Int32 × jH → jH)) (t := (v3, S8)) X hr (by rfl) (by rfl) dX7_number_12)
noncomputable def X7_number_X10_b (G : jG) (n : Nat) (σ : jH) (this : Nat) (a1 : Int32) (a2 : Int32) : Option (jTh Int32 × jH) :=
  (rc σ (some this) 7).bind fun o3 => tb (X7_numberHere_X10 G n σ o3 a1 a2) fun v3 S3 => (rc S3 (some this) 7).bind fun o8 => bd (X7_advance_X10 G n S3 o8) fun v8 S8 => some (.inl v3, S8)
noncomputable def X7_number_X10 (G : jG) (n : Nat) (σ : jH) (this : Nat) (a1 : Int32) (a2 : Int32) : Option (jTh Int32 × jH) := jck σ (X7_number_X10_b G n σ this a1 a2)
set_option maxHeartbeats 4000000 in
set_option maxRecDepth 100000 in
theorem ct_X7_number_X10 (l : Launch) (hfl : l.stackTraces = false) (G : jG) (n : Nat) (σ : jH) (this : Nat) (a1 : Int32) (a2 : Int32) : jTt l G yX7_number (ws_ yX7_number cX7_number 4 (some .int)) 23 1266 jrI [.ref this, .int a1, .int a2] σ (X7_number_X10 G n σ this a1 a2) := by
  refine jTt.wr (lv := [(0, .ref this), (1, .int a1), (2, .int a2)]) rfl (Nat.le_of_ble_eq_true rfl) rfl ?_
  intro t p e s m args below meth c ls X hr hnm hout hl
  have X : jCx p c cX7_number 4 s m args RX7 G meth := X
  unfold X7_number_X10_b
  refine J.pu (fun _ _ _ _ k => lv_aload_n X.1.1 X.1.2.1 dX7_number_0 rfl (lv_at hl 0 rfl) k) ?_
  refine J.pu (fun _ _ _ _ k => lv_iload_n X.1.1 X.1.2.1 dX7_number_1 rfl (lv_at hl 1 rfl) k) ?_
  refine J.pu (fun _ _ _ _ k => lv_iload_n X.1.1 X.1.2.1 dX7_number_2 rfl (lv_at hl 2 rfl) k) ?_
  refine J.bind (fun o3 g3 => ?_)
  refine J.tU (q := (RX10, TX10, 8)) (ci := 7) (As := [.int a1, .int a2]) (rest := []) X hout ⟨rfl, rfl⟩ (ct_X7_numberHere_X10 l hfl G n σ o3 a1 a2) (fun _ _ => va_cwU 2 X.1.2.2.2.2 (lw_U q1609 q1611 q1612 q1610 q175 q1614) rfl rfl rfl rfl (by decide +kernel) ⟨(Nat.le_of_ble_eq_true rfl), (Nat.le_of_ble_eq_true rfl)⟩) g3 rfl rfl hl.1 rfl (Nat.le_of_ble_eq_true rfl) dX7_number_3 (fun v3 S3 h3 => ?_)
  refine J.geq (g2 := F0 m 6 ls [.int v3]) rfl ?_
  refine J.istore_n (i := 3) (lv' := [(3, .int v3), (0, .ref this), (1, .int a1), (2, .int a2)]) X.1.1 X.1.2.1 dX7_number_6 rfl hl (by decide) (by first | rfl | simp [va_rf_cat, jcI, jcA, jcJ, jcD, jcF]) (fun ls hl => ?_)
  refine J.pu (fun _ _ _ _ k => lv_aload_n X.1.1 X.1.2.1 dX7_number_7 rfl (lv_at hl 1 rfl) k) ?_
  refine J.bind (fun o8 g8 => ?_)
  refine J.bd' (fun v8 S8 h8 => ?_)
  refine J.cU (q := (RX10, TX10, 8)) (ci := 7) (As := []) (rest := []) (s2 := []) X ⟨rfl, rfl⟩ (ct_X7_advance_X10 l G n S3 o8) h8 (fun _ _ => va_cwU 0 X.1.2.2.2.2 (lw_U q1387 q1389 q1390 q1388 q175 q1392) rfl rfl rfl rfl (by decide +kernel) ⟨(Nat.le_of_ble_eq_true rfl), (Nat.le_of_ble_eq_true rfl)⟩) g8 rfl rfl hl.1 rfl rfl (Nat.le_of_ble_eq_true rfl) dX7_number_8 ?_
  refine J.pu (fun _ _ _ _ k => lv_iload_n X.1.1 X.1.2.1 dX7_number_11 rfl (lv_at hl 0 rfl) k) ?_
  exact J.tret (J.iret (vr := fun t : Int32 × jH => jrI t.1) (fin := (Prod.snd : Int32 × jH → jH)) (t := (v3, S8)) X hr (by rfl) (by rfl) dX7_number_12)
noncomputable def X8_init_b (G : jG) (n : Nat) (σ : jH) (this : Nat) (a1 : Option Nat) : Option (Unit × jH) :=
  (pR G σ (some this) 6 7 a1).bind fun S2 => bd (X7_init_X8 G n S2 this a1) fun v7 S7 => some ((), S7)
noncomputable def X8_init (G : jG) (n : Nat) (σ : jH) (this : Nat) (a1 : Option Nat) : Option (Unit × jH) := jck σ (X8_init_b G n σ this a1)
set_option maxHeartbeats 4000000 in
set_option maxRecDepth 100000 in
theorem ct_X8_init (l : Launch) (G : jG) (n : Nat) (σ : jH) (this : Nat) (a1 : Option Nat) : jCt l G yX8_init (ws_ yX8_init cX8_init 2 none) 24 1287 jrV [.ref this, va_rf a1] σ (X8_init G n σ this a1) := by
  refine jCt.wr (lv := [(0, .ref this), (1, va_rf a1)]) (plainFor_of_name (by decide)) (by simp [lg_sl, va_rf_cat, jcI, jcA, jcJ, jcD, jcF]) (by simp [lv_args, va_rf_cat, jcI, jcA, jcJ, jcD, jcF]) ?_
  intro t p e s m args below meth c ls X hr hnm hl
  have X : jCx p c cX8_init 2 s m args RX8 G meth := X
  unfold X8_init_b
  refine J.pu (fun _ _ _ _ k => lv_aload_n X.1.1 X.1.2.1 dX8_init_0 rfl (lv_at hl 0 rfl) k) ?_
  refine J.pu (fun _ _ _ _ k => W.rload_n X.1.1 X.1.2.1 dX8_init_1 rfl (lv_at hl 1 rfl) k) ?_
  refine J.putRF (k := 7) (ci := 6) X hnm in_X8 (show jCl[6]? = some (RX8, TX8, 8) from rfl) tyX8_ok jap_X8 (by decide) q1518 (fun _ h => h) rfl rfl (Or.inl ⟨_, rfl⟩) dX8_init_2 (fun S2 h2 => ?_)
  refine J.pu (fun _ _ _ _ k => lv_aload_n X.1.1 X.1.2.1 dX8_init_5 rfl (lv_at hl 0 rfl) k) ?_
  refine J.pu (fun _ _ _ _ k => W.rload_n X.1.1 X.1.2.1 dX8_init_6 rfl (lv_at hl 1 rfl) k) ?_
  refine J.bd' (fun v7 S7 h7 => ?_)
  refine J.cI (a := this) (As := [va_rf a1]) (rest := []) (s2 := []) X ⟨rfl, rfl⟩ (ct_X7_init_X8 l G n S2 this a1) h7 (fun _ _ => jcwI 1 X.1.2.2.2.2 q1382 q1383 q175 q1384 rfl rfl rfl (by decide +kernel) ⟨(Nat.le_of_ble_eq_true rfl), (Nat.le_of_ble_eq_true rfl)⟩) rfl hl.1 rfl rfl (Nat.le_of_ble_eq_true rfl) dX8_init_7 ?_
  exact J.vret (vr := fun t : Unit × jH => jrV t.1) (fin := Prod.snd) (t := t) X hr (by rfl) (by rfl) dX8_init_10
