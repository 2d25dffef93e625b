/-! the component, walked: printed by wip gen/comp.py -/
set_option maxRecDepth 100000
noncomputable def X17_init_b (G : jG) (n : Nat) (σ : jH) (this : Nat) (a1 : Option Nat) : Option (Unit × jH) :=
  bd (X11_init_X17 G n σ this a1) fun v2 S2 => some ((), S2)
noncomputable def X17_init (G : jG) (n : Nat) (σ : jH) (this : Nat) (a1 : Option Nat) : Option (Unit × jH) := jck σ (X17_init_b G n σ this a1)
set_option maxHeartbeats 4000000 in
set_option maxRecDepth 100000 in
theorem ct_X17_init (l : Launch) (G : jG) (n : Nat) (σ : jH) (this : Nat) (a1 : Option Nat) : jCt l G yX17_init (ws_ yX17_init cX17_init 2 none) 2 51 jrV [.ref this, va_rf a1] σ (X17_init G n σ this a1) := by
  refine jCt.wr (lv := [(0, .ref this), (1, va_rf a1)]) (plainFor_of_name (by decide)) (by simp [lg_sl, va_rf_cat, jcI, jcA, jcJ, jcD, jcF]) (by simp [lv_args, va_rf_cat, jcI, jcA, jcJ, jcD, jcF]) ?_
  intro t p e s m args below meth c ls X hr hnm hl
  have X : jCx p c cX17_init 2 s m args RX17 G meth := X
  unfold X17_init_b
  refine J.pu (fun _ _ _ _ k => lv_aload_n X.1.1 X.1.2.1 dX17_init_0 rfl (lv_at hl 0 rfl) k) ?_
  refine J.pu (fun _ _ _ _ k => W.rload_n X.1.1 X.1.2.1 dX17_init_1 rfl (lv_at hl 1 rfl) k) ?_
  refine J.bd' (fun v2 S2 h2 => ?_)
  refine J.cI (a := this) (As := [va_rf a1]) (rest := []) (s2 := []) X ⟨rfl, rfl⟩ (ct_X11_init_X17 l G n σ this a1) h2 (fun _ _ => jcwI 1 X.1.2.2.2.2 q1889 q1834 q183 q1835 rfl rfl rfl (by decide +kernel) ⟨(Nat.le_of_ble_eq_true rfl), (Nat.le_of_ble_eq_true rfl)⟩) rfl hl.1 rfl rfl (Nat.le_of_ble_eq_true rfl) dX17_init_2 ?_
  exact J.vret (vr := fun t : Unit × jH => jrV t.1) (fin := Prod.snd) (t := t) X hr (by rfl) (by rfl) dX17_init_5
noncomputable def X2_chute (G : jG) (n : Nat) (σ : jH) (this : Nat) (a1 : Int32) : Option (Option Nat) :=
  (gR σ (some this) 1 3).bind fun v1 => (rc σ v1 15).bind fun o5 => (lGet 0 σ o5 a1).bind fun v5 => (jck' σ v5 [3]).bind fun _ => some v5
set_option maxHeartbeats 4000000 in
set_option maxRecDepth 100000 in
theorem ct_X2_chute (l : Launch) (G : jG) (n : Nat) (σ : jH) (this : Nat) (a1 : Int32) : jCt l G yX2_chute (ws_ yX2_chute cX2_chute 2 (some (.object "SortingLoop$Chute"))) 21 1221 jrR [.ref this, .int a1] σ (jrd σ (X2_chute G n σ this a1)) := by
  refine jCt.rd (lv := [(0, .ref this), (1, .int a1)]) (plainFor_of_name (by decide)) (Nat.le_of_ble_eq_true rfl) rfl ?_
  intro t p e s m args below meth c ls X hr hnm hl
  have X : jCx p c cX2_chute 2 s m args RX2 G meth := X
  unfold X2_chute
  refine J.pu (fun _ _ _ _ k => lv_aload_n X.1.1 X.1.2.1 dX2_chute_0 rfl (lv_at hl 0 rfl) k) ?_
  refine J.getR (k := 3) (ci := 1) X in_X2 (show jCl[1]? = some (RX2, TX2, 9) from rfl) (by decide) q692 (fun _ h => h) dX2_chute_1 (fun v1 h1 => ?_)
  refine J.pu (fun _ _ _ _ k => lv_iload_n X.1.1 X.1.2.1 dX2_chute_4 rfl (lv_at hl 1 rfl) k) ?_
  refine J.bind (fun o5 g5 => ?_)
  refine J.bind (fun v5 h5 => ?_)
  refine J.cF (q := (RJ2, TJ2, 3)) (ci := 15) (As := [.int a1]) (rest := []) (s2 := [va_rf v5]) X ⟨rfl, rfl⟩ (ct_J2_get l G σ o5 a1) (jrd_of h5) (fun _ _ => va_cwF 1 X.1.2.2.2.2 (lw_F q848 q851 q853 q142 q855) rfl rfl rfl (jfw4 X.2.1) (by decide +kernel) ⟨(Nat.le_of_ble_eq_true rfl), (Nat.le_of_ble_eq_true rfl)⟩) g5 rfl rfl hl.1 rfl rfl (Nat.le_of_ble_eq_true rfl) dX2_chute_5 ?_
  refine J.cast (nm := "SortingLoop$Chute") X q842 (List.forall_mem_cons.mpr ⟨⟨_, rfl, Or.inl rfl⟩, jnil_all⟩) dX2_chute_10 ?_
  exact J.aret (vr := jrR) (fin := fun _ : Option Nat => σ) (t := t) X hr (Or.inl ⟨_, rfl⟩) (by rfl) (by rfl) dX2_chute_13
noncomputable def X2_parcel (G : jG) (n : Nat) (σ : jH) (this : Nat) (a1 : Int32) : Option (Option Nat) :=
  (gR σ (some this) 1 4).bind fun v1 => (rc σ v1 15).bind fun o5 => (lGet 0 σ o5 a1).bind fun v5 => (jck' σ v5 [4]).bind fun _ => some v5
set_option maxHeartbeats 4000000 in
set_option maxRecDepth 100000 in
theorem ct_X2_parcel (l : Launch) (G : jG) (n : Nat) (σ : jH) (this : Nat) (a1 : Int32) : jCt l G yX2_parcel (ws_ yX2_parcel cX2_parcel 2 (some (.object "SortingLoop$Parcel"))) 21 1221 jrR [.ref this, .int a1] σ (jrd σ (X2_parcel G n σ this a1)) := by
  refine jCt.rd (lv := [(0, .ref this), (1, .int a1)]) (plainFor_of_name (by decide)) (Nat.le_of_ble_eq_true rfl) rfl ?_
  intro t p e s m args below meth c ls X hr hnm hl
  have X : jCx p c cX2_parcel 2 s m args RX2 G meth := X
  unfold X2_parcel
  refine J.pu (fun _ _ _ _ k => lv_aload_n X.1.1 X.1.2.1 dX2_parcel_0 rfl (lv_at hl 0 rfl) k) ?_
  refine J.getR (k := 4) (ci := 1) X in_X2 (show jCl[1]? = some (RX2, TX2, 9) from rfl) (by decide) q696 (fun _ h => h) dX2_parcel_1 (fun v1 h1 => ?_)
  refine J.pu (fun _ _ _ _ k => lv_iload_n X.1.1 X.1.2.1 dX2_parcel_4 rfl (lv_at hl 1 rfl) k) ?_
  refine J.bind (fun o5 g5 => ?_)
  refine J.bind (fun v5 h5 => ?_)
  refine J.cF (q := (RJ2, TJ2, 3)) (ci := 15) (As := [.int a1]) (rest := []) (s2 := [va_rf v5]) X ⟨rfl, rfl⟩ (ct_J2_get l G σ o5 a1) (jrd_of h5) (fun _ _ => va_cwF 1 X.1.2.2.2.2 (lw_F q848 q851 q853 q142 q855) rfl rfl rfl (jfw4 X.2.1) (by decide +kernel) ⟨(Nat.le_of_ble_eq_true rfl), (Nat.le_of_ble_eq_true rfl)⟩) g5 rfl rfl hl.1 rfl rfl (Nat.le_of_ble_eq_true rfl) dX2_parcel_5 ?_
  refine J.cast (nm := "SortingLoop$Parcel") X q946 (List.forall_mem_cons.mpr ⟨⟨_, rfl, Or.inl rfl⟩, jnil_all⟩) dX2_parcel_10 ?_
  exact J.aret (vr := jrR) (fin := fun _ : Option Nat => σ) (t := t) X hr (Or.inl ⟨_, rfl⟩) (by rfl) (by rfl) dX2_parcel_13
noncomputable def X2_fills_h19 (G : jG) (n : Nat) (this : Nat) (a1 : Option Nat) (a2 : Option Nat) (x3_19 : Option Nat) (rec19 : jH → Option (Unit × jH)) (q19 : jH) : Option (Unit × jH) :=
  let B19 := q19; (rc B19 x3_19 19).bind fun o20 => (itHas B19 o20).bind fun v20 => if v20 = 0 then ((gI B19 a2 3 5).bind fun v63 => (pI G B19 a1 3 5 v63).bind fun S66 => (gI S66 a2 3 6).bind fun v71 => (pI G S66 a1 3 6 v71).bind fun S74 => (gI S74 a2 3 7).bind fun v79 => (pI G S74 a1 3 7 v79).bind fun S82 => (gI S82 a2 3 8).bind fun v87 => (pB G S82 a1 3 8 v87).bind fun S90 => some ((), S90)) else ((rc B19 x3_19 19).bind fun o29 => bd (jck B19 (itNext G B19 o29)) fun v29 S29 => (jck' S29 v29 [4]).bind fun _ => (gR S29 a1 3 4).bind fun v40 => (gI S29 v29 4 0).bind fun v46 => (rc S29 (some this) 1).bind fun o49 => (X2_parcel G n S29 o49 v46).bind fun v49 => (rc S29 v40 16).bind fun o52 => bd (jck S29 (llAdd G S29 o52 v49)) fun v52 S52 => rec19 S52)
noncomputable def X2_fills_b (G : jG) (n : Nat) (σ : jH) (this : Nat) (a1 : Option Nat) (a2 : Option Nat) : Option (Unit × jH) :=
  (gR σ a1 3 4).bind fun v1 => (rc σ v1 16).bind fun o4 => bd (jck σ (llClear G σ o4)) fun v4 S4 => (gR S4 a2 3 4).bind fun v10 => (rc S4 v10 16).bind fun o13 => bd (jck S4 (llIter S4 o13)) fun v13 S13 => jloop (X2_fills_h19 G n this a1 a2 v13) n S13
noncomputable def X2_fills (G : jG) (n : Nat) (σ : jH) (this : Nat) (a1 : Option Nat) (a2 : Option Nat) : Option (Unit × jH) := jck σ (X2_fills_b G n σ this a1 a2)
set_option maxHeartbeats 4000000 in
set_option maxRecDepth 100000 in
theorem ct_X2_fills (l : Launch) (G : jG) (n : Nat) (σ : jH) (this : Nat) (a1 : Option Nat) (a2 : Option Nat) : jCt l G yX2_fills (ws_ yX2_fills cX2_fills 5 none) 22 1242 jrV [.ref this, va_rf a1, va_rf a2] σ (X2_fills G n σ this a1 a2) := by
  refine jCt.wr (lv := [(0, .ref this), (1, va_rf a1), (2, va_rf a2)]) (plainFor_of_name (by decide)) (by simp [lg_sl, va_rf_cat, jcI, jcA, jcJ, jcD, jcF]) (by simp [lv_args, va_rf_cat, jcI, jcA, jcJ, jcD, jcF]) ?_
  intro t p e s m args below meth c ls X hr hnm hl
  have X : jCx p c cX2_fills 5 s m args RX2 G meth := X
  have L19 : ∀ (x3_19 : Option Nat) (n19 : Nat) (B19 : jH) (ls : Array Slot), lv_has ls 5 [(0, .ref this), (1, va_rf a1), (2, va_rf a2), (3, va_rf x3_19)] → jGo l G 22 1242 σ (Prod.snd : Unit × jH → jH) (fun t => jrV t.1) t p e s m args below meth c (jloop (X2_fills_h19 G n this a1 a2 x3_19) n19 B19) B19 (F0 m 19 ls []) := by
    intro x3_19
    intro n19
    induction n19 with
    | zero => intro B19 ls hl; exact J.nil_
    | succ n19 ih19 =>
      intro B19 ls hl
      refine J.eq (jloop_s _ _ _) ?_
      dsimp only [X2_fills_h19]
      refine J.pu (fun _ _ _ _ k => W.rload_n X.1.1 X.1.2.1 dX2_fills_19 rfl (lv_at hl 3 rfl) k) ?_
      refine J.bind (fun o20 g20 => ?_)
      refine J.bind (fun v20 h20 => ?_)
      refine J.cF (q := (RJ26, TJ26, 5)) (ci := 19) (As := []) (rest := []) (s2 := [.int v20]) X ⟨rfl, rfl⟩ (ct_J26_hasNext l G B19 o20) (jrd_of h20) (fun _ _ => va_cwF 0 X.1.2.2.2.2 (lw_F q1172 q1196 q1198 q172 q1200) rfl rfl rfl (jfw17 X.2.1) (by decide +kernel) ⟨(Nat.le_of_ble_eq_true rfl), (Nat.le_of_ble_eq_true rfl)⟩) g20 rfl rfl hl.1 rfl rfl (Nat.le_of_ble_eq_true rfl) dX2_fills_20 ?_
      refine J.br (fun _ _ _ _ ka kb => lv_if_eq (tgt := 61) X.1.1 X.1.2.1 dX2_fills_25 (by decide) ka kb) (fun c25 => ?_) (fun c25 => ?_)
      · refine J.pu (fun _ _ _ _ k => W.rload_n X.1.1 X.1.2.1 dX2_fills_61 rfl (lv_at hl 1 rfl) k) ?_
        refine J.pu (fun _ _ _ _ k => W.rload_n X.1.1 X.1.2.1 dX2_fills_62 rfl (lv_at hl 2 rfl) k) ?_
        refine J.getIN (k := 5) (ci := 3) X in_X4 (show jCl[3]? = some (RX4, TX4, 9) from rfl) (by decide) jnf25 (fun _ h => h) dX2_fills_63 (fun v63 h63 => ?_)
        refine J.putIN (k := 5) (ci := 3) X in_X4 (show jCl[3]? = some (RX4, TX4, 9) from rfl) tyX4_ok (fun a ha b hb h => Or.inl (nmX4 a ha b hb h)) (by decide) jnf25 (fun _ h => h) rfl rfl dX2_fills_66 (fun S66 h66 => ?_)
        refine J.pu (fun _ _ _ _ k => W.rload_n X.1.1 X.1.2.1 dX2_fills_69 rfl (lv_at hl 1 rfl) k) ?_
        refine J.pu (fun _ _ _ _ k => W.rload_n X.1.1 X.1.2.1 dX2_fills_70 rfl (lv_at hl 2 rfl) k) ?_
        refine J.getIN (k := 6) (ci := 3) X in_X4 (show jCl[3]? = some (RX4, TX4, 9) from rfl) (by decide) jnf27 (fun _ h => h) dX2_fills_71 (fun v71 h71 => ?_)
        refine J.putIN (k := 6) (ci := 3) X in_X4 (show jCl[3]? = some (RX4, TX4, 9) from rfl) tyX4_ok (fun a ha b hb h => Or.inl (nmX4 a ha b hb h)) (by decide) jnf27 (fun _ h => h) rfl rfl dX2_fills_74 (fun S74 h74 => ?_)
        refine J.pu (fun _ _ _ _ k => W.rload_n X.1.1 X.1.2.1 dX2_fills_77 rfl (lv_at hl 1 rfl) k) ?_
        refine J.pu (fun _ _ _ _ k => W.rload_n X.1.1 X.1.2.1 dX2_fills_78 rfl (lv_at hl 2 rfl) k) ?_
        refine J.getIN (k := 7) (ci := 3) X in_X4 (show jCl[3]? = some (RX4, TX4, 9) from rfl) (by decide) jnf29 (fun _ h => h) dX2_fills_79 (fun v79 h79 => ?_)
        refine J.putIN (k := 7) (ci := 3) X in_X4 (show jCl[3]? = some (RX4, TX4, 9) from rfl) tyX4_ok (fun a ha b hb h => Or.inl (nmX4 a ha b hb h)) (by decide) jnf29 (fun _ h => h) rfl rfl dX2_fills_82 (fun S82 h82 => ?_)
        refine J.pu (fun _ _ _ _ k => W.rload_n X.1.1 X.1.2.1 dX2_fills_85 rfl (lv_at hl 1 rfl) k) ?_
        refine J.pu (fun _ _ _ _ k => W.rload_n X.1.1 X.1.2.1 dX2_fills_86 rfl (lv_at hl 2 rfl) k) ?_
        refine J.getIN (k := 8) (ci := 3) X in_X4 (show jCl[3]? = some (RX4, TX4, 9) from rfl) (by decide) jnf31 (fun _ h => h) dX2_fills_87 (fun v87 h87 => ?_)
        refine J.putBN (k := 8) (ci := 3) X in_X4 (show jCl[3]? = some (RX4, TX4, 9) from rfl) tyX4_ok (fun a ha b hb h => Or.inl (nmX4 a ha b hb h)) (by decide) jnf31 (fun _ h => h) rfl (Or.inl rfl) dX2_fills_90 (fun S90 h90 => ?_)
        exact J.vret (vr := fun t : Unit × jH => jrV t.1) (fin := Prod.snd) (t := t) X hr (by rfl) (by rfl) dX2_fills_93
      · refine J.pu (fun _ _ _ _ k => W.rload_n X.1.1 X.1.2.1 dX2_fills_28 rfl (lv_at hl 3 rfl) k) ?_
        refine J.bind (fun o29 g29 => ?_)
        refine J.bd' (fun v29 S29 h29 => ?_)
        refine J.cF (q := (RJ26, TJ26, 5)) (ci := 19) (As := []) (rest := []) (s2 := [va_rf v29]) X ⟨rfl, rfl⟩ (ct_J26_next l G B19 o29) h29 (fun _ _ => va_cwF 0 X.1.2.2.2.2 (lw_F q1202 q1309 q1311 q172 q1313) rfl rfl rfl (jfw21 X.2.1) (by decide +kernel) ⟨(Nat.le_of_ble_eq_true rfl), (Nat.le_of_ble_eq_true rfl)⟩) g29 rfl rfl hl.1 rfl rfl (Nat.le_of_ble_eq_true rfl) dX2_fills_29 ?_
        refine J.cast (nm := "SortingLoop$Parcel") X q946 (List.forall_mem_cons.mpr ⟨⟨_, rfl, Or.inl rfl⟩, jnil_all⟩) dX2_fills_34 ?_
        refine J.astore (r := v29) (lv' := [(4, va_rf v29), (0, .ref this), (1, va_rf a1), (2, va_rf a2), (3, va_rf x3_19)]) X.1.1 X.1.2.1 dX2_fills_37 hl (by decide) (by first | rfl | simp [va_rf_cat, jcI, jcA, jcJ, jcD, jcF]) (fun ls hl => ?_)
        refine J.pu (fun _ _ _ _ k => W.rload_n X.1.1 X.1.2.1 dX2_fills_39 rfl (lv_at hl 2 rfl) k) ?_
        refine J.getRN (k := 4) (ci := 3) X in_X4 (show jCl[3]? = some (RX4, TX4, 9) from rfl) (by decide) jnf23 (fun _ h => h) dX2_fills_40 (fun v40 h40 => ?_)
        refine J.pu (fun _ _ _ _ k => lv_aload_n X.1.1 X.1.2.1 dX2_fills_43 rfl (lv_at hl 1 rfl) k) ?_
        refine J.pu (fun _ _ _ _ k => W.rload X.1.1 X.1.2.1 dX2_fills_44 (lv_at hl 0 rfl) k) ?_
        refine J.getIN (k := 0) (ci := 4) X in_X5 (show jCl[4]? = some (RX5, TX5, 10) from rfl) (by decide) jnf33 (fun _ h => h) dX2_fills_46 (fun v46 h46 => ?_)
        refine J.bind (fun o49 g49 => ?_)
        refine J.bind (fun v49 h49 => ?_)
        refine J.cV (q := (RX2, TX2, 9)) (ci := 1) (As := [.int v46]) (rest := [va_rf v40]) (s2 := [va_rf v49, va_rf v40]) X ⟨rfl, rfl⟩ (ct_X2_parcel l G n S29 o49 v46) (jrd_of h49) (fun _ _ => cwV 1 X.1.2.2.2.2 (lw_V q942 q943 q944 q139 q945) rfl rfl rfl (by decide +kernel) ⟨(Nat.le_of_ble_eq_true rfl), (Nat.le_of_ble_eq_true rfl)⟩) g49 rfl rfl hl.1 rfl rfl (by simp [va_rf_cat, jcI, jcA, jcJ, jcD, jcF]) dX2_fills_49 ?_
        refine J.bind (fun o52 g52 => ?_)
        refine J.bd' (fun v52 S52 h52 => ?_)
        refine J.cF (q := (RJ19, TJ19, 4)) (ci := 16) (As := [va_rf v49]) (rest := []) (s2 := [.int v52]) X ⟨rfl, rfl⟩ (ct_J19_add l G S29 o52 v49) h52 (fun _ _ => va_cwF 1 X.1.2.2.2.2 (lw_F q914 q648 q650 q163 q652) rfl rfl rfl (jfw1 X.2.1) (by decide +kernel) ⟨(Nat.le_of_ble_eq_true rfl), (Nat.le_of_ble_eq_true rfl)⟩) g52 rfl rfl hl.1 rfl rfl (Nat.le_of_ble_eq_true rfl) dX2_fills_52 ?_
        refine J.pu (fun _ _ _ _ k => lv_pop X.1.1 X.1.2.1 dX2_fills_57 rfl k) ?_
        refine J.pu (fun _ _ _ _ k => lv_goto (tgt := 19) X.1.1 X.1.2.1 dX2_fills_58 (by decide) k) ?_
        exact ih19 S52 ls (lv_sub hl [1, 2, 3, 4] rfl)
  unfold X2_fills_b
  refine J.pu (fun _ _ _ _ k => W.rload_n X.1.1 X.1.2.1 dX2_fills_0 rfl (lv_at hl 1 rfl) k) ?_
  refine J.getRN (k := 4) (ci := 3) X in_X4 (show jCl[3]? = some (RX4, TX4, 9) from rfl) (by decide) jnf23 (fun _ h => h) dX2_fills_1 (fun v1 h1 => ?_)
  refine J.bind (fun o4 g4 => ?_)
  refine J.bd' (fun v4 S4 h4 => ?_)
  refine J.cF (q := (RJ19, TJ19, 4)) (ci := 16) (As := []) (rest := []) (s2 := []) X ⟨rfl, rfl⟩ (ct_J19_clear l G σ o4) h4 (fun _ _ => va_cwF 0 X.1.2.2.2.2 (lw_F q1050 q1058 q1060 q163 q1062) rfl rfl rfl (jfw11 X.2.1) (by decide +kernel) ⟨(Nat.le_of_ble_eq_true rfl), (Nat.le_of_ble_eq_true rfl)⟩) g4 rfl rfl hl.1 rfl rfl (Nat.le_of_ble_eq_true rfl) dX2_fills_4 ?_
  refine J.pu (fun _ _ _ _ k => W.rload_n X.1.1 X.1.2.1 dX2_fills_9 rfl (lv_at hl 2 rfl) k) ?_
  refine J.getRN (k := 4) (ci := 3) X in_X4 (show jCl[3]? = some (RX4, TX4, 9) from rfl) (by decide) jnf23 (fun _ h => h) dX2_fills_10 (fun v10 h10 => ?_)
  refine J.bind (fun o13 g13 => ?_)
  refine J.bd' (fun v13 S13 h13 => ?_)
  refine J.cF (q := (RJ19, TJ19, 4)) (ci := 16) (As := []) (rest := []) (s2 := [va_rf v13]) X ⟨rfl, rfl⟩ (ct_J18_iterator l G S4 o13) h13 (fun _ _ => va_cwF 0 X.1.2.2.2.2 (lw_F q1064 q1093 q1095 q162 q1097) rfl rfl rfl (jfw13 X.2.1) (by decide +kernel) ⟨(Nat.le_of_ble_eq_true rfl), (Nat.le_of_ble_eq_true rfl)⟩) g13 rfl rfl hl.1 rfl rfl (Nat.le_of_ble_eq_true rfl) dX2_fills_13 ?_
  refine J.astore_n (r := v13) (i := 3) (lv' := [(3, va_rf v13), (0, .ref this), (1, va_rf a1), (2, va_rf a2)]) X.1.1 X.1.2.1 dX2_fills_18 rfl hl (by decide) (by first | rfl | simp [va_rf_cat, jcI, jcA, jcJ, jcD, jcF]) (fun ls hl => ?_)
  exact L19 v13 n S13 ls (lv_sub hl [1, 2, 3, 0] rfl)
noncomputable def X2_scannerMany_h4 (G : jG) (n : Nat) (σ : jH) (this : Nat) (rec4 : Int32 × Int32 → Option (Int32)) (q4 : Int32 × Int32) : Option (Int32) :=
  let x1_4 := q4.1; let x2_4 := q4.2; (gI σ (some this) 1 0).bind fun v6 => if v6 ≤ x2_4 then (some x1_4) else ((gR σ (some this) 1 2).bind fun v14 => (aI σ v14 2 x2_4).bind fun v18 => (X1_bit G n σ v18).bind fun v19 => rec4 ((x1_4 + v19), (x2_4 + 1)))
noncomputable def X2_scannerMany (G : jG) (n : Nat) (σ : jH) (this : Nat) : Option (Int32) :=
  jloop (X2_scannerMany_h4 G n σ this) n (0, 0)
set_option maxHeartbeats 4000000 in
set_option maxRecDepth 100000 in
theorem ct_X2_scannerMany (l : Launch) (G : jG) (n : Nat) (σ : jH) (this : Nat) : jCt l G yX2_scannerMany (ws_ yX2_scannerMany cX2_scannerMany 3 (some .int)) 1 20 jrI [.ref this] σ (jrd σ (X2_scannerMany G n σ this)) := by
  refine jCt.rd (lv := [(0, .ref this)]) (plainFor_of_name (by decide)) (Nat.le_of_ble_eq_true rfl) rfl ?_
  intro t p e s m args below meth c ls X hr hnm hl
  have X : jCx p c cX2_scannerMany 3 s m args RX2 G meth := X
  have L4 : ∀ (n4 : Nat) (x1_4 : Int32) (x2_4 : Int32) (ls : Array Slot), lv_has ls 3 [(0, .ref this), (1, .int x1_4), (2, .int x2_4)] → jGo l G 1 20 σ (fun _ : Int32 => σ) jrI t p e s m args below meth c (jloop (X2_scannerMany_h4 G n σ this) n4 (x1_4, x2_4)) σ (F0 m 4 ls []) := by
    intro n4
    induction n4 with
    | zero => intro x1_4 x2_4 ls hl; exact J.nil_
    | succ n4 ih4 =>
      intro x1_4 x2_4 ls hl
      refine J.eq (jloop_s _ _ _) ?_
      dsimp only [X2_scannerMany_h4]
      refine J.pu (fun _ _ _ _ k => lv_iload_n X.1.1 X.1.2.1 dX2_scannerMany_4 rfl (lv_at hl 2 rfl) k) ?_
      refine J.pu (fun _ _ _ _ k => lv_aload_n X.1.1 X.1.2.1 dX2_scannerMany_5 rfl (lv_at hl 0 rfl) k) ?_
      refine J.getI (k := 0) (ci := 1) X in_X2 (show jCl[1]? = some (RX2, TX2, 9) from rfl) (by decide) q684 (fun _ h => h) dX2_scannerMany_6 (fun v6 h6 => ?_)
      refine J.br (fun _ _ _ _ ka kb => lv_icmp_ge (tgt := 30) X.1.1 X.1.2.1 dX2_scannerMany_9 (by decide) ka kb) (fun c9 => ?_) (fun c9 => ?_)
      · refine J.pu (fun _ _ _ _ k => lv_iload_n X.1.1 X.1.2.1 dX2_scannerMany_30 rfl (lv_at hl 1 rfl) k) ?_
        exact J.iret (vr := jrI) (fin := fun _ : Int32 => σ) (t := t) X hr (by rfl) (by rfl) dX2_scannerMany_31
      · refine J.pu (fun _ _ _ _ k => lv_iload_n X.1.1 X.1.2.1 dX2_scannerMany_12 rfl (lv_at hl 1 rfl) k) ?_
        refine J.pu (fun _ _ _ _ k => lv_aload_n X.1.1 X.1.2.1 dX2_scannerMany_13 rfl (lv_at hl 0 rfl) k) ?_
        refine J.getR (k := 2) (ci := 1) X in_X2 (show jCl[1]? = some (RX2, TX2, 9) from rfl) (by decide) q689 (fun _ h => h) dX2_scannerMany_14 (fun v14 h14 => ?_)
        refine J.pu (fun _ _ _ _ k => lv_iload_n X.1.1 X.1.2.1 dX2_scannerMany_17 rfl (lv_at hl 2 rfl) k) ?_
        refine J.aI2 X dX2_scannerMany_18 (fun v18 h18 => ?_)
        refine J.bind (fun v19 h19 => ?_)
        refine J.cSN (As := [.int v18]) (rest := [.int x1_4]) (s2 := [.int v19, .int x1_4]) X ⟨rfl, rfl⟩ (ct_X1_bit l G n σ v18) (jrd_of h19) (fun _ _ => ⟨va_cnB 1 X.1.2.2.2.2 (lw_meth q1704) rfl rfl rfl (jnm2 X.2.1) (X.1.2.2.2.2 _ q138) (by decide +kernel) ⟨(Nat.le_of_ble_eq_true rfl), (Nat.le_of_ble_eq_true rfl)⟩, X.1.2.2.2.2 _ q1703, trivial⟩) rfl hl.1 rfl rfl (Nat.le_of_ble_eq_true rfl) dX2_scannerMany_19 ?_
        refine J.pu (fun _ _ _ _ k => lv_iadd X.1.1 X.1.2.1 dX2_scannerMany_22 k) ?_
        refine J.istore_n (i := 1) (lv' := [(1, .int (x1_4 + v19)), (0, .ref this), (2, .int x2_4)]) X.1.1 X.1.2.1 dX2_scannerMany_23 rfl hl (by decide) (by first | rfl | simp [va_rf_cat, jcI, jcA, jcJ, jcD, jcF]) (fun ls hl => ?_)
        refine J.iinc (k := 2) (lv' := [(2, .int (x2_4 + 1)), (1, .int (x1_4 + v19)), (0, .ref this)]) (w := (x2_4 + 1)) X.1.1 X.1.2.1 dX2_scannerMany_24 hl rfl rfl (by decide) (by first | rfl | simp [va_rf_cat, jcI, jcA, jcJ, jcD, jcF]) (fun ls hl => ?_)
        refine J.pu (fun _ _ _ _ k => lv_goto (tgt := 4) X.1.1 X.1.2.1 dX2_scannerMany_27 (by decide) k) ?_
        exact ih4 (x1_4 + v19) (x2_4 + 1) ls (lv_sub hl [2, 1, 0] rfl)
  unfold X2_scannerMany
  refine J.pu (fun _ _ _ _ k => lv_iconst (v := 0) X.1.1 X.1.2.1 dX2_scannerMany_0 (by decide) k) ?_
  refine J.istore_n (i := 1) (lv' := [(1, .int 0), (0, .ref this)]) X.1.1 X.1.2.1 dX2_scannerMany_1 rfl hl (by decide) (by first | rfl | simp [va_rf_cat, jcI, jcA, jcJ, jcD, jcF]) (fun ls hl => ?_)
  refine J.pu (fun _ _ _ _ k => lv_iconst (v := 0) X.1.1 X.1.2.1 dX2_scannerMany_2 (by decide) k) ?_
  refine J.istore_n (i := 2) (lv' := [(2, .int 0), (1, .int 0), (0, .ref this)]) X.1.1 X.1.2.1 dX2_scannerMany_3 rfl hl (by decide) (by first | rfl | simp [va_rf_cat, jcI, jcA, jcJ, jcD, jcF]) (fun ls hl => ?_)
  exact L4 n 0 0 ls (lv_sub hl [2, 1, 0] rfl)
noncomputable def X2_chuteAt_h2 (G : jG) (n : Nat) (σ : jH) (this : Nat) (a1 : Int32) (rec2 : Int32 → Option (Int32)) (q2 : Int32) : Option (Int32) :=
  let x2_2 := q2; (gR σ (some this) 1 3).bind fun v4 => (rc σ v4 15).bind fun o7 => (lSize 0 σ o7).bind fun v7 => if v7 ≤ x2_2 then (some (-1)) else ((rc σ (some this) 1).bind fun o17 => (X2_chute G n σ o17 x2_2).bind fun v17 => (gI σ v17 3 1).bind fun v20 => if v20 = a1 then (some x2_2) else (rec2 (x2_2 + 1)))
noncomputable def X2_chuteAt (G : jG) (n : Nat) (σ : jH) (this : Nat) (a1 : Int32) : Option (Int32) :=
  jloop (X2_chuteAt_h2 G n σ this a1) n 0
set_option maxHeartbeats 4000000 in
set_option maxRecDepth 100000 in
theorem ct_X2_chuteAt (l : Launch) (G : jG) (n : Nat) (σ : jH) (this : Nat) (a1 : Int32) : jCt l G yX2_chuteAt (ws_ yX2_chuteAt cX2_chuteAt 3 (some .int)) 22 1242 jrI [.ref this, .int a1] σ (jrd σ (X2_chuteAt G n σ this a1)) := by
  refine jCt.rd (lv := [(0, .ref this), (1, .int a1)]) (plainFor_of_name (by decide)) (Nat.le_of_ble_eq_true rfl) rfl ?_
  intro t p e s m args below meth c ls X hr hnm hl
  have X : jCx p c cX2_chuteAt 3 s m args RX2 G meth := X
  have L2 : ∀ (n2 : Nat) (x2_2 : Int32) (ls : Array Slot), lv_has ls 3 [(0, .ref this), (1, .int a1), (2, .int x2_2)] → jGo l G 22 1242 σ (fun _ : Int32 => σ) jrI t p e s m args below meth c (jloop (X2_chuteAt_h2 G n σ this a1) n2 x2_2) σ (F0 m 2 ls []) := by
    intro n2
    induction n2 with
    | zero => intro x2_2 ls hl; exact J.nil_
    | succ n2 ih2 =>
      intro x2_2 ls hl
      refine J.eq (jloop_s _ _ _) ?_
      dsimp only [X2_chuteAt_h2]
      refine J.pu (fun _ _ _ _ k => lv_iload_n X.1.1 X.1.2.1 dX2_chuteAt_2 rfl (lv_at hl 2 rfl) k) ?_
      refine J.pu (fun _ _ _ _ k => lv_aload_n X.1.1 X.1.2.1 dX2_chuteAt_3 rfl (lv_at hl 0 rfl) k) ?_
      refine J.getR (k := 3) (ci := 1) X in_X2 (show jCl[1]? = some (RX2, TX2, 9) from rfl) (by decide) q692 (fun _ h => h) dX2_chuteAt_4 (fun v4 h4 => ?_)
      refine J.bind (fun o7 g7 => ?_)
      refine J.bind (fun v7 h7 => ?_)
      refine J.cF (q := (RJ2, TJ2, 3)) (ci := 15) (As := []) (rest := [.int x2_2]) (s2 := [.int v7, .int x2_2]) X ⟨rfl, rfl⟩ (ct_J2_size l G σ o7) (jrd_of h7) (fun _ _ => va_cwF 0 X.1.2.2.2.2 (lw_F q829 q832 q834 q142 q836) rfl rfl rfl (jfw2 X.2.1) (by decide +kernel) ⟨(Nat.le_of_ble_eq_true rfl), (Nat.le_of_ble_eq_true rfl)⟩) g7 rfl rfl hl.1 rfl rfl (Nat.le_of_ble_eq_true rfl) dX2_chuteAt_7 ?_
      refine J.br (fun _ _ _ _ ka kb => lv_icmp_ge (tgt := 35) X.1.1 X.1.2.1 dX2_chuteAt_12 (by decide) ka kb) (fun c12 => ?_) (fun c12 => ?_)
      · refine J.pu (fun _ _ _ _ k => lv_iconst (v := (-1)) X.1.1 X.1.2.1 dX2_chuteAt_35 (by decide) k) ?_
        exact J.iret (vr := jrI) (fin := fun _ : Int32 => σ) (t := t) X hr (by rfl) (by rfl) dX2_chuteAt_36
      · refine J.pu (fun _ _ _ _ k => lv_aload_n X.1.1 X.1.2.1 dX2_chuteAt_15 rfl (lv_at hl 0 rfl) k) ?_
        refine J.pu (fun _ _ _ _ k => lv_iload_n X.1.1 X.1.2.1 dX2_chuteAt_16 rfl (lv_at hl 2 rfl) k) ?_
        refine J.bind (fun o17 g17 => ?_)
        refine J.bind (fun v17 h17 => ?_)
        refine J.cV (q := (RX2, TX2, 9)) (ci := 1) (As := [.int x2_2]) (rest := []) (s2 := [va_rf v17]) X ⟨rfl, rfl⟩ (ct_X2_chute l G n σ o17 x2_2) (jrd_of h17) (fun _ _ => cwV 1 X.1.2.2.2.2 (lw_V q843 q844 q845 q139 q846) rfl rfl rfl (by decide +kernel) ⟨(Nat.le_of_ble_eq_true rfl), (Nat.le_of_ble_eq_true rfl)⟩) g17 rfl rfl hl.1 rfl rfl (Nat.le_of_ble_eq_true rfl) dX2_chuteAt_17 ?_
        refine J.getIN (k := 1) (ci := 3) X in_X4 (show jCl[3]? = some (RX4, TX4, 9) from rfl) (by decide) jnf18 (fun _ h => h) dX2_chuteAt_20 (fun v20 h20 => ?_)
        refine J.pu (fun _ _ _ _ k => lv_iload_n X.1.1 X.1.2.1 dX2_chuteAt_23 rfl (lv_at hl 1 rfl) k) ?_
        refine J.br (fun _ _ _ _ ka kb => lv_icmp_ne (tgt := 29) X.1.1 X.1.2.1 dX2_chuteAt_24 (by decide) kb ka) (fun c24 => ?_) (fun c24 => ?_)
        · refine J.pu (fun _ _ _ _ k => lv_iload_n X.1.1 X.1.2.1 dX2_chuteAt_27 rfl (lv_at hl 2 rfl) k) ?_
          exact J.iret (vr := jrI) (fin := fun _ : Int32 => σ) (t := t) X hr (by rfl) (by rfl) dX2_chuteAt_28
        · refine J.iinc (k := 2) (lv' := [(2, .int (x2_2 + 1)), (0, .ref this), (1, .int a1)]) (w := (x2_2 + 1)) X.1.1 X.1.2.1 dX2_chuteAt_29 hl rfl rfl (by decide) (by first | rfl | simp [va_rf_cat, jcI, jcA, jcJ, jcD, jcF]) (fun ls hl => ?_)
          refine J.pu (fun _ _ _ _ k => lv_goto (tgt := 2) X.1.1 X.1.2.1 dX2_chuteAt_32 (by decide) k) ?_
          exact ih2 (x2_2 + 1) ls (lv_sub hl [1, 2, 0] rfl)
  unfold X2_chuteAt
  refine J.pu (fun _ _ _ _ k => lv_iconst (v := 0) X.1.1 X.1.2.1 dX2_chuteAt_0 (by decide) k) ?_
  refine J.istore_n (i := 2) (lv' := [(2, .int 0), (0, .ref this), (1, .int a1)]) X.1.1 X.1.2.1 dX2_chuteAt_1 rfl hl (by decide) (by first | rfl | simp [va_rf_cat, jcI, jcA, jcJ, jcD, jcF]) (fun ls hl => ?_)
  exact L2 n 0 ls (lv_sub hl [1, 2, 0] rfl)
noncomputable def X2_empties_h20 (G : jG) (n : Nat) (this : Nat) (a1 : Option Nat) (x2_20 : Int32) (x3_20 : Option Nat) (rec20 : jH → Option (Int32 × jH)) (q20 : jH) : Option (Int32 × jH) :=
  let B20 := q20; (rc B20 x3_20 19).bind fun o21 => (itHas B20 o21).bind fun v21 => if v21 = 0 then ((gR B20 a1 3 4).bind fun v50 => (rc B20 v50 16).bind fun o53 => bd (jck B20 (llClear G B20 o53)) fun v53 S53 => (gR S53 (some this) 1 6).bind fun v59 => (aI S53 v59 0 10).bind fun v65 => (sI G S53 v59 0 10 (v65 + x2_20)).bind fun S68 => some (x2_20, S68)) else ((rc B20 x3_20 19).bind fun o30 => bd (jck B20 (itNext G B20 o30)) fun v30 S30 => (jck' S30 v30 [4]).bind fun _ => (pI G S30 v30 4 4 2).bind fun S43 => rec20 S43)
noncomputable def X2_empties_b (G : jG) (n : Nat) (σ : jH) (this : Nat) (a1 : Option Nat) : Option (Int32 × jH) :=
  (gR σ a1 3 4).bind fun v1 => (rc σ v1 16).bind fun o4 => (lSize 1 σ o4).bind fun v4 => (gR σ a1 3 4).bind fun v11 => (rc σ v11 16).bind fun o14 => bd (jck σ (llIter σ o14)) fun v14 S14 => jloop (X2_empties_h20 G n this a1 v4 v14) n S14
noncomputable def X2_empties (G : jG) (n : Nat) (σ : jH) (this : Nat) (a1 : Option Nat) : Option (Int32 × jH) := jck σ (X2_empties_b G n σ this a1)
set_option maxHeartbeats 4000000 in
set_option maxRecDepth 100000 in
theorem ct_X2_empties (l : Launch) (G : jG) (n : Nat) (σ : jH) (this : Nat) (a1 : Option Nat) : jCt l G yX2_empties (ws_ yX2_empties cX2_empties 5 (some .int)) 21 1222 jrI [.ref this, va_rf a1] σ (X2_empties G n σ this a1) := by
  refine jCt.wr (lv := [(0, .ref this), (1, va_rf a1)]) (plainFor_of_name (by decide)) (by simp [lg_sl, va_rf_cat, jcI, jcA, jcJ, jcD, jcF]) (by simp [lv_args, va_rf_cat, jcI, jcA, jcJ, jcD, jcF]) ?_
  intro t p e s m args below meth c ls X hr hnm hl
  have X : jCx p c cX2_empties 5 s m args RX2 G meth := X
  have L20 : ∀ (x2_20 : Int32) (x3_20 : Option Nat) (n20 : Nat) (B20 : jH) (ls : Array Slot), lv_has ls 5 [(0, .ref this), (1, va_rf a1), (2, .int x2_20), (3, va_rf x3_20)] → jGo l G 21 1222 σ (Prod.snd : Int32 × jH → jH) (fun t => jrI t.1) t p e s m args below meth c (jloop (X2_empties_h20 G n this a1 x2_20 x3_20) n20 B20) B20 (F0 m 20 ls []) := by
    intro x2_20 x3_20
    intro n20
    induction n20 with
    | zero => intro B20 ls hl; exact J.nil_
    | succ n20 ih20 =>
      intro B20 ls hl
      refine J.eq (jloop_s _ _ _) ?_
      dsimp only [X2_empties_h20]
      refine J.pu (fun _ _ _ _ k => W.rload_n X.1.1 X.1.2.1 dX2_empties_20 rfl (lv_at hl 3 rfl) k) ?_
      refine J.bind (fun o21 g21 => ?_)
      refine J.bind (fun v21 h21 => ?_)
      refine J.cF (q := (RJ26, TJ26, 5)) (ci := 19) (As := []) (rest := []) (s2 := [.int v21]) X ⟨rfl, rfl⟩ (ct_J26_hasNext l G B20 o21) (jrd_of h21) (fun _ _ => va_cwF 0 X.1.2.2.2.2 (lw_F q1172 q1196 q1198 q172 q1200) rfl rfl rfl (jfw17 X.2.1) (by decide +kernel) ⟨(Nat.le_of_ble_eq_true rfl), (Nat.le_of_ble_eq_true rfl)⟩) g21 rfl rfl hl.1 rfl rfl (Nat.le_of_ble_eq_true rfl) dX2_empties_21 ?_
      refine J.br (fun _ _ _ _ ka kb => lv_if_eq (tgt := 49) X.1.1 X.1.2.1 dX2_empties_26 (by decide) ka kb) (fun c26 => ?_) (fun c26 => ?_)
      · refine J.pu (fun _ _ _ _ k => W.rload_n X.1.1 X.1.2.1 dX2_empties_49 rfl (lv_at hl 1 rfl) k) ?_
        refine J.getRN (k := 4) (ci := 3) X in_X4 (show jCl[3]? = some (RX4, TX4, 9) from rfl) (by decide) jnf23 (fun _ h => h) dX2_empties_50 (fun v50 h50 => ?_)
        refine J.bind (fun o53 g53 => ?_)
        refine J.bd' (fun v53 S53 h53 => ?_)
        refine J.cF (q := (RJ19, TJ19, 4)) (ci := 16) (As := []) (rest := []) (s2 := []) X ⟨rfl, rfl⟩ (ct_J19_clear l G B20 o53) h53 (fun _ _ => va_cwF 0 X.1.2.2.2.2 (lw_F q1050 q1058 q1060 q163 q1062) rfl rfl rfl (jfw11 X.2.1) (by decide +kernel) ⟨(Nat.le_of_ble_eq_true rfl), (Nat.le_of_ble_eq_true rfl)⟩) g53 rfl rfl hl.1 rfl rfl (Nat.le_of_ble_eq_true rfl) dX2_empties_53 ?_
        refine J.pu (fun _ _ _ _ k => lv_aload_n X.1.1 X.1.2.1 dX2_empties_58 rfl (lv_at hl 0 rfl) k) ?_
        refine J.getR (k := 6) (ci := 1) X in_X2 (show jCl[1]? = some (RX2, TX2, 9) from rfl) (by decide) q701 (fun _ h => h) dX2_empties_59 (fun v59 h59 => ?_)
        refine J.pu (fun _ _ _ _ k => lv_bipush (v := 10) X.1.1 X.1.2.1 dX2_empties_62 (by decide) k) ?_
        refine J.pu (fun _ _ _ _ k => lv_dup2_11 X.1.1 X.1.2.1 dX2_empties_64 rfl (va_rf_cat _) k) ?_
        refine J.aI0 X dX2_empties_65 (fun v65 h65 => ?_)
        refine J.pu (fun _ _ _ _ k => lv_iload_n X.1.1 X.1.2.1 dX2_empties_66 rfl (lv_at hl 2 rfl) k) ?_
        refine J.pu (fun _ _ _ _ k => lv_iadd X.1.1 X.1.2.1 dX2_empties_67 k) ?_
        refine J.sI0 X dX2_empties_68 (fun S68 h68 => ?_)
        refine J.pu (fun _ _ _ _ k => lv_iload_n X.1.1 X.1.2.1 dX2_empties_69 rfl (lv_at hl 2 rfl) k) ?_
        exact J.iret (vr := fun t : Int32 × jH => jrI t.1) (fin := Prod.snd) (t := t) X hr (by rfl) (by rfl) dX2_empties_70
      · refine J.pu (fun _ _ _ _ k => W.rload_n X.1.1 X.1.2.1 dX2_empties_29 rfl (lv_at hl 3 rfl) k) ?_
        refine J.bind (fun o30 g30 => ?_)
        refine J.bd' (fun v30 S30 h30 => ?_)
        refine J.cF (q := (RJ26, TJ26, 5)) (ci := 19) (As := []) (rest := []) (s2 := [va_rf v30]) X ⟨rfl, rfl⟩ (ct_J26_next l G B20 o30) h30 (fun _ _ => va_cwF 0 X.1.2.2.2.2 (lw_F q1202 q1309 q1311 q172 q1313) rfl rfl rfl (jfw21 X.2.1) (by decide +kernel) ⟨(Nat.le_of_ble_eq_true rfl), (Nat.le_of_ble_eq_true rfl)⟩) g30 rfl rfl hl.1 rfl rfl (Nat.le_of_ble_eq_true rfl) dX2_empties_30 ?_
        refine J.cast (nm := "SortingLoop$Parcel") X q946 (List.forall_mem_cons.mpr ⟨⟨_, rfl, Or.inl rfl⟩, jnil_all⟩) dX2_empties_35 ?_
        refine J.astore (r := v30) (lv' := [(4, va_rf v30), (0, .ref this), (1, va_rf a1), (2, .int x2_20), (3, va_rf x3_20)]) X.1.1 X.1.2.1 dX2_empties_38 hl (by decide) (by first | rfl | simp [va_rf_cat, jcI, jcA, jcJ, jcD, jcF]) (fun ls hl => ?_)
        refine J.pu (fun _ _ _ _ k => W.rload X.1.1 X.1.2.1 dX2_empties_40 (lv_at hl 0 rfl) k) ?_
        refine J.pu (fun _ _ _ _ k => lv_iconst (v := 2) X.1.1 X.1.2.1 dX2_empties_42 (by decide) k) ?_
        refine J.putIN (k := 4) (ci := 4) X in_X5 (show jCl[4]? = some (RX5, TX5, 10) from rfl) tyX5_ok (fun a ha b hb h => Or.inl (nmX5 a ha b hb h)) (by decide) jnf42 (fun _ h => h) rfl rfl dX2_empties_43 (fun S43 h43 => ?_)
        refine J.pu (fun _ _ _ _ k => lv_goto (tgt := 20) X.1.1 X.1.2.1 dX2_empties_46 (by decide) k) ?_
        exact ih20 S43 ls (lv_sub hl [1, 2, 3, 4] rfl)
  unfold X2_empties_b
  refine J.pu (fun _ _ _ _ k => W.rload_n X.1.1 X.1.2.1 dX2_empties_0 rfl (lv_at hl 1 rfl) k) ?_
  refine J.getRN (k := 4) (ci := 3) X in_X4 (show jCl[3]? = some (RX4, TX4, 9) from rfl) (by decide) jnf23 (fun _ h => h) dX2_empties_1 (fun v1 h1 => ?_)
  refine J.bind (fun o4 g4 => ?_)
  refine J.bind (fun v4 h4 => ?_)
  refine J.cF (q := (RJ19, TJ19, 4)) (ci := 16) (As := []) (rest := []) (s2 := [.int v4]) X ⟨rfl, rfl⟩ (ct_J19_size l G σ o4) (jrd_of h4) (fun _ _ => va_cwF 0 X.1.2.2.2.2 (lw_F q829 q837 q839 q163 q841) rfl rfl rfl (jfw3 X.2.1) (by decide +kernel) ⟨(Nat.le_of_ble_eq_true rfl), (Nat.le_of_ble_eq_true rfl)⟩) g4 rfl rfl hl.1 rfl rfl (Nat.le_of_ble_eq_true rfl) dX2_empties_4 ?_
  refine J.istore_n (i := 2) (lv' := [(2, .int v4), (0, .ref this), (1, va_rf a1)]) X.1.1 X.1.2.1 dX2_empties_9 rfl hl (by decide) (by first | rfl | simp [va_rf_cat, jcI, jcA, jcJ, jcD, jcF]) (fun ls hl => ?_)
  refine J.pu (fun _ _ _ _ k => W.rload_n X.1.1 X.1.2.1 dX2_empties_10 rfl (lv_at hl 2 rfl) k) ?_
  refine J.getRN (k := 4) (ci := 3) X in_X4 (show jCl[3]? = some (RX4, TX4, 9) from rfl) (by decide) jnf23 (fun _ h => h) dX2_empties_11 (fun v11 h11 => ?_)
  refine J.bind (fun o14 g14 => ?_)
  refine J.bd' (fun v14 S14 h14 => ?_)
  refine J.cF (q := (RJ19, TJ19, 4)) (ci := 16) (As := []) (rest := []) (s2 := [va_rf v14]) X ⟨rfl, rfl⟩ (ct_J18_iterator l G σ o14) h14 (fun _ _ => va_cwF 0 X.1.2.2.2.2 (lw_F q1064 q1093 q1095 q162 q1097) rfl rfl rfl (jfw13 X.2.1) (by decide +kernel) ⟨(Nat.le_of_ble_eq_true rfl), (Nat.le_of_ble_eq_true rfl)⟩) g14 rfl rfl hl.1 rfl rfl (Nat.le_of_ble_eq_true rfl) dX2_empties_14 ?_
  refine J.astore_n (r := v14) (i := 3) (lv' := [(3, va_rf v14), (2, .int v4), (0, .ref this), (1, va_rf a1)]) X.1.1 X.1.2.1 dX2_empties_19 rfl hl (by decide) (by first | rfl | simp [va_rf_cat, jcI, jcA, jcJ, jcD, jcF]) (fun ls hl => ?_)
  exact L20 v4 v14 n S14 ls (lv_sub hl [2, 3, 1, 0] rfl)
noncomputable def X2_opens_b (G : jG) (n : Nat) (σ : jH) (this : Nat) (a1 : Option Nat) (a2 : Int32) : Option (Int32 × jH) :=
  (gI σ a1 3 8).bind fun v1 => (X1_bit G n σ v1).bind fun v4 => (pB G σ a1 3 8 a2).bind fun S10 => some (v4, S10)
noncomputable def X2_opens (G : jG) (n : Nat) (σ : jH) (this : Nat) (a1 : Option Nat) (a2 : Int32) : Option (Int32 × jH) := jck σ (X2_opens_b G n σ this a1 a2)
set_option maxHeartbeats 4000000 in
set_option maxRecDepth 100000 in
theorem ct_X2_opens (l : Launch) (G : jG) (n : Nat) (σ : jH) (this : Nat) (a1 : Option Nat) (a2 : Int32) : jCt l G yX2_opens (ws_ yX2_opens cX2_opens 4 (some .int)) 1 20 jrI [.ref this, va_rf a1, .int a2] σ (X2_opens G n σ this a1 a2) := by
  refine jCt.wr (lv := [(0, .ref this), (1, va_rf a1), (2, .int a2)]) (plainFor_of_name (by decide)) (by simp [lg_sl, va_rf_cat, jcI, jcA, jcJ, jcD, jcF]) (by simp [lv_args, va_rf_cat, jcI, jcA, jcJ, jcD, jcF]) ?_
  intro t p e s m args below meth c ls X hr hnm hl
  have X : jCx p c cX2_opens 4 s m args RX2 G meth := X
  unfold X2_opens_b
  refine J.pu (fun _ _ _ _ k => W.rload_n X.1.1 X.1.2.1 dX2_opens_0 rfl (lv_at hl 1 rfl) k) ?_
  refine J.getIN (k := 8) (ci := 3) X in_X4 (show jCl[3]? = some (RX4, TX4, 9) from rfl) (by decide) jnf31 (fun _ h => h) dX2_opens_1 (fun v1 h1 => ?_)
  refine J.bind (fun v4 h4 => ?_)
  refine J.cSN (As := [.int v1]) (rest := []) (s2 := [.int v4]) X ⟨rfl, rfl⟩ (ct_X1_bit l G n σ v1) (jrd_of h4) (fun _ _ => ⟨va_cnB 1 X.1.2.2.2.2 (lw_meth q1704) rfl rfl rfl (jnm2 X.2.1) (X.1.2.2.2.2 _ q138) (by decide +kernel) ⟨(Nat.le_of_ble_eq_true rfl), (Nat.le_of_ble_eq_true rfl)⟩, X.1.2.2.2.2 _ q1703, trivial⟩) rfl hl.1 rfl rfl (Nat.le_of_ble_eq_true rfl) dX2_opens_4 ?_
  refine J.istore_n (i := 3) (lv' := [(3, .int v4), (0, .ref this), (1, va_rf a1), (2, .int a2)]) X.1.1 X.1.2.1 dX2_opens_7 rfl hl (by decide) (by first | rfl | simp [va_rf_cat, jcI, jcA, jcJ, jcD, jcF]) (fun ls hl => ?_)
  refine J.pu (fun _ _ _ _ k => W.rload_n X.1.1 X.1.2.1 dX2_opens_8 rfl (lv_at hl 2 rfl) k) ?_
  refine J.pu (fun _ _ _ _ k => lv_iload_n X.1.1 X.1.2.1 dX2_opens_9 rfl (lv_at hl 3 rfl) k) ?_
  refine J.putBN (k := 8) (ci := 3) X in_X4 (show jCl[3]? = some (RX4, TX4, 9) from rfl) tyX4_ok (fun a ha b hb h => Or.inl (nmX4 a ha b hb h)) (by decide) jnf31 (fun _ h => h) rfl (Or.inl rfl) dX2_opens_10 (fun S10 h10 => ?_)
  refine J.pu (fun _ _ _ _ k => lv_iload_n X.1.1 X.1.2.1 dX2_opens_13 rfl (lv_at hl 0 rfl) k) ?_
  exact J.iret (vr := fun t : Int32 × jH => jrI t.1) (fin := Prod.snd) (t := t) X hr (by rfl) (by rfl) dX2_opens_14
noncomputable def X2_sets_j20 (G : jG) (n : Nat) (this : Nat) (a1 : Int32) (a2 : Int32) (s0_20 : Int32) (B20 : jH) : Option (Int32 × jH) :=
  if a1 = (-1) then ((pI G B20 (some this) 1 8 a2).bind fun S28 => some (s0_20, S28)) else ((rc B20 (some this) 1).bind fun o36 => (X2_chute G n B20 o36 a1).bind fun v36 => (pI G B20 v36 3 5 a2).bind fun S40 => some (s0_20, S40))
noncomputable def X2_sets_b (G : jG) (n : Nat) (σ : jH) (this : Nat) (a1 : Int32) (a2 : Int32) : Option (Int32 × jH) :=
  if a1 = (-1) then ((gI σ (some this) 1 8).bind fun v6 => X2_sets_j20 G n this a1 a2 v6 σ) else ((rc σ (some this) 1).bind fun o14 => (X2_chute G n σ o14 a1).bind fun v14 => (gI σ v14 3 5).bind fun v17 => X2_sets_j20 G n this a1 a2 v17 σ)
noncomputable def X2_sets (G : jG) (n : Nat) (σ : jH) (this : Nat) (a1 : Int32) (a2 : Int32) : Option (Int32 × jH) := jck σ (X2_sets_b G n σ this a1 a2)
set_option maxHeartbeats 4000000 in
set_option maxRecDepth 100000 in
theorem ct_X2_sets (l : Launch) (G : jG) (n : Nat) (σ : jH) (this : Nat) (a1 : Int32) (a2 : Int32) : jCt l G yX2_sets (ws_ yX2_sets cX2_sets 4 (some .int)) 22 1242 jrI [.ref this, .int a1, .int a2] σ (X2_sets G n σ this a1 a2) := by
  refine jCt.wr (lv := [(0, .ref this), (1, .int a1), (2, .int a2)]) (plainFor_of_name (by decide)) (Nat.le_of_ble_eq_true rfl) rfl ?_
  intro t p e s m args below meth c ls X hr hnm hl
  have X : jCx p c cX2_sets 4 s m args RX2 G meth := X
  have j20 : ∀ (s0_20 : Int32) (B20 : jH) (ls : Array Slot), lv_has ls 4 [(0, .ref this), (1, .int a1), (2, .int a2)] → jGo l G 22 1242 σ (Prod.snd : Int32 × jH → jH) (fun t => jrI t.1) t p e s m args below meth c (X2_sets_j20 G n this a1 a2 s0_20 B20) B20 (F0 m 20 ls [.int s0_20]) := by
    intro s0_20 B20 ls hl
    unfold X2_sets_j20
    refine J.istore_n (i := 3) (lv' := [(3, .int s0_20), (0, .ref this), (1, .int a1), (2, .int a2)]) X.1.1 X.1.2.1 dX2_sets_20 rfl hl (by decide) (by first | rfl | simp [va_rf_cat, jcI, jcA, jcJ, jcD, jcF]) (fun ls hl => ?_)
    refine J.pu (fun _ _ _ _ k => lv_iload_n X.1.1 X.1.2.1 dX2_sets_21 rfl (lv_at hl 2 rfl) k) ?_
    refine J.pu (fun _ _ _ _ k => lv_iconst (v := (-1)) X.1.1 X.1.2.1 dX2_sets_22 (by decide) k) ?_
    refine J.br (fun _ _ _ _ ka kb => lv_icmp_ne (tgt := 34) X.1.1 X.1.2.1 dX2_sets_23 (by decide) kb ka) (fun c23 => ?_) (fun c23 => ?_)
    · refine J.pu (fun _ _ _ _ k => lv_aload_n X.1.1 X.1.2.1 dX2_sets_26 rfl (lv_at hl 1 rfl) k) ?_
      refine J.pu (fun _ _ _ _ k => lv_iload_n X.1.1 X.1.2.1 dX2_sets_27 rfl (lv_at hl 3 rfl) k) ?_
      refine J.putI (k := 8) (ci := 1) X in_X2 (show jCl[1]? = some (RX2, TX2, 9) from rfl) tyX2_ok (fun a ha b hb h => Or.inl (nmX2 a ha b hb h)) (by decide) q706 (fun _ h => h) rfl rfl dX2_sets_28 (fun S28 h28 => ?_)
      refine J.pu (fun _ _ _ _ k => lv_goto (tgt := 43) X.1.1 X.1.2.1 dX2_sets_31 (by decide) k) ?_
      refine J.pu (fun _ _ _ _ k => lv_iload_n X.1.1 X.1.2.1 dX2_sets_43 rfl (lv_at hl 0 rfl) k) ?_
      exact J.iret (vr := fun t : Int32 × jH => jrI t.1) (fin := Prod.snd) (t := t) X hr (by rfl) (by rfl) dX2_sets_44
    · refine J.pu (fun _ _ _ _ k => lv_aload_n X.1.1 X.1.2.1 dX2_sets_34 rfl (lv_at hl 1 rfl) k) ?_
      refine J.pu (fun _ _ _ _ k => lv_iload_n X.1.1 X.1.2.1 dX2_sets_35 rfl (lv_at hl 2 rfl) k) ?_
      refine J.bind (fun o36 g36 => ?_)
      refine J.bind (fun v36 h36 => ?_)
      refine J.cV (q := (RX2, TX2, 9)) (ci := 1) (As := [.int a1]) (rest := []) (s2 := [va_rf v36]) X ⟨rfl, rfl⟩ (ct_X2_chute l G n B20 o36 a1) (jrd_of h36) (fun _ _ => cwV 1 X.1.2.2.2.2 (lw_V q843 q844 q845 q139 q846) rfl rfl rfl (by decide +kernel) ⟨(Nat.le_of_ble_eq_true rfl), (Nat.le_of_ble_eq_true rfl)⟩) g36 rfl rfl hl.1 rfl rfl (Nat.le_of_ble_eq_true rfl) dX2_sets_36 ?_
      refine J.pu (fun _ _ _ _ k => lv_iload_n X.1.1 X.1.2.1 dX2_sets_39 rfl (lv_at hl 3 rfl) k) ?_
      refine J.putIN (k := 5) (ci := 3) X in_X4 (show jCl[3]? = some (RX4, TX4, 9) from rfl) tyX4_ok (fun a ha b hb h => Or.inl (nmX4 a ha b hb h)) (by decide) jnf25 (fun _ h => h) rfl rfl dX2_sets_40 (fun S40 h40 => ?_)
      refine J.pu (fun _ _ _ _ k => lv_iload_n X.1.1 X.1.2.1 dX2_sets_43 rfl (lv_at hl 0 rfl) k) ?_
      exact J.iret (vr := fun t : Int32 × jH => jrI t.1) (fin := Prod.snd) (t := t) X hr (by rfl) (by rfl) dX2_sets_44
  unfold X2_sets_b
  refine J.pu (fun _ _ _ _ k => lv_iload_n X.1.1 X.1.2.1 dX2_sets_0 rfl (lv_at hl 1 rfl) k) ?_
  refine J.pu (fun _ _ _ _ k => lv_iconst (v := (-1)) X.1.1 X.1.2.1 dX2_sets_1 (by decide) k) ?_
  refine J.br (fun _ _ _ _ ka kb => lv_icmp_ne (tgt := 12) X.1.1 X.1.2.1 dX2_sets_2 (by decide) kb ka) (fun c2 => ?_) (fun c2 => ?_)
  · refine J.pu (fun _ _ _ _ k => lv_aload_n X.1.1 X.1.2.1 dX2_sets_5 rfl (lv_at hl 0 rfl) k) ?_
    refine J.getI (k := 8) (ci := 1) X in_X2 (show jCl[1]? = some (RX2, TX2, 9) from rfl) (by decide) q706 (fun _ h => h) dX2_sets_6 (fun v6 h6 => ?_)
    refine J.pu (fun _ _ _ _ k => lv_goto (tgt := 20) X.1.1 X.1.2.1 dX2_sets_9 (by decide) k) ?_
    exact j20 v6 σ ls (lv_sub hl [0, 1, 2] rfl)
  · refine J.pu (fun _ _ _ _ k => lv_aload_n X.1.1 X.1.2.1 dX2_sets_12 rfl (lv_at hl 0 rfl) k) ?_
    refine J.pu (fun _ _ _ _ k => lv_iload_n X.1.1 X.1.2.1 dX2_sets_13 rfl (lv_at hl 1 rfl) k) ?_
    refine J.bind (fun o14 g14 => ?_)
    refine J.bind (fun v14 h14 => ?_)
    refine J.cV (q := (RX2, TX2, 9)) (ci := 1) (As := [.int a1]) (rest := []) (s2 := [va_rf v14]) X ⟨rfl, rfl⟩ (ct_X2_chute l G n σ o14 a1) (jrd_of h14) (fun _ _ => cwV 1 X.1.2.2.2.2 (lw_V q843 q844 q845 q139 q846) rfl rfl rfl (by decide +kernel) ⟨(Nat.le_of_ble_eq_true rfl), (Nat.le_of_ble_eq_true rfl)⟩) g14 rfl rfl hl.1 rfl rfl (Nat.le_of_ble_eq_true rfl) dX2_sets_14 ?_
    refine J.getIN (k := 5) (ci := 3) X in_X4 (show jCl[3]? = some (RX4, TX4, 9) from rfl) (by decide) jnf25 (fun _ h => h) dX2_sets_17 (fun v17 h17 => ?_)
    exact j20 v17 σ ls (lv_sub hl [0, 1, 2] rfl)
noncomputable def X2_those_j35 (G : jG) (n : Nat) (σ : jH) (this : Nat) (a1 : Int32) (rec4 : Int32 × Int32 → Option (Int32)) (x3_35 : Int32) (s0_35 : Int32) (s1_35 : Int32) : Option (Int32) :=
  (X1_bit G n σ s1_35).bind fun v35 => rec4 ((s0_35 + v35), (x3_35 + 1))
noncomputable def X2_those_h4 (G : jG) (n : Nat) (σ : jH) (this : Nat) (a1 : Int32) (rec4 : Int32 × Int32 → Option (Int32)) (q4 : Int32 × Int32) : Option (Int32) :=
  let x2_4 := q4.1; let x3_4 := q4.2; (gR σ (some this) 1 4).bind fun v6 => (rc σ v6 15).bind fun o9 => (lSize 0 σ o9).bind fun v9 => if v9 ≤ x3_4 then (some x2_4) else ((rc σ (some this) 1).bind fun o20 => (X2_parcel G n σ o20 x3_4).bind fun v20 => (gI σ v20 4 4).bind fun v23 => if v23 = a1 then (X2_those_j35 G n σ this a1 rec4 x3_4 x2_4 1) else (X2_those_j35 G n σ this a1 rec4 x3_4 x2_4 0))
noncomputable def X2_those (G : jG) (n : Nat) (σ : jH) (this : Nat) (a1 : Int32) : Option (Int32) :=
  jloop (X2_those_h4 G n σ this a1) n (0, 0)
set_option maxHeartbeats 4000000 in
set_option maxRecDepth 100000 in
theorem ct_X2_those (l : Launch) (G : jG) (n : Nat) (σ : jH) (this : Nat) (a1 : Int32) : jCt l G yX2_those (ws_ yX2_those cX2_those 4 (some .int)) 22 1242 jrI [.ref this, .int a1] σ (jrd σ (X2_those G n σ this a1)) := by
  refine jCt.rd (lv := [(0, .ref this), (1, .int a1)]) (plainFor_of_name (by decide)) (Nat.le_of_ble_eq_true rfl) rfl ?_
  intro t p e s m args below meth c ls X hr hnm hl
  have X : jCx p c cX2_those 4 s m args RX2 G meth := X
  have L4 : ∀ (n4 : Nat) (x2_4 : Int32) (x3_4 : Int32) (ls : Array Slot), lv_has ls 4 [(0, .ref this), (1, .int a1), (2, .int x2_4), (3, .int x3_4)] → jGo l G 22 1242 σ (fun _ : Int32 => σ) jrI t p e s m args below meth c (jloop (X2_those_h4 G n σ this a1) n4 (x2_4, x3_4)) σ (F0 m 4 ls []) := by
    intro n4
    induction n4 with
    | zero => intro x2_4 x3_4 ls hl; exact J.nil_
    | succ n4 ih4 =>
      have j35 : ∀ (x3_35 : Int32) (s0_35 : Int32) (s1_35 : Int32) (ls : Array Slot), lv_has ls 4 [(0, .ref this), (1, .int a1), (3, .int x3_35)] → jGo l G 22 1242 σ (fun _ : Int32 => σ) jrI t p e s m args below meth c (X2_those_j35 G n σ this a1 (jloop (X2_those_h4 G n σ this a1) n4) x3_35 s0_35 s1_35) σ (F0 m 35 ls [.int s1_35, .int s0_35]) := by
        intro x3_35 s0_35 s1_35 ls hl
        unfold X2_those_j35
        refine J.bind (fun v35 h35 => ?_)
        refine J.cSN (As := [.int s1_35]) (rest := [.int s0_35]) (s2 := [.int v35, .int s0_35]) X ⟨rfl, rfl⟩ (ct_X1_bit l G n σ s1_35) (jrd_of h35) (fun _ _ => ⟨va_cnB 1 X.1.2.2.2.2 (lw_meth q1704) rfl rfl rfl (jnm2 X.2.1) (X.1.2.2.2.2 _ q138) (by decide +kernel) ⟨(Nat.le_of_ble_eq_true rfl), (Nat.le_of_ble_eq_true rfl)⟩, X.1.2.2.2.2 _ q1703, trivial⟩) rfl hl.1 rfl rfl (Nat.le_of_ble_eq_true rfl) dX2_those_35 ?_
        refine J.pu (fun _ _ _ _ k => lv_iadd X.1.1 X.1.2.1 dX2_those_38 k) ?_
        refine J.istore_n (i := 2) (lv' := [(2, .int (s0_35 + v35)), (0, .ref this), (1, .int a1), (3, .int x3_35)]) X.1.1 X.1.2.1 dX2_those_39 rfl hl (by decide) (by first | rfl | simp [va_rf_cat, jcI, jcA, jcJ, jcD, jcF]) (fun ls hl => ?_)
        refine J.iinc (k := 3) (lv' := [(3, .int (x3_35 + 1)), (2, .int (s0_35 + v35)), (0, .ref this), (1, .int a1)]) (w := (x3_35 + 1)) X.1.1 X.1.2.1 dX2_those_40 hl rfl rfl (by decide) (by first | rfl | simp [va_rf_cat, jcI, jcA, jcJ, jcD, jcF]) (fun ls hl => ?_)
        refine J.pu (fun _ _ _ _ k => lv_goto (tgt := 4) X.1.1 X.1.2.1 dX2_those_43 (by decide) k) ?_
        exact ih4 (s0_35 + v35) (x3_35 + 1) ls (lv_sub hl [2, 3, 1, 0] rfl)
      intro x2_4 x3_4 ls hl
      refine J.eq (jloop_s _ _ _) ?_
      dsimp only [X2_those_h4]
      refine J.pu (fun _ _ _ _ k => lv_iload_n X.1.1 X.1.2.1 dX2_those_4 rfl (lv_at hl 3 rfl) k) ?_
      refine J.pu (fun _ _ _ _ k => lv_aload_n X.1.1 X.1.2.1 dX2_those_5 rfl (lv_at hl 0 rfl) k) ?_
      refine J.getR (k := 4) (ci := 1) X in_X2 (show jCl[1]? = some (RX2, TX2, 9) from rfl) (by decide) q696 (fun _ h => h) dX2_those_6 (fun v6 h6 => ?_)
      refine J.bind (fun o9 g9 => ?_)
      refine J.bind (fun v9 h9 => ?_)
      refine J.cF (q := (RJ2, TJ2, 3)) (ci := 15) (As := []) (rest := [.int x3_4]) (s2 := [.int v9, .int x3_4]) X ⟨rfl, rfl⟩ (ct_J2_size l G σ o9) (jrd_of h9) (fun _ _ => va_cwF 0 X.1.2.2.2.2 (lw_F q829 q832 q834 q142 q836) rfl rfl rfl (jfw2 X.2.1) (by decide +kernel) ⟨(Nat.le_of_ble_eq_true rfl), (Nat.le_of_ble_eq_true rfl)⟩) g9 rfl rfl hl.1 rfl rfl (Nat.le_of_ble_eq_true rfl) dX2_those_9 ?_
      refine J.br (fun _ _ _ _ ka kb => lv_icmp_ge (tgt := 46) X.1.1 X.1.2.1 dX2_those_14 (by decide) ka kb) (fun c14 => ?_) (fun c14 => ?_)
      · refine J.pu (fun _ _ _ _ k => lv_iload_n X.1.1 X.1.2.1 dX2_those_46 rfl (lv_at hl 2 rfl) k) ?_
        exact J.iret (vr := jrI) (fin := fun _ : Int32 => σ) (t := t) X hr (by rfl) (by rfl) dX2_those_47
      · refine J.pu (fun _ _ _ _ k => lv_iload_n X.1.1 X.1.2.1 dX2_those_17 rfl (lv_at hl 2 rfl) k) ?_
        refine J.pu (fun _ _ _ _ k => lv_aload_n X.1.1 X.1.2.1 dX2_those_18 rfl (lv_at hl 0 rfl) k) ?_
        refine J.pu (fun _ _ _ _ k => lv_iload_n X.1.1 X.1.2.1 dX2_those_19 rfl (lv_at hl 3 rfl) k) ?_
        refine J.bind (fun o20 g20 => ?_)
        refine J.bind (fun v20 h20 => ?_)
        refine J.cV (q := (RX2, TX2, 9)) (ci := 1) (As := [.int x3_4]) (rest := [.int x2_4]) (s2 := [va_rf v20, .int x2_4]) X ⟨rfl, rfl⟩ (ct_X2_parcel l G n σ o20 x3_4) (jrd_of h20) (fun _ _ => cwV 1 X.1.2.2.2.2 (lw_V q942 q943 q944 q139 q945) rfl rfl rfl (by decide +kernel) ⟨(Nat.le_of_ble_eq_true rfl), (Nat.le_of_ble_eq_true rfl)⟩) g20 rfl rfl hl.1 rfl rfl (Nat.le_of_ble_eq_true rfl) dX2_those_20 ?_
        refine J.getIN (k := 4) (ci := 4) X in_X5 (show jCl[4]? = some (RX5, TX5, 10) from rfl) (by decide) jnf42 (fun _ h => h) dX2_those_23 (fun v23 h23 => ?_)
        refine J.pu (fun _ _ _ _ k => lv_iload_n X.1.1 X.1.2.1 dX2_those_26 rfl (lv_at hl 1 rfl) k) ?_
        refine J.br (fun _ _ _ _ ka kb => lv_icmp_ne (tgt := 34) X.1.1 X.1.2.1 dX2_those_27 (by decide) kb ka) (fun c27 => ?_) (fun c27 => ?_)
        · refine J.pu (fun _ _ _ _ k => lv_iconst (v := 1) X.1.1 X.1.2.1 dX2_those_30 (by decide) k) ?_
          refine J.pu (fun _ _ _ _ k => lv_goto (tgt := 35) X.1.1 X.1.2.1 dX2_those_31 (by decide) k) ?_
          exact j35 x3_4 x2_4 1 ls (lv_sub hl [0, 1, 3] rfl)
        · refine J.pu (fun _ _ _ _ k => lv_iconst (v := 0) X.1.1 X.1.2.1 dX2_those_34 (by decide) k) ?_
          exact j35 x3_4 x2_4 0 ls (lv_sub hl [0, 1, 3] rfl)
  unfold X2_those
  refine J.pu (fun _ _ _ _ k => lv_iconst (v := 0) X.1.1 X.1.2.1 dX2_those_0 (by decide) k) ?_
  refine J.istore_n (i := 2) (lv' := [(2, .int 0), (0, .ref this), (1, .int a1)]) X.1.1 X.1.2.1 dX2_those_1 rfl hl (by decide) (by first | rfl | simp [va_rf_cat, jcI, jcA, jcJ, jcD, jcF]) (fun ls hl => ?_)
  refine J.pu (fun _ _ _ _ k => lv_iconst (v := 0) X.1.1 X.1.2.1 dX2_those_2 (by decide) k) ?_
  refine J.istore_n (i := 3) (lv' := [(3, .int 0), (2, .int 0), (0, .ref this), (1, .int a1)]) X.1.1 X.1.2.1 dX2_those_3 rfl hl (by decide) (by first | rfl | simp [va_rf_cat, jcI, jcA, jcJ, jcD, jcF]) (fun ls hl => ?_)
  exact L4 n 0 0 ls (lv_sub hl [2, 3, 1, 0] rfl)
noncomputable def X2_steps (G : jG) (n : Nat) (σ : jH) (this : Nat) (a1 : Int32) (a2 : Int32) : Option (Int32) :=
  (gI σ (some this) 1 0).bind fun v4 => (gI σ (some this) 1 0).bind fun v9 => jnz v9 fun _ => some (((a2 - a1) + v4) - ((a2 - a1) + v4) / v9 * v9)
set_option maxHeartbeats 4000000 in
set_option maxRecDepth 100000 in
theorem ct_X2_steps (l : Launch) (G : jG) (n : Nat) (σ : jH) (this : Nat) (a1 : Int32) (a2 : Int32) : jCt l G yX2_steps (ws_ yX2_steps cX2_steps 3 (some .int)) 0 0 jrI [.ref this, .int a1, .int a2] σ (jrd σ (X2_steps G n σ this a1 a2)) := by
  refine jCt.rd (lv := [(0, .ref this), (1, .int a1), (2, .int a2)]) (plainFor_of_name (by decide)) (Nat.le_of_ble_eq_true rfl) rfl ?_
  intro t p e s m args below meth c ls X hr hnm hl
  have X : jCx p c cX2_steps 3 s m args RX2 G meth := X
  unfold X2_steps
  refine J.pu (fun _ _ _ _ k => lv_iload_n X.1.1 X.1.2.1 dX2_steps_0 rfl (lv_at hl 2 rfl) k) ?_
  refine J.pu (fun _ _ _ _ k => lv_iload_n X.1.1 X.1.2.1 dX2_steps_1 rfl (lv_at hl 1 rfl) k) ?_
  refine J.pu (fun _ _ _ _ k => lv_isub X.1.1 X.1.2.1 dX2_steps_2 k) ?_
  refine J.pu (fun _ _ _ _ k => lv_aload_n X.1.1 X.1.2.1 dX2_steps_3 rfl (lv_at hl 0 rfl) k) ?_
  refine J.getI (k := 0) (ci := 1) X in_X2 (show jCl[1]? = some (RX2, TX2, 9) from rfl) (by decide) q684 (fun _ h => h) dX2_steps_4 (fun v4 h4 => ?_)
  refine J.pu (fun _ _ _ _ k => lv_iadd X.1.1 X.1.2.1 dX2_steps_7 k) ?_
  refine J.pu (fun _ _ _ _ k => lv_aload_n X.1.1 X.1.2.1 dX2_steps_8 rfl (lv_at hl 0 rfl) k) ?_
  refine J.getI (k := 0) (ci := 1) X in_X2 (show jCl[1]? = some (RX2, TX2, 9) from rfl) (by decide) q684 (fun _ h => h) dX2_steps_9 (fun v9 h9 => ?_)
  refine J.nz (fun z12 => ?_)
  refine J.pu (fun _ _ _ _ k => lv_irem X.1.1 X.1.2.1 dX2_steps_12 z12 k) ?_
  exact J.iret (vr := jrI) (fin := fun _ : Int32 => σ) (t := t) X hr (by rfl) (by rfl) dX2_steps_13
noncomputable def X3_init_h17 (G : jG) (n : Nat) (this : Nat) (a1 : Int32) (rec17 : Int32 × jH → Option (Unit × jH)) (q17 : Int32 × jH) : Option (Unit × jH) :=
  let x2_17 := q17.1; let B17 := q17.2; if a1 ≤ x2_17 then (some ((), B17)) else ((gR B17 (some this) 2 0).bind fun v23 => (rc B17 v23 15).bind fun o27 => bd (jck B17 (alAdd G B17 o27 none)) fun v27 S27 => rec17 ((x2_17 + 1), S27))
noncomputable def X3_init_b (G : jG) (n : Nat) (σ : jH) (this : Nat) (a1 : Int32) : Option (Unit × jH) :=
  bd (nO σ 15 [.int 0, .null, .int 0] 3) fun v5 S5 => bd (jck S5 (alInit G S5 v5)) fun v9 S9 => (pR G S9 (some this) 2 0 (some v5)).bind fun S12 => jloop (X3_init_h17 G n this a1) n (0, S12)
noncomputable def X3_init (G : jG) (n : Nat) (σ : jH) (this : Nat) (a1 : Int32) : Option (Unit × jH) := jck σ (X3_init_b G n σ this a1)
set_option maxHeartbeats 4000000 in
set_option maxRecDepth 100000 in
theorem ct_X3_init (l : Launch) (G : jG) (n : Nat) (σ : jH) (this : Nat) (a1 : Int32) : jCt l G yX3_init (ws_ yX3_init cX3_init 3 none) 21 1221 jrV [.ref this, .int a1] σ (X3_init G n σ this a1) := by
  refine jCt.wr (lv := [(0, .ref this), (1, .int a1)]) (plainFor_of_name (by decide)) (Nat.le_of_ble_eq_true rfl) rfl ?_
  intro t p e s m args below meth c ls X hr hnm hl
  have X : jCx p c cX3_init 3 s m args RX3 G meth := X
  have L17 : ∀ (n17 : Nat) (x2_17 : Int32) (B17 : jH) (ls : Array Slot), lv_has ls 3 [(0, .ref this), (1, .int a1), (2, .int x2_17)] → jGo l G 21 1221 σ (Prod.snd : Unit × jH → jH) (fun t => jrV t.1) t p e s m args below meth c (jloop (X3_init_h17 G n this a1) n17 (x2_17, B17)) B17 (F0 m 17 ls []) := by
    intro n17
    induction n17 with
    | zero => intro x2_17 B17 ls hl; exact J.nil_
    | succ n17 ih17 =>
      intro x2_17 B17 ls hl
      refine J.eq (jloop_s _ _ _) ?_
      dsimp only [X3_init_h17]
      refine J.pu (fun _ _ _ _ k => lv_iload_n X.1.1 X.1.2.1 dX3_init_17 rfl (lv_at hl 2 rfl) k) ?_
      refine J.pu (fun _ _ _ _ k => lv_iload_n X.1.1 X.1.2.1 dX3_init_18 rfl (lv_at hl 1 rfl) k) ?_
      refine J.br (fun _ _ _ _ ka kb => lv_icmp_ge (tgt := 39) X.1.1 X.1.2.1 dX3_init_19 (by decide) ka kb) (fun c19 => ?_) (fun c19 => ?_)
      · exact J.vret (vr := fun t : Unit × jH => jrV t.1) (fin := Prod.snd) (t := t) X hr (by rfl) (by rfl) dX3_init_39
      · refine J.pu (fun _ _ _ _ k => lv_aload_n X.1.1 X.1.2.1 dX3_init_22 rfl (lv_at hl 0 rfl) k) ?_
        refine J.getR (k := 0) (ci := 2) X in_X3 (show jCl[2]? = some (RX3, TX3, 1) from rfl) (by decide) q680 (fun _ h => h) dX3_init_23 (fun v23 h23 => ?_)
        refine J.pu (fun _ _ _ _ k => lv_null X.1.1 X.1.2.1 dX3_init_26 k) ?_
        refine J.bind (fun o27 g27 => ?_)
        refine J.bd' (fun v27 S27 h27 => ?_)
        refine J.cF (q := (RJ2, TJ2, 3)) (ci := 15) (As := [va_rf none]) (rest := []) (s2 := [.int v27]) X ⟨rfl, rfl⟩ (ct_J2_add l G B17 o27 none) h27 (fun _ _ => va_cwF 1 X.1.2.2.2.2 (lw_F q578 q582 q584 q142 q586) rfl rfl rfl (jfw0 X.2.1) (by decide +kernel) ⟨(Nat.le_of_ble_eq_true rfl), (Nat.le_of_ble_eq_true rfl)⟩) g27 rfl rfl hl.1 rfl rfl (Nat.le_of_ble_eq_true rfl) dX3_init_27 ?_
        refine J.pu (fun _ _ _ _ k => lv_pop X.1.1 X.1.2.1 dX3_init_32 rfl k) ?_
        refine J.iinc (k := 2) (lv' := [(2, .int (x2_17 + 1)), (0, .ref this), (1, .int a1)]) (w := (x2_17 + 1)) X.1.1 X.1.2.1 dX3_init_33 hl rfl rfl (by decide) (by first | rfl | simp [va_rf_cat, jcI, jcA, jcJ, jcD, jcF]) (fun ls hl => ?_)
        refine J.pu (fun _ _ _ _ k => lv_goto (tgt := 17) X.1.1 X.1.2.1 dX3_init_36 (by decide) k) ?_
        exact ih17 (x2_17 + 1) S27 ls (lv_sub hl [1, 2, 0] rfl)
  unfold X3_init_b
  refine J.pu (fun _ _ _ _ k => lv_aload_n X.1.1 X.1.2.1 dX3_init_0 rfl (lv_at hl 0 rfl) k) ?_
  refine J.objI (a := this) X q570 hl.1 dX3_init_1 (Nat.le_of_ble_eq_true rfl) (Nat.le_of_ble_eq_true rfl) ?_
  refine J.pu (fun _ _ _ _ k => lv_aload_n X.1.1 X.1.2.1 dX3_init_4 rfl (lv_at hl 0 rfl) k) ?_
  refine J.nO' (fs := [.int 0, .null, .int 0]) X ⟨rfl, rfl⟩ in_J2 (show jCl[15]? = some (RJ2, TJ2, 3) from rfl) tyJ2 tyJ2_ok q571 q211 q142 rfl dX3_init_5 (fun v5 S5 h5 => ?_)
  refine J.pu (fun _ _ _ _ k => lv_dup X.1.1 X.1.2.1 dX3_init_8 rfl k) ?_
  refine J.bd' (fun v9 S9 h9 => ?_)
  refine J.cI (a := v5) (As := []) (rest := [.ref v5, .ref this]) (s2 := [.ref v5, .ref this]) X ⟨rfl, rfl⟩ (ct_J2_init_2 l G S5 v5) h9 (fun _ _ => jcwI 0 X.1.2.2.2.2 q572 q573 q142 q574 rfl rfl rfl (by decide +kernel) ⟨(Nat.le_of_ble_eq_true rfl), (Nat.le_of_ble_eq_true rfl)⟩) rfl hl.1 rfl rfl (Nat.le_of_ble_eq_true rfl) dX3_init_9 ?_
  refine J.putRF (k := 0) (ci := 2) X hnm in_X3 (show jCl[2]? = some (RX3, TX3, 1) from rfl) tyX3_ok (fun a ha b hb h => Or.inl (nmX3 a ha b hb h)) (by decide) q680 (fun _ h => h) rfl rfl (Or.inl ⟨_, rfl⟩) dX3_init_12 (fun S12 h12 => ?_)
  refine J.pu (fun _ _ _ _ k => lv_iconst (v := 0) X.1.1 X.1.2.1 dX3_init_15 (by decide) k) ?_
  refine J.istore_n (i := 2) (lv' := [(2, .int 0), (0, .ref this), (1, .int a1)]) X.1.1 X.1.2.1 dX3_init_16 rfl hl (by decide) (by first | rfl | simp [va_rf_cat, jcI, jcA, jcJ, jcD, jcF]) (fun ls hl => ?_)
  exact L17 n 0 S12 ls (lv_sub hl [1, 2, 0] rfl)
noncomputable def X3_lays_b (G : jG) (n : Nat) (σ : jH) (this : Nat) (a1 : Int32) (a2 : Option Nat) : Option (Unit × jH) :=
  (gR σ (some this) 2 0).bind fun v1 => (rc σ v1 15).bind fun o6 => bd (jck σ (alSet G σ o6 a1 a2)) fun v6 S6 => (jck' S6 v6 [4]).bind fun _ => some ((), S6)
noncomputable def X3_lays (G : jG) (n : Nat) (σ : jH) (this : Nat) (a1 : Int32) (a2 : Option Nat) : Option (Unit × jH) := jck σ (X3_lays_b G n σ this a1 a2)
set_option maxHeartbeats 4000000 in
set_option maxRecDepth 100000 in
theorem ct_X3_lays (l : Launch) (G : jG) (n : Nat) (σ : jH) (this : Nat) (a1 : Int32) (a2 : Option Nat) : jCt l G yX3_lays (ws_ yX3_lays cX3_lays 4 none) 21 1223 jrV [.ref this, .int a1, va_rf a2] σ (X3_lays G n σ this a1 a2) := by
  refine jCt.wr (lv := [(0, .ref this), (1, .int a1), (2, va_rf a2)]) (plainFor_of_name (by decide)) (by simp [lg_sl, va_rf_cat, jcI, jcA, jcJ, jcD, jcF]) (by simp [lv_args, va_rf_cat, jcI, jcA, jcJ, jcD, jcF]) ?_
  intro t p e s m args below meth c ls X hr hnm hl
  have X : jCx p c cX3_lays 4 s m args RX3 G meth := X
  unfold X3_lays_b
  refine J.pu (fun _ _ _ _ k => lv_aload_n X.1.1 X.1.2.1 dX3_lays_0 rfl (lv_at hl 0 rfl) k) ?_
  refine J.getR (k := 0) (ci := 2) X in_X3 (show jCl[2]? = some (RX3, TX3, 1) from rfl) (by decide) q680 (fun _ h => h) dX3_lays_1 (fun v1 h1 => ?_)
  refine J.pu (fun _ _ _ _ k => lv_iload_n X.1.1 X.1.2.1 dX3_lays_4 rfl (lv_at hl 1 rfl) k) ?_
  refine J.pu (fun _ _ _ _ k => W.rload_n X.1.1 X.1.2.1 dX3_lays_5 rfl (lv_at hl 2 rfl) k) ?_
  refine J.bind (fun o6 g6 => ?_)
  refine J.bd' (fun v6 S6 h6 => ?_)
  refine J.cF (q := (RJ2, TJ2, 3)) (ci := 15) (As := [.int a1, va_rf a2]) (rest := []) (s2 := [va_rf v6]) X ⟨rfl, rfl⟩ (ct_J2_set l G σ o6 a1 a2) h6 (fun _ _ => va_cwF 2 X.1.2.2.2.2 (lw_F q1038 q1016 q1018 q142 q1020) rfl rfl rfl (jfw8 X.2.1) (by decide +kernel) ⟨(Nat.le_of_ble_eq_true rfl), (Nat.le_of_ble_eq_true rfl)⟩) g6 rfl rfl hl.1 rfl rfl (Nat.le_of_ble_eq_true rfl) dX3_lays_6 ?_
  refine J.cast (nm := "SortingLoop$Numbered") X q1039 (List.forall_mem_cons.mpr ⟨⟨_, rfl, Or.inr jnc15⟩, jnil_all⟩) dX3_lays_11 ?_
  refine J.astore_n (r := v6) (i := 3) (lv' := [(3, va_rf v6), (0, .ref this), (1, .int a1), (2, va_rf a2)]) X.1.1 X.1.2.1 dX3_lays_14 rfl hl (by decide) (by first | rfl | simp [va_rf_cat, jcI, jcA, jcJ, jcD, jcF]) (fun ls hl => ?_)
  exact J.vret (vr := fun t : Unit × jH => jrV t.1) (fin := Prod.snd) (t := t) X hr (by rfl) (by rfl) dX3_lays_15
noncomputable def X3_isFree (G : jG) (n : Nat) (σ : jH) (this : Nat) (a1 : Int32) : Option (Int32) :=
  (gR σ (some this) 2 0).bind fun v1 => (rc σ v1 15).bind fun o5 => (lGet 0 σ o5 a1).bind fun v5 => if v5 = none then (some 1) else (some 0)
set_option maxHeartbeats 4000000 in
set_option maxRecDepth 100000 in
theorem ct_X3_isFree (l : Launch) (G : jG) (n : Nat) (σ : jH) (this : Nat) (a1 : Int32) : jCt l G yX3_isFree (ws_ yX3_isFree cX3_isFree 2 (some .boolean)) 21 1221 jrI [.ref this, .int a1] σ (jrd σ (X3_isFree G n σ this a1)) := by
  refine jCt.rd (lv := [(0, .ref this), (1, .int a1)]) (plainFor_of_name (by decide)) (Nat.le_of_ble_eq_true rfl) rfl ?_
  intro t p e s m args below meth c ls X hr hnm hl
  have X : jCx p c cX3_isFree 2 s m args RX3 G meth := X
  unfold X3_isFree
  refine J.pu (fun _ _ _ _ k => lv_aload_n X.1.1 X.1.2.1 dX3_isFree_0 rfl (lv_at hl 0 rfl) k) ?_
  refine J.getR (k := 0) (ci := 2) X in_X3 (show jCl[2]? = some (RX3, TX3, 1) from rfl) (by decide) q680 (fun _ h => h) dX3_isFree_1 (fun v1 h1 => ?_)
  refine J.pu (fun _ _ _ _ k => lv_iload_n X.1.1 X.1.2.1 dX3_isFree_4 rfl (lv_at hl 1 rfl) k) ?_
  refine J.bind (fun o5 g5 => ?_)
  refine J.bind (fun v5 h5 => ?_)
  refine J.cF (q := (RJ2, TJ2, 3)) (ci := 15) (As := [.int a1]) (rest := []) (s2 := [va_rf v5]) X ⟨rfl, rfl⟩ (ct_J2_get l G σ o5 a1) (jrd_of h5) (fun _ _ => va_cwF 1 X.1.2.2.2.2 (lw_F q2004 q851 q853 q142 q855) rfl rfl rfl (jfw4 X.2.1) (by decide +kernel) ⟨(Nat.le_of_ble_eq_true rfl), (Nat.le_of_ble_eq_true rfl)⟩) g5 rfl rfl hl.1 rfl rfl (Nat.le_of_ble_eq_true rfl) dX3_isFree_5 ?_
  refine J.br (fun _ _ _ _ ka kb => W.rnonnull (tgt := 17) X.1.1 X.1.2.1 dX3_isFree_10 (by decide) kb ka) (fun c10 => ?_) (fun c10 => ?_)
  · refine J.pu (fun _ _ _ _ k => lv_iconst (v := 1) X.1.1 X.1.2.1 dX3_isFree_13 (by decide) k) ?_
    refine J.pu (fun _ _ _ _ k => lv_goto (tgt := 18) X.1.1 X.1.2.1 dX3_isFree_14 (by decide) k) ?_
    exact J.zret (vr := jrI) (fin := fun _ : Int32 => σ) (t := t) X hr (by decide) (by rfl) (by rfl) dX3_isFree_18
  · refine J.pu (fun _ _ _ _ k => lv_iconst (v := 0) X.1.1 X.1.2.1 dX3_isFree_17 (by decide) k) ?_
    exact J.zret (vr := jrI) (fin := fun _ : Int32 => σ) (t := t) X hr (by decide) (by rfl) (by rfl) dX3_isFree_18
noncomputable def X3_turns_b (G : jG) (n : Nat) (σ : jH) (this : Nat) : Option (Unit × jH) :=
  (gR σ (some this) 2 0).bind fun v1 => (rc σ v1 15).bind fun o4 => (lEmpty 0 σ o4).bind fun v4 => if v4 = 0 then ((gR σ (some this) 2 0).bind fun v13 => (gR σ (some this) 2 0).bind fun v18 => (gR σ (some this) 2 0).bind fun v22 => (rc σ v22 15).bind fun o25 => (lSize 0 σ o25).bind fun v25 => (rc σ v18 15).bind fun o32 => bd (jck σ (alRem G σ o32 (v25 - 1))) fun v32 S32 => (jck' S32 v32 [4]).bind fun _ => (rc S32 v13 15).bind fun o40 => bd (jck S32 (alAddI G S32 o40 0 v32)) fun v40 S40 => some ((), S40)) else (some ((), σ))
noncomputable def X3_turns (G : jG) (n : Nat) (σ : jH) (this : Nat) : Option (Unit × jH) := jck σ (X3_turns_b G n σ this)
set_option maxHeartbeats 4000000 in
set_option maxRecDepth 100000 in
theorem ct_X3_turns (l : Launch) (G : jG) (n : Nat) (σ : jH) (this : Nat) : jCt l G yX3_turns (ws_ yX3_turns cX3_turns 1 none) 21 1224 jrV [.ref this] σ (X3_turns G n σ this) := by
  refine jCt.wr (lv := [(0, .ref this)]) (plainFor_of_name (by decide)) (Nat.le_of_ble_eq_true rfl) rfl ?_
  intro t p e s m args below meth c ls X hr hnm hl
  have X : jCx p c cX3_turns 1 s m args RX3 G meth := X
  unfold X3_turns_b
  refine J.pu (fun _ _ _ _ k => lv_aload_n X.1.1 X.1.2.1 dX3_turns_0 rfl (lv_at hl 0 rfl) k) ?_
  refine J.getR (k := 0) (ci := 2) X in_X3 (show jCl[2]? = some (RX3, TX3, 1) from rfl) (by decide) q680 (fun _ h => h) dX3_turns_1 (fun v1 h1 => ?_)
  refine J.bind (fun o4 g4 => ?_)
  refine J.bind (fun v4 h4 => ?_)
  refine J.cF (q := (RJ2, TJ2, 3)) (ci := 15) (As := []) (rest := []) (s2 := [.int v4]) X ⟨rfl, rfl⟩ (ct_J2_isEmpty l G σ o4) (jrd_of h4) (fun _ _ => va_cwF 0 X.1.2.2.2.2 (lw_F q2074 q1727 q1729 q142 q1731) rfl rfl rfl (jfw23 X.2.1) (by decide +kernel) ⟨(Nat.le_of_ble_eq_true rfl), (Nat.le_of_ble_eq_true rfl)⟩) g4 rfl rfl hl.1 rfl rfl (Nat.le_of_ble_eq_true rfl) dX3_turns_4 ?_
  refine J.br (fun _ _ _ _ ka kb => lv_if_ne (tgt := 45) X.1.1 X.1.2.1 dX3_turns_9 (by decide) kb ka) (fun c9 => ?_) (fun c9 => ?_)
  · refine J.pu (fun _ _ _ _ k => lv_aload_n X.1.1 X.1.2.1 dX3_turns_12 rfl (lv_at hl 0 rfl) k) ?_
    refine J.getR (k := 0) (ci := 2) X in_X3 (show jCl[2]? = some (RX3, TX3, 1) from rfl) (by decide) q680 (fun _ h => h) dX3_turns_13 (fun v13 h13 => ?_)
    refine J.pu (fun _ _ _ _ k => lv_iconst (v := 0) X.1.1 X.1.2.1 dX3_turns_16 (by decide) k) ?_
    refine J.pu (fun _ _ _ _ k => lv_aload_n X.1.1 X.1.2.1 dX3_turns_17 rfl (lv_at hl 0 rfl) k) ?_
    refine J.getR (k := 0) (ci := 2) X in_X3 (show jCl[2]? = some (RX3, TX3, 1) from rfl) (by decide) q680 (fun _ h => h) dX3_turns_18 (fun v18 h18 => ?_)
    refine J.pu (fun _ _ _ _ k => lv_aload_n X.1.1 X.1.2.1 dX3_turns_21 rfl (lv_at hl 0 rfl) k) ?_
    refine J.getR (k := 0) (ci := 2) X in_X3 (show jCl[2]? = some (RX3, TX3, 1) from rfl) (by decide) q680 (fun _ h => h) dX3_turns_22 (fun v22 h22 => ?_)
    refine J.bind (fun o25 g25 => ?_)
    refine J.bind (fun v25 h25 => ?_)
    refine J.cF (q := (RJ2, TJ2, 3)) (ci := 15) (As := []) (rest := [va_rf v18, .int 0, va_rf v13]) (s2 := [.int v25, va_rf v18, .int 0, va_rf v13]) X ⟨rfl, rfl⟩ (ct_J2_size l G σ o25) (jrd_of h25) (fun _ _ => va_cwF 0 X.1.2.2.2.2 (lw_F q1032 q832 q834 q142 q836) rfl rfl rfl (jfw2 X.2.1) (by decide +kernel) ⟨(Nat.le_of_ble_eq_true rfl), (Nat.le_of_ble_eq_true rfl)⟩) g25 rfl rfl hl.1 rfl rfl (by simp [va_rf_cat, jcI, jcA, jcJ, jcD, jcF]) dX3_turns_25 ?_
    refine J.pu (fun _ _ _ _ k => lv_iconst (v := 1) X.1.1 X.1.2.1 dX3_turns_30 (by decide) k) ?_
    refine J.pu (fun _ _ _ _ k => lv_isub X.1.1 X.1.2.1 dX3_turns_31 k) ?_
    refine J.bind (fun o32 g32 => ?_)
    refine J.bd' (fun v32 S32 h32 => ?_)
    refine J.cF (q := (RJ2, TJ2, 3)) (ci := 15) (As := [.int (v25 - 1)]) (rest := [.int 0, va_rf v13]) (s2 := [va_rf v32, .int 0, va_rf v13]) X ⟨rfl, rfl⟩ (ct_J2_remove l G σ o32 (v25 - 1)) h32 (fun _ _ => va_cwF 1 X.1.2.2.2.2 (lw_F q2076 q923 q925 q142 q927) rfl rfl rfl (jfw6 X.2.1) (by decide +kernel) ⟨(Nat.le_of_ble_eq_true rfl), (Nat.le_of_ble_eq_true rfl)⟩) g32 rfl rfl hl.1 rfl rfl (by simp [va_rf_cat, jcI, jcA, jcJ, jcD, jcF]) dX3_turns_32 ?_
    refine J.cast (nm := "SortingLoop$Numbered") X q1039 (List.forall_mem_cons.mpr ⟨⟨_, rfl, Or.inr jnc15⟩, jnil_all⟩) dX3_turns_37 ?_
    refine J.bind (fun o40 g40 => ?_)
    refine J.bd' (fun v40 S40 h40 => ?_)
    refine J.cF (q := (RJ2, TJ2, 3)) (ci := 15) (As := [.int 0, va_rf v32]) (rest := []) (s2 := []) X ⟨rfl, rfl⟩ (ct_J2_add_3 l G S32 o40 0 v32) h40 (fun _ _ => va_cwF 2 X.1.2.2.2.2 (lw_F q2078 q2081 q2083 q142 q2085) rfl rfl rfl (jfw25 X.2.1) (by decide +kernel) ⟨(Nat.le_of_ble_eq_true rfl), (Nat.le_of_ble_eq_true rfl)⟩) g40 rfl rfl hl.1 rfl rfl (Nat.le_of_ble_eq_true rfl) dX3_turns_40 ?_
    exact J.vret (vr := fun t : Unit × jH => jrV t.1) (fin := Prod.snd) (t := t) X hr (by rfl) (by rfl) dX3_turns_45
  · exact J.vret (vr := fun t : Unit × jH => jrV t.1) (fin := Prod.snd) (t := t) X hr (by rfl) (by rfl) dX3_turns_45
noncomputable def X3_at (G : jG) (n : Nat) (σ : jH) (this : Nat) (a1 : Int32) : Option (Option Nat) :=
  (gR σ (some this) 2 0).bind fun v1 => (rc σ v1 15).bind fun o5 => (lGet 0 σ o5 a1).bind fun v5 => (jck' σ v5 [4]).bind fun _ => some v5
set_option maxHeartbeats 4000000 in
set_option maxRecDepth 100000 in
theorem ct_X3_at (l : Launch) (G : jG) (n : Nat) (σ : jH) (this : Nat) (a1 : Int32) : jCt l G yX3_at (ws_ yX3_at cX3_at 2 (some (.object "SortingLoop$Numbered"))) 21 1221 jrR [.ref this, .int a1] σ (jrd σ (X3_at G n σ this a1)) := by
  refine jCt.rd (lv := [(0, .ref this), (1, .int a1)]) (plainFor_of_name (by decide)) (Nat.le_of_ble_eq_true rfl) rfl ?_
  intro t p e s m args below meth c ls X hr hnm hl
  have X : jCx p c cX3_at 2 s m args RX3 G meth := X
  unfold X3_at
  refine J.pu (fun _ _ _ _ k => lv_aload_n X.1.1 X.1.2.1 dX3_at_0 rfl (lv_at hl 0 rfl) k) ?_
  refine J.getR (k := 0) (ci := 2) X in_X3 (show jCl[2]? = some (RX3, TX3, 1) from rfl) (by decide) q680 (fun _ h => h) dX3_at_1 (fun v1 h1 => ?_)
  refine J.pu (fun _ _ _ _ k => lv_iload_n X.1.1 X.1.2.1 dX3_at_4 rfl (lv_at hl 1 rfl) k) ?_
  refine J.bind (fun o5 g5 => ?_)
  refine J.bind (fun v5 h5 => ?_)
  refine J.cF (q := (RJ2, TJ2, 3)) (ci := 15) (As := [.int a1]) (rest := []) (s2 := [va_rf v5]) X ⟨rfl, rfl⟩ (ct_J2_get l G σ o5 a1) (jrd_of h5) (fun _ _ => va_cwF 1 X.1.2.2.2.2 (lw_F q2004 q851 q853 q142 q855) rfl rfl rfl (jfw4 X.2.1) (by decide +kernel) ⟨(Nat.le_of_ble_eq_true rfl), (Nat.le_of_ble_eq_true rfl)⟩) g5 rfl rfl hl.1 rfl rfl (Nat.le_of_ble_eq_true rfl) dX3_at_5 ?_
  refine J.cast (nm := "SortingLoop$Numbered") X q1039 (List.forall_mem_cons.mpr ⟨⟨_, rfl, Or.inr jnc15⟩, jnil_all⟩) dX3_at_10 ?_
  exact J.aret (vr := jrR) (fin := fun _ : Option Nat => σ) (t := t) X hr (Or.inl ⟨_, rfl⟩) (by rfl) (by rfl) dX3_at_13
noncomputable def X4_init_b (G : jG) (n : Nat) (σ : jH) (this : Nat) (a1 : Int32) (a2 : Int32) (a3 : Int32) (a4 : Int32) (a5 : Int32) : Option (Unit × jH) :=
  bd (nO σ 16 [.int 0, .int 0, .null, .null] 4) fun v5 S5 => bd (jck S5 (llInit G S5 v5)) fun v9 S9 => (pR G S9 (some this) 3 4 (some v5)).bind fun S12 => (pB G S12 (some this) 3 8 1).bind fun S17 => (pI G S17 (some this) 3 0 a1).bind fun S22 => (pI G S22 (some this) 3 1 a2).bind fun S27 => (pI G S27 (some this) 3 2 a3).bind fun S32 => (pI G S32 (some this) 3 5 a4).bind fun S38 => (pI G S38 (some this) 3 3 a5).bind fun S44 => some ((), S44)
noncomputable def X4_init (G : jG) (n : Nat) (σ : jH) (this : Nat) (a1 : Int32) (a2 : Int32) (a3 : Int32) (a4 : Int32) (a5 : Int32) : Option (Unit × jH) := jck σ (X4_init_b G n σ this a1 a2 a3 a4 a5)
set_option maxHeartbeats 4000000 in
set_option maxRecDepth 100000 in
theorem ct_X4_init (l : Launch) (G : jG) (n : Nat) (σ : jH) (this : Nat) (a1 : Int32) (a2 : Int32) (a3 : Int32) (a4 : Int32) (a5 : Int32) : jCt l G yX4_init (ws_ yX4_init cX4_init 6 none) 21 1220 jrV [.ref this, .int a1, .int a2, .int a3, .int a4, .int a5] σ (X4_init G n σ this a1 a2 a3 a4 a5) := by
  refine jCt.wr (lv := [(0, .ref this), (1, .int a1), (2, .int a2), (3, .int a3), (4, .int a4), (5, .int a5)]) (plainFor_of_name (by decide)) (Nat.le_of_ble_eq_true rfl) rfl ?_
  intro t p e s m args below meth c ls X hr hnm hl
  have X : jCx p c cX4_init 6 s m args RX4 G meth := X
  unfold X4_init_b
  refine J.pu (fun _ _ _ _ k => lv_aload_n X.1.1 X.1.2.1 dX4_init_0 rfl (lv_at hl 0 rfl) k) ?_
  refine J.objI (a := this) X q733 hl.1 dX4_init_1 (Nat.le_of_ble_eq_true rfl) (Nat.le_of_ble_eq_true rfl) ?_
  refine J.pu (fun _ _ _ _ k => lv_aload_n X.1.1 X.1.2.1 dX4_init_4 rfl (lv_at hl 0 rfl) k) ?_
  refine J.nO' (fs := [.int 0, .int 0, .null, .null]) X ⟨rfl, rfl⟩ in_J19 (show jCl[16]? = some (RJ19, TJ19, 4) from rfl) tyJ19 tyJ19_ok q734 q735 q163 rfl dX4_init_5 (fun v5 S5 h5 => ?_)
  refine J.pu (fun _ _ _ _ k => lv_dup X.1.1 X.1.2.1 dX4_init_8 rfl k) ?_
  refine J.bd' (fun v9 S9 h9 => ?_)
  refine J.cI (a := v5) (As := []) (rest := [.ref v5, .ref this]) (s2 := [.ref v5, .ref this]) X ⟨rfl, rfl⟩ (ct_J19_init l G S5 v5) h9 (fun _ _ => jcwI 0 X.1.2.2.2.2 q736 q737 q163 q738 rfl rfl rfl (by decide +kernel) ⟨(Nat.le_of_ble_eq_true rfl), (Nat.le_of_ble_eq_true rfl)⟩) rfl hl.1 rfl rfl (Nat.le_of_ble_eq_true rfl) dX4_init_9 ?_
  refine J.putRF (k := 4) (ci := 3) X hnm in_X4 (show jCl[3]? = some (RX4, TX4, 9) from rfl) tyX4_ok (fun a ha b hb h => Or.inl (nmX4 a ha b hb h)) (by decide) q765 (fun _ h => h) rfl rfl (Or.inl ⟨_, rfl⟩) dX4_init_12 (fun S12 h12 => ?_)
  refine J.pu (fun _ _ _ _ k => lv_aload_n X.1.1 X.1.2.1 dX4_init_15 rfl (lv_at hl 0 rfl) k) ?_
  refine J.pu (fun _ _ _ _ k => lv_iconst (v := 1) X.1.1 X.1.2.1 dX4_init_16 (by decide) k) ?_
  refine J.putB (k := 8) (ci := 3) X in_X4 (show jCl[3]? = some (RX4, TX4, 9) from rfl) tyX4_ok (fun a ha b hb h => Or.inl (nmX4 a ha b hb h)) (by decide) q775 (fun _ h => h) rfl (Or.inl rfl) dX4_init_17 (fun S17 h17 => ?_)
  refine J.pu (fun _ _ _ _ k => lv_aload_n X.1.1 X.1.2.1 dX4_init_20 rfl (lv_at hl 0 rfl) k) ?_
  refine J.pu (fun _ _ _ _ k => lv_iload_n X.1.1 X.1.2.1 dX4_init_21 rfl (lv_at hl 1 rfl) k) ?_
  refine J.putIF (k := 0) (ci := 3) X hnm in_X4 (show jCl[3]? = some (RX4, TX4, 9) from rfl) tyX4_ok (fun a ha b hb h => Or.inl (nmX4 a ha b hb h)) (by decide) q755 (fun _ h => h) rfl rfl rfl dX4_init_22 (fun S22 h22 => ?_)
  refine J.pu (fun _ _ _ _ k => lv_aload_n X.1.1 X.1.2.1 dX4_init_25 rfl (lv_at hl 0 rfl) k) ?_
  refine J.pu (fun _ _ _ _ k => lv_iload_n X.1.1 X.1.2.1 dX4_init_26 rfl (lv_at hl 2 rfl) k) ?_
  refine J.putIF (k := 1) (ci := 3) X hnm in_X4 (show jCl[3]? = some (RX4, TX4, 9) from rfl) tyX4_ok (fun a ha b hb h => Or.inl (nmX4 a ha b hb h)) (by decide) q757 (fun _ h => h) rfl rfl rfl dX4_init_27 (fun S27 h27 => ?_)
  refine J.pu (fun _ _ _ _ k => lv_aload_n X.1.1 X.1.2.1 dX4_init_30 rfl (lv_at hl 0 rfl) k) ?_
  refine J.pu (fun _ _ _ _ k => lv_iload_n X.1.1 X.1.2.1 dX4_init_31 rfl (lv_at hl 3 rfl) k) ?_
  refine J.putIF (k := 2) (ci := 3) X hnm in_X4 (show jCl[3]? = some (RX4, TX4, 9) from rfl) tyX4_ok (fun a ha b hb h => Or.inl (nmX4 a ha b hb h)) (by decide) q760 (fun _ h => h) rfl rfl rfl dX4_init_32 (fun S32 h32 => ?_)
  refine J.pu (fun _ _ _ _ k => lv_aload_n X.1.1 X.1.2.1 dX4_init_35 rfl (lv_at hl 0 rfl) k) ?_
  refine J.pu (fun _ _ _ _ k => lv_iload X.1.1 X.1.2.1 dX4_init_36 (lv_at hl 4 rfl) k) ?_
  refine J.putI (k := 5) (ci := 3) X in_X4 (show jCl[3]? = some (RX4, TX4, 9) from rfl) tyX4_ok (fun a ha b hb h => Or.inl (nmX4 a ha b hb h)) (by decide) q768 (fun _ h => h) rfl rfl dX4_init_38 (fun S38 h38 => ?_)
  refine J.pu (fun _ _ _ _ k => lv_aload_n X.1.1 X.1.2.1 dX4_init_41 rfl (lv_at hl 0 rfl) k) ?_
  refine J.pu (fun _ _ _ _ k => lv_iload X.1.1 X.1.2.1 dX4_init_42 (lv_at hl 5 rfl) k) ?_
  refine J.putIF (k := 3) (ci := 3) X hnm in_X4 (show jCl[3]? = some (RX4, TX4, 9) from rfl) tyX4_ok (fun a ha b hb h => Or.inl (nmX4 a ha b hb h)) (by decide) q762 (fun _ h => h) rfl rfl rfl dX4_init_44 (fun S44 h44 => ?_)
  exact J.vret (vr := fun t : Unit × jH => jrV t.1) (fin := Prod.snd) (t := t) X hr (by rfl) (by rfl) dX4_init_47
noncomputable def X4_init_2_b (G : jG) (n : Nat) (σ : jH) (this : Nat) (a1 : Option Nat) : Option (Unit × jH) :=
  (gI σ a1 3 0).bind fun v2 => (gI σ a1 3 1).bind fun v6 => (gI σ a1 3 2).bind fun v10 => (gI σ a1 3 5).bind fun v14 => (gI σ a1 3 3).bind fun v18 => bd (X4_init G n σ this v2 v6 v10 v14 v18) fun v21 S21 => some ((), S21)
noncomputable def X4_init_2 (G : jG) (n : Nat) (σ : jH) (this : Nat) (a1 : Option Nat) : Option (Unit × jH) := jck σ (X4_init_2_b G n σ this a1)
set_option maxHeartbeats 4000000 in
set_option maxRecDepth 100000 in
theorem ct_X4_init_2 (l : Launch) (G : jG) (n : Nat) (σ : jH) (this : Nat) (a1 : Option Nat) : jCt l G yX4_init_2 (ws_ yX4_init_2 cX4_init_2 2 none) 22 1245 jrV [.ref this, va_rf a1] σ (X4_init_2 G n σ this a1) := by
  refine jCt.wr (lv := [(0, .ref this), (1, va_rf a1)]) (plainFor_of_name (by decide)) (by simp [lg_sl, va_rf_cat, jcI, jcA, jcJ, jcD, jcF]) (by simp [lv_args, va_rf_cat, jcI, jcA, jcJ, jcD, jcF]) ?_
  intro t p e s m args below meth c ls X hr hnm hl
  have X : jCx p c cX4_init_2 2 s m args RX4 G meth := X
  unfold X4_init_2_b
  refine J.pu (fun _ _ _ _ k => lv_aload_n X.1.1 X.1.2.1 dX4_init_2_0 rfl (lv_at hl 0 rfl) k) ?_
  refine J.pu (fun _ _ _ _ k => W.rload_n X.1.1 X.1.2.1 dX4_init_2_1 rfl (lv_at hl 1 rfl) k) ?_
  refine J.getI (k := 0) (ci := 3) X in_X4 (show jCl[3]? = some (RX4, TX4, 9) from rfl) (by decide) q755 (fun _ h => h) dX4_init_2_2 (fun v2 h2 => ?_)
  refine J.pu (fun _ _ _ _ k => W.rload_n X.1.1 X.1.2.1 dX4_init_2_5 rfl (lv_at hl 1 rfl) k) ?_
  refine J.getI (k := 1) (ci := 3) X in_X4 (show jCl[3]? = some (RX4, TX4, 9) from rfl) (by decide) q757 (fun _ h => h) dX4_init_2_6 (fun v6 h6 => ?_)
  refine J.pu (fun _ _ _ _ k => W.rload_n X.1.1 X.1.2.1 dX4_init_2_9 rfl (lv_at hl 1 rfl) k) ?_
  refine J.getI (k := 2) (ci := 3) X in_X4 (show jCl[3]? = some (RX4, TX4, 9) from rfl) (by decide) q760 (fun _ h => h) dX4_init_2_10 (fun v10 h10 => ?_)
  refine J.pu (fun _ _ _ _ k => W.rload_n X.1.1 X.1.2.1 dX4_init_2_13 rfl (lv_at hl 1 rfl) k) ?_
  refine J.getI (k := 5) (ci := 3) X in_X4 (show jCl[3]? = some (RX4, TX4, 9) from rfl) (by decide) q768 (fun _ h => h) dX4_init_2_14 (fun v14 h14 => ?_)
  refine J.pu (fun _ _ _ _ k => W.rload_n X.1.1 X.1.2.1 dX4_init_2_17 rfl (lv_at hl 1 rfl) k) ?_
  refine J.getI (k := 3) (ci := 3) X in_X4 (show jCl[3]? = some (RX4, TX4, 9) from rfl) (by decide) q762 (fun _ h => h) dX4_init_2_18 (fun v18 h18 => ?_)
  refine J.bd' (fun v21 S21 h21 => ?_)
  refine J.cI (a := this) (As := [.int v2, .int v6, .int v10, .int v14, .int v18]) (rest := []) (s2 := []) X ⟨rfl, rfl⟩ (ct_X4_init l G n σ this v2 v6 v10 v14 v18) h21 (fun _ _ => jcwI 5 X.1.2.2.2.2 q912 q731 q161 q732 rfl rfl rfl (by decide +kernel) ⟨(Nat.le_of_ble_eq_true rfl), (Nat.le_of_ble_eq_true rfl)⟩) rfl hl.1 rfl rfl (Nat.le_of_ble_eq_true rfl) dX4_init_2_21 ?_
  exact J.vret (vr := fun t : Unit × jH => jrV t.1) (fin := Prod.snd) (t := t) X hr (by rfl) (by rfl) dX4_init_2_24
noncomputable def X4_canTake (G : jG) (n : Nat) (σ : jH) (this : Nat) : Option (Int32) :=
  (gI σ (some this) 3 8).bind fun v1 => if v1 = 0 then (some 0) else ((gR σ (some this) 3 4).bind fun v8 => (rc σ v8 16).bind fun o11 => (lSize 1 σ o11).bind fun v11 => (gI σ (some this) 3 2).bind fun v17 => if v17 ≤ v11 then (some 0) else (some 1))
set_option maxHeartbeats 4000000 in
set_option maxRecDepth 100000 in
theorem ct_X4_canTake (l : Launch) (G : jG) (n : Nat) (σ : jH) (this : Nat) : jCt l G yX4_canTake (ws_ yX4_canTake cX4_canTake 1 (some .boolean)) 21 1220 jrI [.ref this] σ (jrd σ (X4_canTake G n σ this)) := by
  refine jCt.rd (lv := [(0, .ref this)]) (plainFor_of_name (by decide)) (Nat.le_of_ble_eq_true rfl) rfl ?_
  intro t p e s m args below meth c ls X hr hnm hl
  have X : jCx p c cX4_canTake 1 s m args RX4 G meth := X
  unfold X4_canTake
  refine J.pu (fun _ _ _ _ k => lv_aload_n X.1.1 X.1.2.1 dX4_canTake_0 rfl (lv_at hl 0 rfl) k) ?_
  refine J.getI (k := 8) (ci := 3) X in_X4 (show jCl[3]? = some (RX4, TX4, 9) from rfl) (by decide) q775 (fun _ h => h) dX4_canTake_1 (fun v1 h1 => ?_)
  refine J.br (fun _ _ _ _ ka kb => lv_if_eq (tgt := 27) X.1.1 X.1.2.1 dX4_canTake_4 (by decide) ka kb) (fun c4 => ?_) (fun c4 => ?_)
  · refine J.pu (fun _ _ _ _ k => lv_iconst (v := 0) X.1.1 X.1.2.1 dX4_canTake_27 (by decide) k) ?_
    exact J.zret (vr := jrI) (fin := fun _ : Int32 => σ) (t := t) X hr (by decide) (by rfl) (by rfl) dX4_canTake_28
  · refine J.pu (fun _ _ _ _ k => lv_aload_n X.1.1 X.1.2.1 dX4_canTake_7 rfl (lv_at hl 0 rfl) k) ?_
    refine J.getR (k := 4) (ci := 3) X in_X4 (show jCl[3]? = some (RX4, TX4, 9) from rfl) (by decide) q765 (fun _ h => h) dX4_canTake_8 (fun v8 h8 => ?_)
    refine J.bind (fun o11 g11 => ?_)
    refine J.bind (fun v11 h11 => ?_)
    refine J.cF (q := (RJ19, TJ19, 4)) (ci := 16) (As := []) (rest := []) (s2 := [.int v11]) X ⟨rfl, rfl⟩ (ct_J19_size l G σ o11) (jrd_of h11) (fun _ _ => va_cwF 0 X.1.2.2.2.2 (lw_F q2136 q837 q839 q163 q841) rfl rfl rfl (jfw3 X.2.1) (by decide +kernel) ⟨(Nat.le_of_ble_eq_true rfl), (Nat.le_of_ble_eq_true rfl)⟩) g11 rfl rfl hl.1 rfl rfl (Nat.le_of_ble_eq_true rfl) dX4_canTake_11 ?_
    refine J.pu (fun _ _ _ _ k => lv_aload_n X.1.1 X.1.2.1 dX4_canTake_16 rfl (lv_at hl 0 rfl) k) ?_
    refine J.getI (k := 2) (ci := 3) X in_X4 (show jCl[3]? = some (RX4, TX4, 9) from rfl) (by decide) q760 (fun _ h => h) dX4_canTake_17 (fun v17 h17 => ?_)
    refine J.br (fun _ _ _ _ ka kb => lv_icmp_ge (tgt := 27) X.1.1 X.1.2.1 dX4_canTake_20 (by decide) ka kb) (fun c20 => ?_) (fun c20 => ?_)
    · refine J.pu (fun _ _ _ _ k => lv_iconst (v := 0) X.1.1 X.1.2.1 dX4_canTake_27 (by decide) k) ?_
      exact J.zret (vr := jrI) (fin := fun _ : Int32 => σ) (t := t) X hr (by decide) (by rfl) (by rfl) dX4_canTake_28
    · refine J.pu (fun _ _ _ _ k => lv_iconst (v := 1) X.1.1 X.1.2.1 dX4_canTake_23 (by decide) k) ?_
      refine J.pu (fun _ _ _ _ k => lv_goto (tgt := 28) X.1.1 X.1.2.1 dX4_canTake_24 (by decide) k) ?_
      exact J.zret (vr := jrI) (fin := fun _ : Int32 => σ) (t := t) X hr (by decide) (by rfl) (by rfl) dX4_canTake_28
noncomputable def X4_number (G : jG) (n : Nat) (σ : jH) (this : Nat) : Option (Int32) :=
  (gI σ (some this) 3 0).bind fun v1 => some v1
set_option maxHeartbeats 4000000 in
set_option maxRecDepth 100000 in
theorem ct_X4_number (l : Launch) (G : jG) (n : Nat) (σ : jH) (this : Nat) : jCt l G yX4_number (ws_ yX4_number cX4_number 1 (some .int)) 0 0 jrI [.ref this] σ (jrd σ (X4_number G n σ this)) := by
  refine jCt.rd (lv := [(0, .ref this)]) (plainFor_of_name (by decide)) (Nat.le_of_ble_eq_true rfl) rfl ?_
  intro t p e s m args below meth c ls X hr hnm hl
  have X : jCx p c cX4_number 1 s m args RX4 G meth := X
  unfold X4_number
  refine J.pu (fun _ _ _ _ k => lv_aload_n X.1.1 X.1.2.1 dX4_number_0 rfl (lv_at hl 0 rfl) k) ?_
  refine J.getI (k := 0) (ci := 3) X in_X4 (show jCl[3]? = some (RX4, TX4, 9) from rfl) (by decide) q755 (fun _ h => h) dX4_number_1 (fun v1 h1 => ?_)
  exact J.iret (vr := jrI) (fin := fun _ : Int32 => σ) (t := t) X hr (by rfl) (by rfl) dX4_number_4
noncomputable def X4_right_j48 (G : jG) (n : Nat) (this : Nat) (rec12 : Int32 × jH → Option (Int32 × jH)) (x2_12 : Option Nat) (s0_48 : Int32) (s1_48 : Int32) (B48 : jH) : Option (Int32 × jH) :=
  (X1_bit G n B48 s1_48).bind fun v48 => rec12 ((s0_48 + v48), B48)
noncomputable def X4_right_h12 (G : jG) (n : Nat) (this : Nat) (x2_12 : Option Nat) (rec12 : Int32 × jH → Option (Int32 × jH)) (q12 : Int32 × jH) : Option (Int32 × jH) :=
  let x1_12 := q12.1; let B12 := q12.2; (rc B12 x2_12 19).bind fun o13 => (itHas B12 o13).bind fun v13 => if v13 = 0 then (some (x1_12, B12)) else ((rc B12 x2_12 19).bind fun o22 => bd (jck B12 (itNext G B12 o22)) fun v22 S22 => (jck' S22 v22 [4]).bind fun _ => (gI S22 v22 4 1).bind fun v33 => (gI S22 (some this) 3 0).bind fun v37 => if v33 = v37 then (X4_right_j48 G n this rec12 x2_12 x1_12 1 S22) else (X4_right_j48 G n this rec12 x2_12 x1_12 0 S22))
noncomputable def X4_right_b (G : jG) (n : Nat) (σ : jH) (this : Nat) : Option (Int32 × jH) :=
  (gR σ (some this) 3 4).bind fun v3 => (rc σ v3 16).bind fun o6 => bd (jck σ (llIter σ o6)) fun v6 S6 => jloop (X4_right_h12 G n this v6) n (0, S6)
noncomputable def X4_right (G : jG) (n : Nat) (σ : jH) (this : Nat) : Option (Int32 × jH) := jck σ (X4_right_b G n σ this)
set_option maxHeartbeats 4000000 in
set_option maxRecDepth 100000 in
theorem ct_X4_right (l : Launch) (G : jG) (n : Nat) (σ : jH) (this : Nat) : jCt l G yX4_right (ws_ yX4_right cX4_right 4 (some .int)) 21 1220 jrI [.ref this] σ (X4_right G n σ this) := by
  refine jCt.wr (lv := [(0, .ref this)]) (plainFor_of_name (by decide)) (Nat.le_of_ble_eq_true rfl) rfl ?_
  intro t p e s m args below meth c ls X hr hnm hl
  have X : jCx p c cX4_right 4 s m args RX4 G meth := X
  have L12 : ∀ (x2_12 : Option Nat) (n12 : Nat) (x1_12 : Int32) (B12 : jH) (ls : Array Slot), lv_has ls 4 [(0, .ref this), (2, va_rf x2_12), (1, .int x1_12)] → jGo l G 21 1220 σ (Prod.snd : Int32 × jH → jH) (fun t => jrI t.1) t p e s m args below meth c (jloop (X4_right_h12 G n this x2_12) n12 (x1_12, B12)) B12 (F0 m 12 ls []) := by
    intro x2_12
    intro n12
    induction n12 with
    | zero => intro x1_12 B12 ls hl; exact J.nil_
    | succ n12 ih12 =>
      have j48 : ∀ (s0_48 : Int32) (s1_48 : Int32) (B48 : jH) (ls : Array Slot), lv_has ls 4 [(0, .ref this), (2, va_rf x2_12)] → jGo l G 21 1220 σ (Prod.snd : Int32 × jH → jH) (fun t => jrI t.1) t p e s m args below meth c (X4_right_j48 G n this (jloop (X4_right_h12 G n this x2_12) n12) x2_12 s0_48 s1_48 B48) B48 (F0 m 48 ls [.int s1_48, .int s0_48]) := by
        intro s0_48 s1_48 B48 ls hl
        unfold X4_right_j48
        refine J.bind (fun v48 h48 => ?_)
        refine J.cSN (As := [.int s1_48]) (rest := [.int s0_48]) (s2 := [.int v48, .int s0_48]) X ⟨rfl, rfl⟩ (ct_X1_bit l G n B48 s1_48) (jrd_of h48) (fun _ _ => ⟨va_cnB 1 X.1.2.2.2.2 (lw_meth q1704) rfl rfl rfl (jnm4 X.2.1) (X.1.2.2.2.2 _ q138) (by decide +kernel) ⟨(Nat.le_of_ble_eq_true rfl), (Nat.le_of_ble_eq_true rfl)⟩, X.1.2.2.2.2 _ q1703, trivial⟩) rfl hl.1 rfl rfl (Nat.le_of_ble_eq_true rfl) dX4_right_48 ?_
        refine J.pu (fun _ _ _ _ k => lv_iadd X.1.1 X.1.2.1 dX4_right_51 k) ?_
        refine J.istore_n (i := 1) (lv' := [(1, .int (s0_48 + v48)), (0, .ref this), (2, va_rf x2_12)]) X.1.1 X.1.2.1 dX4_right_52 rfl hl (by decide) (by first | rfl | simp [va_rf_cat, jcI, jcA, jcJ, jcD, jcF]) (fun ls hl => ?_)
        refine J.pu (fun _ _ _ _ k => lv_goto (tgt := 12) X.1.1 X.1.2.1 dX4_right_53 (by decide) k) ?_
        exact ih12 (s0_48 + v48) B48 ls (lv_sub hl [1, 2, 0] rfl)
      intro x1_12 B12 ls hl
      refine J.eq (jloop_s _ _ _) ?_
      dsimp only [X4_right_h12]
      refine J.pu (fun _ _ _ _ k => W.rload_n X.1.1 X.1.2.1 dX4_right_12 rfl (lv_at hl 1 rfl) k) ?_
      refine J.bind (fun o13 g13 => ?_)
      refine J.bind (fun v13 h13 => ?_)
      refine J.cF (q := (RJ26, TJ26, 5)) (ci := 19) (As := []) (rest := []) (s2 := [.int v13]) X ⟨rfl, rfl⟩ (ct_J26_hasNext l G B12 o13) (jrd_of h13) (fun _ _ => va_cwF 0 X.1.2.2.2.2 (lw_F q2476 q1196 q1198 q172 q1200) rfl rfl rfl (jfw17 X.2.1) (by decide +kernel) ⟨(Nat.le_of_ble_eq_true rfl), (Nat.le_of_ble_eq_true rfl)⟩) g13 rfl rfl hl.1 rfl rfl (Nat.le_of_ble_eq_true rfl) dX4_right_13 ?_
      refine J.br (fun _ _ _ _ ka kb => lv_if_eq (tgt := 56) X.1.1 X.1.2.1 dX4_right_18 (by decide) ka kb) (fun c18 => ?_) (fun c18 => ?_)
      · refine J.pu (fun _ _ _ _ k => lv_iload_n X.1.1 X.1.2.1 dX4_right_56 rfl (lv_at hl 2 rfl) k) ?_
        exact J.iret (vr := fun t : Int32 × jH => jrI t.1) (fin := Prod.snd) (t := t) X hr (by rfl) (by rfl) dX4_right_57
      · refine J.pu (fun _ _ _ _ k => W.rload_n X.1.1 X.1.2.1 dX4_right_21 rfl (lv_at hl 1 rfl) k) ?_
        refine J.bind (fun o22 g22 => ?_)
        refine J.bd' (fun v22 S22 h22 => ?_)
        refine J.cF (q := (RJ26, TJ26, 5)) (ci := 19) (As := []) (rest := []) (s2 := [va_rf v22]) X ⟨rfl, rfl⟩ (ct_J26_next l G B12 o22) h22 (fun _ _ => va_cwF 0 X.1.2.2.2.2 (lw_F q2478 q1309 q1311 q172 q1313) rfl rfl rfl (jfw21 X.2.1) (by decide +kernel) ⟨(Nat.le_of_ble_eq_true rfl), (Nat.le_of_ble_eq_true rfl)⟩) g22 rfl rfl hl.1 rfl rfl (Nat.le_of_ble_eq_true rfl) dX4_right_22 ?_
        refine J.cast (nm := "SortingLoop$Parcel") X q2479 (List.forall_mem_cons.mpr ⟨⟨_, rfl, Or.inl rfl⟩, jnil_all⟩) dX4_right_27 ?_
        refine J.astore_n (r := v22) (i := 3) (lv' := [(3, va_rf v22), (0, .ref this), (2, va_rf x2_12), (1, .int x1_12)]) X.1.1 X.1.2.1 dX4_right_30 rfl hl (by decide) (by first | rfl | simp [va_rf_cat, jcI, jcA, jcJ, jcD, jcF]) (fun ls hl => ?_)
        refine J.pu (fun _ _ _ _ k => lv_iload_n X.1.1 X.1.2.1 dX4_right_31 rfl (lv_at hl 3 rfl) k) ?_
        refine J.pu (fun _ _ _ _ k => W.rload_n X.1.1 X.1.2.1 dX4_right_32 rfl (lv_at hl 0 rfl) k) ?_
        refine J.getIN (k := 1) (ci := 4) X in_X5 (show jCl[4]? = some (RX5, TX5, 10) from rfl) (by decide) jnf36 (fun _ h => h) dX4_right_33 (fun v33 h33 => ?_)
        refine J.pu (fun _ _ _ _ k => lv_aload_n X.1.1 X.1.2.1 dX4_right_36 rfl (lv_at hl 1 rfl) k) ?_
        refine J.getI (k := 0) (ci := 3) X in_X4 (show jCl[3]? = some (RX4, TX4, 9) from rfl) (by decide) q755 (fun _ h => h) dX4_right_37 (fun v37 h37 => ?_)
        refine J.br (fun _ _ _ _ ka kb => lv_icmp_ne (tgt := 47) X.1.1 X.1.2.1 dX4_right_40 (by decide) kb ka) (fun c40 => ?_) (fun c40 => ?_)
        · refine J.pu (fun _ _ _ _ k => lv_iconst (v := 1) X.1.1 X.1.2.1 dX4_right_43 (by decide) k) ?_
          refine J.pu (fun _ _ _ _ k => lv_goto (tgt := 48) X.1.1 X.1.2.1 dX4_right_44 (by decide) k) ?_
          exact j48 x1_12 1 S22 ls (lv_sub hl [1, 2] rfl)
        · refine J.pu (fun _ _ _ _ k => lv_iconst (v := 0) X.1.1 X.1.2.1 dX4_right_47 (by decide) k) ?_
          exact j48 x1_12 0 S22 ls (lv_sub hl [1, 2] rfl)
  unfold X4_right_b
  refine J.pu (fun _ _ _ _ k => lv_iconst (v := 0) X.1.1 X.1.2.1 dX4_right_0 (by decide) k) ?_
  refine J.istore_n (i := 1) (lv' := [(1, .int 0), (0, .ref this)]) X.1.1 X.1.2.1 dX4_right_1 rfl hl (by decide) (by first | rfl | simp [va_rf_cat, jcI, jcA, jcJ, jcD, jcF]) (fun ls hl => ?_)
  refine J.pu (fun _ _ _ _ k => lv_aload_n X.1.1 X.1.2.1 dX4_right_2 rfl (lv_at hl 1 rfl) k) ?_
  refine J.getR (k := 4) (ci := 3) X in_X4 (show jCl[3]? = some (RX4, TX4, 9) from rfl) (by decide) q765 (fun _ h => h) dX4_right_3 (fun v3 h3 => ?_)
  refine J.bind (fun o6 g6 => ?_)
  refine J.bd' (fun v6 S6 h6 => ?_)
  refine J.cF (q := (RJ19, TJ19, 4)) (ci := 16) (As := []) (rest := []) (s2 := [va_rf v6]) X ⟨rfl, rfl⟩ (ct_J18_iterator l G σ o6) h6 (fun _ _ => va_cwF 0 X.1.2.2.2.2 (lw_F q2474 q1093 q1095 q162 q1097) rfl rfl rfl (jfw13 X.2.1) (by decide +kernel) ⟨(Nat.le_of_ble_eq_true rfl), (Nat.le_of_ble_eq_true rfl)⟩) g6 rfl rfl hl.1 rfl rfl (Nat.le_of_ble_eq_true rfl) dX4_right_6 ?_
  refine J.astore_n (r := v6) (i := 2) (lv' := [(2, va_rf v6), (1, .int 0), (0, .ref this)]) X.1.1 X.1.2.1 dX4_right_11 rfl hl (by decide) (by first | rfl | simp [va_rf_cat, jcI, jcA, jcJ, jcD, jcF]) (fun ls hl => ?_)
  exact L12 v6 n 0 S6 ls (lv_sub hl [2, 0, 1] rfl)
noncomputable def X5_init_b (G : jG) (n : Nat) (σ : jH) (this : Nat) (a1 : Int32) (a2 : Int32) (a3 : Int32) (a4 : Int32) : Option (Unit × jH) :=
  (pI G σ (some this) 4 0 a1).bind fun S6 => (pI G S6 (some this) 4 1 a2).bind fun S11 => (pI G S11 (some this) 4 2 a3).bind fun S16 => (pI G S16 (some this) 4 5 a4).bind fun S22 => (pI G S22 (some this) 4 6 a4).bind fun S28 => (pI G S28 (some this) 4 7 (-1)).bind fun S33 => (pI G S33 (some this) 4 8 (-1)).bind fun S38 => some ((), S38)
noncomputable def X5_init (G : jG) (n : Nat) (σ : jH) (this : Nat) (a1 : Int32) (a2 : Int32) (a3 : Int32) (a4 : Int32) : Option (Unit × jH) := jck σ (X5_init_b G n σ this a1 a2 a3 a4)
set_option maxHeartbeats 4000000 in
set_option maxRecDepth 100000 in
theorem ct_X5_init (l : Launch) (G : jG) (n : Nat) (σ : jH) (this : Nat) (a1 : Int32) (a2 : Int32) (a3 : Int32) (a4 : Int32) : jCt l G yX5_init (ws_ yX5_init cX5_init 5 none) 1 30 jrV [.ref this, .int a1, .int a2, .int a3, .int a4] σ (X5_init G n σ this a1 a2 a3 a4) := by
  refine jCt.wr (lv := [(0, .ref this), (1, .int a1), (2, .int a2), (3, .int a3), (4, .int a4)]) (plainFor_of_name (by decide)) (Nat.le_of_ble_eq_true rfl) rfl ?_
  intro t p e s m args below meth c ls X hr hnm hl
  have X : jCx p c cX5_init 5 s m args RX5 G meth := X
  unfold X5_init_b
  refine J.pu (fun _ _ _ _ k => lv_aload_n X.1.1 X.1.2.1 dX5_init_0 rfl (lv_at hl 0 rfl) k) ?_
  refine J.objI (a := this) X q956 hl.1 dX5_init_1 (Nat.le_of_ble_eq_true rfl) (Nat.le_of_ble_eq_true rfl) ?_
  refine J.pu (fun _ _ _ _ k => lv_aload_n X.1.1 X.1.2.1 dX5_init_4 rfl (lv_at hl 0 rfl) k) ?_
  refine J.pu (fun _ _ _ _ k => lv_iload_n X.1.1 X.1.2.1 dX5_init_5 rfl (lv_at hl 1 rfl) k) ?_
  refine J.putIF (k := 0) (ci := 4) X hnm in_X5 (show jCl[4]? = some (RX5, TX5, 10) from rfl) tyX5_ok (fun a ha b hb h => Or.inl (nmX5 a ha b hb h)) (by decide) q957 (fun _ h => h) rfl rfl rfl dX5_init_6 (fun S6 h6 => ?_)
  refine J.pu (fun _ _ _ _ k => lv_aload_n X.1.1 X.1.2.1 dX5_init_9 rfl (lv_at hl 0 rfl) k) ?_
  refine J.pu (fun _ _ _ _ k => lv_iload_n X.1.1 X.1.2.1 dX5_init_10 rfl (lv_at hl 2 rfl) k) ?_
  refine J.putIF (k := 1) (ci := 4) X hnm in_X5 (show jCl[4]? = some (RX5, TX5, 10) from rfl) tyX5_ok (fun a ha b hb h => Or.inl (nmX5 a ha b hb h)) (by decide) q960 (fun _ h => h) rfl rfl rfl dX5_init_11 (fun S11 h11 => ?_)
  refine J.pu (fun _ _ _ _ k => lv_aload_n X.1.1 X.1.2.1 dX5_init_14 rfl (lv_at hl 0 rfl) k) ?_
  refine J.pu (fun _ _ _ _ k => lv_iload_n X.1.1 X.1.2.1 dX5_init_15 rfl (lv_at hl 3 rfl) k) ?_
  refine J.putI (k := 2) (ci := 4) X in_X5 (show jCl[4]? = some (RX5, TX5, 10) from rfl) tyX5_ok (fun a ha b hb h => Or.inl (nmX5 a ha b hb h)) (by decide) q964 (fun _ h => h) rfl rfl dX5_init_16 (fun S16 h16 => ?_)
  refine J.pu (fun _ _ _ _ k => lv_aload_n X.1.1 X.1.2.1 dX5_init_19 rfl (lv_at hl 0 rfl) k) ?_
  refine J.pu (fun _ _ _ _ k => lv_iload X.1.1 X.1.2.1 dX5_init_20 (lv_at hl 4 rfl) k) ?_
  refine J.putI (k := 5) (ci := 4) X in_X5 (show jCl[4]? = some (RX5, TX5, 10) from rfl) tyX5_ok (fun a ha b hb h => Or.inl (nmX5 a ha b hb h)) (by decide) q973 (fun _ h => h) rfl rfl dX5_init_22 (fun S22 h22 => ?_)
  refine J.pu (fun _ _ _ _ k => lv_aload_n X.1.1 X.1.2.1 dX5_init_25 rfl (lv_at hl 0 rfl) k) ?_
  refine J.pu (fun _ _ _ _ k => lv_iload X.1.1 X.1.2.1 dX5_init_26 (lv_at hl 4 rfl) k) ?_
  refine J.putI (k := 6) (ci := 4) X in_X5 (show jCl[4]? = some (RX5, TX5, 10) from rfl) tyX5_ok (fun a ha b hb h => Or.inl (nmX5 a ha b hb h)) (by decide) q976 (fun _ h => h) rfl rfl dX5_init_28 (fun S28 h28 => ?_)
  refine J.pu (fun _ _ _ _ k => lv_aload_n X.1.1 X.1.2.1 dX5_init_31 rfl (lv_at hl 0 rfl) k) ?_
  refine J.pu (fun _ _ _ _ k => lv_iconst (v := (-1)) X.1.1 X.1.2.1 dX5_init_32 (by decide) k) ?_
  refine J.putI (k := 7) (ci := 4) X in_X5 (show jCl[4]? = some (RX5, TX5, 10) from rfl) tyX5_ok (fun a ha b hb h => Or.inl (nmX5 a ha b hb h)) (by decide) q979 (fun _ h => h) rfl rfl dX5_init_33 (fun S33 h33 => ?_)
  refine J.pu (fun _ _ _ _ k => lv_aload_n X.1.1 X.1.2.1 dX5_init_36 rfl (lv_at hl 0 rfl) k) ?_
  refine J.pu (fun _ _ _ _ k => lv_iconst (v := (-1)) X.1.1 X.1.2.1 dX5_init_37 (by decide) k) ?_
  refine J.putI (k := 8) (ci := 4) X in_X5 (show jCl[4]? = some (RX5, TX5, 10) from rfl) tyX5_ok (fun a ha b hb h => Or.inl (nmX5 a ha b hb h)) (by decide) q982 (fun _ h => h) rfl rfl dX5_init_38 (fun S38 h38 => ?_)
  exact J.vret (vr := fun t : Unit × jH => jrV t.1) (fin := Prod.snd) (t := t) X hr (by rfl) (by rfl) dX5_init_41
noncomputable def X5_takes_b (G : jG) (n : Nat) (σ : jH) (this : Nat) (a1 : Option Nat) : Option ((Option Nat) × jH) :=
  (gI σ a1 4 2).bind fun v2 => (pI G σ (some this) 4 2 v2).bind fun S5 => (gI S5 a1 4 3).bind fun v10 => (pI G S5 (some this) 4 3 v10).bind fun S13 => (gI S13 a1 4 4).bind fun v18 => (pI G S13 (some this) 4 4 v18).bind fun S21 => (gI S21 a1 4 5).bind fun v26 => (pI G S21 (some this) 4 5 v26).bind fun S29 => (gI S29 a1 4 6).bind fun v34 => (pI G S29 (some this) 4 6 v34).bind fun S37 => (gI S37 a1 4 7).bind fun v42 => (pI G S37 (some this) 4 7 v42).bind fun S45 => (gI S45 a1 4 8).bind fun v50 => (pI G S45 (some this) 4 8 v50).bind fun S53 => (gI S53 a1 4 9).bind fun v58 => (pB G S53 (some this) 4 9 v58).bind fun S61 => some ((some this), S61)
noncomputable def X5_takes (G : jG) (n : Nat) (σ : jH) (this : Nat) (a1 : Option Nat) : Option ((Option Nat) × jH) := jck σ (X5_takes_b G n σ this a1)
set_option maxHeartbeats 4000000 in
set_option maxRecDepth 100000 in
theorem ct_X5_takes (l : Launch) (G : jG) (n : Nat) (σ : jH) (this : Nat) (a1 : Option Nat) : jCt l G yX5_takes (ws_ yX5_takes cX5_takes 2 (some (.object "SortingLoop$Parcel"))) 0 0 jrR [.ref this, va_rf a1] σ (X5_takes G n σ this a1) := by
  refine jCt.wr (lv := [(0, .ref this), (1, va_rf a1)]) (plainFor_of_name (by decide)) (by simp [lg_sl, va_rf_cat, jcI, jcA, jcJ, jcD, jcF]) (by simp [lv_args, va_rf_cat, jcI, jcA, jcJ, jcD, jcF]) ?_
  intro t p e s m args below meth c ls X hr hnm hl
  have X : jCx p c cX5_takes 2 s m args RX5 G meth := X
  unfold X5_takes_b
  refine J.pu (fun _ _ _ _ k => lv_aload_n X.1.1 X.1.2.1 dX5_takes_0 rfl (lv_at hl 0 rfl) k) ?_
  refine J.pu (fun _ _ _ _ k => W.rload_n X.1.1 X.1.2.1 dX5_takes_1 rfl (lv_at hl 1 rfl) k) ?_
  refine J.getI (k := 2) (ci := 4) X in_X5 (show jCl[4]? = some (RX5, TX5, 10) from rfl) (by decide) q964 (fun _ h => h) dX5_takes_2 (fun v2 h2 => ?_)
  refine J.putI (k := 2) (ci := 4) X in_X5 (show jCl[4]? = some (RX5, TX5, 10) from rfl) tyX5_ok (fun a ha b hb h => Or.inl (nmX5 a ha b hb h)) (by decide) q964 (fun _ h => h) rfl rfl dX5_takes_5 (fun S5 h5 => ?_)
  refine J.pu (fun _ _ _ _ k => lv_aload_n X.1.1 X.1.2.1 dX5_takes_8 rfl (lv_at hl 0 rfl) k) ?_
  refine J.pu (fun _ _ _ _ k => W.rload_n X.1.1 X.1.2.1 dX5_takes_9 rfl (lv_at hl 1 rfl) k) ?_
  refine J.getI (k := 3) (ci := 4) X in_X5 (show jCl[4]? = some (RX5, TX5, 10) from rfl) (by decide) q967 (fun _ h => h) dX5_takes_10 (fun v10 h10 => ?_)
  refine J.putI (k := 3) (ci := 4) X in_X5 (show jCl[4]? = some (RX5, TX5, 10) from rfl) tyX5_ok (fun a ha b hb h => Or.inl (nmX5 a ha b hb h)) (by decide) q967 (fun _ h => h) rfl rfl dX5_takes_13 (fun S13 h13 => ?_)
  refine J.pu (fun _ _ _ _ k => lv_aload_n X.1.1 X.1.2.1 dX5_takes_16 rfl (lv_at hl 0 rfl) k) ?_
  refine J.pu (fun _ _ _ _ k => W.rload_n X.1.1 X.1.2.1 dX5_takes_17 rfl (lv_at hl 1 rfl) k) ?_
  refine J.getI (k := 4) (ci := 4) X in_X5 (show jCl[4]? = some (RX5, TX5, 10) from rfl) (by decide) q970 (fun _ h => h) dX5_takes_18 (fun v18 h18 => ?_)
  refine J.putI (k := 4) (ci := 4) X in_X5 (show jCl[4]? = some (RX5, TX5, 10) from rfl) tyX5_ok (fun a ha b hb h => Or.inl (nmX5 a ha b hb h)) (by decide) q970 (fun _ h => h) rfl rfl dX5_takes_21 (fun S21 h21 => ?_)
  refine J.pu (fun _ _ _ _ k => lv_aload_n X.1.1 X.1.2.1 dX5_takes_24 rfl (lv_at hl 0 rfl) k) ?_
  refine J.pu (fun _ _ _ _ k => W.rload_n X.1.1 X.1.2.1 dX5_takes_25 rfl (lv_at hl 1 rfl) k) ?_
  refine J.getI (k := 5) (ci := 4) X in_X5 (show jCl[4]? = some (RX5, TX5, 10) from rfl) (by decide) q973 (fun _ h => h) dX5_takes_26 (fun v26 h26 => ?_)
  refine J.putI (k := 5) (ci := 4) X in_X5 (show jCl[4]? = some (RX5, TX5, 10) from rfl) tyX5_ok (fun a ha b hb h => Or.inl (nmX5 a ha b hb h)) (by decide) q973 (fun _ h => h) rfl rfl dX5_takes_29 (fun S29 h29 => ?_)
  refine J.pu (fun _ _ _ _ k => lv_aload_n X.1.1 X.1.2.1 dX5_takes_32 rfl (lv_at hl 0 rfl) k) ?_
  refine J.pu (fun _ _ _ _ k => W.rload_n X.1.1 X.1.2.1 dX5_takes_33 rfl (lv_at hl 1 rfl) k) ?_
  refine J.getI (k := 6) (ci := 4) X in_X5 (show jCl[4]? = some (RX5, TX5, 10) from rfl) (by decide) q976 (fun _ h => h) dX5_takes_34 (fun v34 h34 => ?_)
  refine J.putI (k := 6) (ci := 4) X in_X5 (show jCl[4]? = some (RX5, TX5, 10) from rfl) tyX5_ok (fun a ha b hb h => Or.inl (nmX5 a ha b hb h)) (by decide) q976 (fun _ h => h) rfl rfl dX5_takes_37 (fun S37 h37 => ?_)
  refine J.pu (fun _ _ _ _ k => lv_aload_n X.1.1 X.1.2.1 dX5_takes_40 rfl (lv_at hl 0 rfl) k) ?_
  refine J.pu (fun _ _ _ _ k => W.rload_n X.1.1 X.1.2.1 dX5_takes_41 rfl (lv_at hl 1 rfl) k) ?_
  refine J.getI (k := 7) (ci := 4) X in_X5 (show jCl[4]? = some (RX5, TX5, 10) from rfl) (by decide) q979 (fun _ h => h) dX5_takes_42 (fun v42 h42 => ?_)
  refine J.putI (k := 7) (ci := 4) X in_X5 (show jCl[4]? = some (RX5, TX5, 10) from rfl) tyX5_ok (fun a ha b hb h => Or.inl (nmX5 a ha b hb h)) (by decide) q979 (fun _ h => h) rfl rfl dX5_takes_45 (fun S45 h45 => ?_)
  refine J.pu (fun _ _ _ _ k => lv_aload_n X.1.1 X.1.2.1 dX5_takes_48 rfl (lv_at hl 0 rfl) k) ?_
  refine J.pu (fun _ _ _ _ k => W.rload_n X.1.1 X.1.2.1 dX5_takes_49 rfl (lv_at hl 1 rfl) k) ?_
  refine J.getI (k := 8) (ci := 4) X in_X5 (show jCl[4]? = some (RX5, TX5, 10) from rfl) (by decide) q982 (fun _ h => h) dX5_takes_50 (fun v50 h50 => ?_)
  refine J.putI (k := 8) (ci := 4) X in_X5 (show jCl[4]? = some (RX5, TX5, 10) from rfl) tyX5_ok (fun a ha b hb h => Or.inl (nmX5 a ha b hb h)) (by decide) q982 (fun _ h => h) rfl rfl dX5_takes_53 (fun S53 h53 => ?_)
  refine J.pu (fun _ _ _ _ k => lv_aload_n X.1.1 X.1.2.1 dX5_takes_56 rfl (lv_at hl 0 rfl) k) ?_
  refine J.pu (fun _ _ _ _ k => W.rload_n X.1.1 X.1.2.1 dX5_takes_57 rfl (lv_at hl 1 rfl) k) ?_
  refine J.getI (k := 9) (ci := 4) X in_X5 (show jCl[4]? = some (RX5, TX5, 10) from rfl) (by decide) q984 (fun _ h => h) dX5_takes_58 (fun v58 h58 => ?_)
  refine J.putB (k := 9) (ci := 4) X in_X5 (show jCl[4]? = some (RX5, TX5, 10) from rfl) tyX5_ok (fun a ha b hb h => Or.inl (nmX5 a ha b hb h)) (by decide) q984 (fun _ h => h) rfl (Or.inl rfl) dX5_takes_61 (fun S61 h61 => ?_)
  refine J.pu (fun _ _ _ _ k => lv_aload_n X.1.1 X.1.2.1 dX5_takes_64 rfl (lv_at hl 0 rfl) k) ?_
  exact J.aret (vr := fun t : (Option Nat) × jH => jrR t.1) (fin := Prod.snd) (t := t) X hr (Or.inl ⟨_, rfl⟩) (by rfl) (by rfl) dX5_takes_65
noncomputable def X5_isOn (G : jG) (n : Nat) (σ : jH) (this : Nat) : Option (Int32) :=
  (gI σ (some this) 4 4).bind fun v1 => if v1 = 0 then (some 1) else (some 0)
set_option maxHeartbeats 4000000 in
set_option maxRecDepth 100000 in
theorem ct_X5_isOn (l : Launch) (G : jG) (n : Nat) (σ : jH) (this : Nat) : jCt l G yX5_isOn (ws_ yX5_isOn cX5_isOn 1 (some .boolean)) 0 0 jrI [.ref this] σ (jrd σ (X5_isOn G n σ this)) := by
  refine jCt.rd (lv := [(0, .ref this)]) (plainFor_of_name (by decide)) (Nat.le_of_ble_eq_true rfl) rfl ?_
  intro t p e s m args below meth c ls X hr hnm hl
  have X : jCx p c cX5_isOn 1 s m args RX5 G meth := X
  unfold X5_isOn
  refine J.pu (fun _ _ _ _ k => lv_aload_n X.1.1 X.1.2.1 dX5_isOn_0 rfl (lv_at hl 0 rfl) k) ?_
  refine J.getI (k := 4) (ci := 4) X in_X5 (show jCl[4]? = some (RX5, TX5, 10) from rfl) (by decide) q970 (fun _ h => h) dX5_isOn_1 (fun v1 h1 => ?_)
  refine J.br (fun _ _ _ _ ka kb => lv_if_ne (tgt := 11) X.1.1 X.1.2.1 dX5_isOn_4 (by decide) kb ka) (fun c4 => ?_) (fun c4 => ?_)
  · refine J.pu (fun _ _ _ _ k => lv_iconst (v := 1) X.1.1 X.1.2.1 dX5_isOn_7 (by decide) k) ?_
    refine J.pu (fun _ _ _ _ k => lv_goto (tgt := 12) X.1.1 X.1.2.1 dX5_isOn_8 (by decide) k) ?_
    exact J.zret (vr := jrI) (fin := fun _ : Int32 => σ) (t := t) X hr (by decide) (by rfl) (by rfl) dX5_isOn_12
  · refine J.pu (fun _ _ _ _ k => lv_iconst (v := 0) X.1.1 X.1.2.1 dX5_isOn_11 (by decide) k) ?_
    exact J.zret (vr := jrI) (fin := fun _ : Int32 => σ) (t := t) X hr (by decide) (by rfl) (by rfl) dX5_isOn_12
noncomputable def X5_isTracked (G : jG) (n : Nat) (σ : jH) (this : Nat) : Option (Int32) :=
  (gI σ (some this) 4 4).bind fun v1 => if v1 = 0 then ((gI σ (some this) 4 6).bind fun v8 => if v8 = (-1) then (some 0) else (some 1)) else (some 0)
set_option maxHeartbeats 4000000 in
set_option maxRecDepth 100000 in
theorem ct_X5_isTracked (l : Launch) (G : jG) (n : Nat) (σ : jH) (this : Nat) : jCt l G yX5_isTracked (ws_ yX5_isTracked cX5_isTracked 1 (some .boolean)) 0 0 jrI [.ref this] σ (jrd σ (X5_isTracked G n σ this)) := by
  refine jCt.rd (lv := [(0, .ref this)]) (plainFor_of_name (by decide)) (Nat.le_of_ble_eq_true rfl) rfl ?_
  intro t p e s m args below meth c ls X hr hnm hl
  have X : jCx p c cX5_isTracked 1 s m args RX5 G meth := X
  unfold X5_isTracked
  refine J.pu (fun _ _ _ _ k => lv_aload_n X.1.1 X.1.2.1 dX5_isTracked_0 rfl (lv_at hl 0 rfl) k) ?_
  refine J.getI (k := 4) (ci := 4) X in_X5 (show jCl[4]? = some (RX5, TX5, 10) from rfl) (by decide) q970 (fun _ h => h) dX5_isTracked_1 (fun v1 h1 => ?_)
  refine J.br (fun _ _ _ _ ka kb => lv_if_ne (tgt := 19) X.1.1 X.1.2.1 dX5_isTracked_4 (by decide) kb ka) (fun c4 => ?_) (fun c4 => ?_)
  · refine J.pu (fun _ _ _ _ k => lv_aload_n X.1.1 X.1.2.1 dX5_isTracked_7 rfl (lv_at hl 0 rfl) k) ?_
    refine J.getI (k := 6) (ci := 4) X in_X5 (show jCl[4]? = some (RX5, TX5, 10) from rfl) (by decide) q976 (fun _ h => h) dX5_isTracked_8 (fun v8 h8 => ?_)
    refine J.pu (fun _ _ _ _ k => lv_iconst (v := (-1)) X.1.1 X.1.2.1 dX5_isTracked_11 (by decide) k) ?_
    refine J.br (fun _ _ _ _ ka kb => lv_icmp_eq (tgt := 19) X.1.1 X.1.2.1 dX5_isTracked_12 (by decide) ka kb) (fun c12 => ?_) (fun c12 => ?_)
    · refine J.pu (fun _ _ _ _ k => lv_iconst (v := 0) X.1.1 X.1.2.1 dX5_isTracked_19 (by decide) k) ?_
      exact J.zret (vr := jrI) (fin := fun _ : Int32 => σ) (t := t) X hr (by decide) (by rfl) (by rfl) dX5_isTracked_20
    · refine J.pu (fun _ _ _ _ k => lv_iconst (v := 1) X.1.1 X.1.2.1 dX5_isTracked_15 (by decide) k) ?_
      refine J.pu (fun _ _ _ _ k => lv_goto (tgt := 20) X.1.1 X.1.2.1 dX5_isTracked_16 (by decide) k) ?_
      exact J.zret (vr := jrI) (fin := fun _ : Int32 => σ) (t := t) X hr (by decide) (by rfl) (by rfl) dX5_isTracked_20
  · refine J.pu (fun _ _ _ _ k => lv_iconst (v := 0) X.1.1 X.1.2.1 dX5_isTracked_19 (by decide) k) ?_
    exact J.zret (vr := jrI) (fin := fun _ : Int32 => σ) (t := t) X hr (by decide) (by rfl) (by rfl) dX5_isTracked_20
noncomputable def X5_leaves_b (G : jG) (n : Nat) (σ : jH) (this : Nat) (a1 : Int32) (a2 : Int32) : Option (Unit × jH) :=
  (pI G σ (some this) 4 4 a1).bind fun S2 => (pI G S2 (some this) 4 5 (-1)).bind fun S7 => (pI G S7 (some this) 4 6 (-1)).bind fun S12 => (pI G S12 (some this) 4 8 a2).bind fun S17 => some ((), S17)
noncomputable def X5_leaves (G : jG) (n : Nat) (σ : jH) (this : Nat) (a1 : Int32) (a2 : Int32) : Option (Unit × jH) := jck σ (X5_leaves_b G n σ this a1 a2)
set_option maxHeartbeats 4000000 in
set_option maxRecDepth 100000 in
theorem ct_X5_leaves (l : Launch) (G : jG) (n : Nat) (σ : jH) (this : Nat) (a1 : Int32) (a2 : Int32) : jCt l G yX5_leaves (ws_ yX5_leaves cX5_leaves 3 none) 0 0 jrV [.ref this, .int a1, .int a2] σ (X5_leaves G n σ this a1 a2) := by
  refine jCt.wr (lv := [(0, .ref this), (1, .int a1), (2, .int a2)]) (plainFor_of_name (by decide)) (Nat.le_of_ble_eq_true rfl) rfl ?_
  intro t p e s m args below meth c ls X hr hnm hl
  have X : jCx p c cX5_leaves 3 s m args RX5 G meth := X
  unfold X5_leaves_b
  refine J.pu (fun _ _ _ _ k => lv_aload_n X.1.1 X.1.2.1 dX5_leaves_0 rfl (lv_at hl 0 rfl) k) ?_
  refine J.pu (fun _ _ _ _ k => lv_iload_n X.1.1 X.1.2.1 dX5_leaves_1 rfl (lv_at hl 1 rfl) k) ?_
  refine J.putI (k := 4) (ci := 4) X in_X5 (show jCl[4]? = some (RX5, TX5, 10) from rfl) tyX5_ok (fun a ha b hb h => Or.inl (nmX5 a ha b hb h)) (by decide) q970 (fun _ h => h) rfl rfl dX5_leaves_2 (fun S2 h2 => ?_)
  refine J.pu (fun _ _ _ _ k => lv_aload_n X.1.1 X.1.2.1 dX5_leaves_5 rfl (lv_at hl 0 rfl) k) ?_
  refine J.pu (fun _ _ _ _ k => lv_iconst (v := (-1)) X.1.1 X.1.2.1 dX5_leaves_6 (by decide) k) ?_
  refine J.putI (k := 5) (ci := 4) X in_X5 (show jCl[4]? = some (RX5, TX5, 10) from rfl) tyX5_ok (fun a ha b hb h => Or.inl (nmX5 a ha b hb h)) (by decide) q973 (fun _ h => h) rfl rfl dX5_leaves_7 (fun S7 h7 => ?_)
  refine J.pu (fun _ _ _ _ k => lv_aload_n X.1.1 X.1.2.1 dX5_leaves_10 rfl (lv_at hl 0 rfl) k) ?_
  refine J.pu (fun _ _ _ _ k => lv_iconst (v := (-1)) X.1.1 X.1.2.1 dX5_leaves_11 (by decide) k) ?_
  refine J.putI (k := 6) (ci := 4) X in_X5 (show jCl[4]? = some (RX5, TX5, 10) from rfl) tyX5_ok (fun a ha b hb h => Or.inl (nmX5 a ha b hb h)) (by decide) q976 (fun _ h => h) rfl rfl dX5_leaves_12 (fun S12 h12 => ?_)
  refine J.pu (fun _ _ _ _ k => lv_aload_n X.1.1 X.1.2.1 dX5_leaves_15 rfl (lv_at hl 0 rfl) k) ?_
  refine J.pu (fun _ _ _ _ k => lv_iload_n X.1.1 X.1.2.1 dX5_leaves_16 rfl (lv_at hl 2 rfl) k) ?_
  refine J.putI (k := 8) (ci := 4) X in_X5 (show jCl[4]? = some (RX5, TX5, 10) from rfl) tyX5_ok (fun a ha b hb h => Or.inl (nmX5 a ha b hb h)) (by decide) q982 (fun _ h => h) rfl rfl dX5_leaves_17 (fun S17 h17 => ?_)
  exact J.vret (vr := fun t : Unit × jH => jrV t.1) (fin := Prod.snd) (t := t) X hr (by rfl) (by rfl) dX5_leaves_20
noncomputable def X5_number (G : jG) (n : Nat) (σ : jH) (this : Nat) : Option (Int32) :=
  (gI σ (some this) 4 0).bind fun v1 => some v1
set_option maxHeartbeats 4000000 in
set_option maxRecDepth 100000 in
theorem ct_X5_number (l : Launch) (G : jG) (n : Nat) (σ : jH) (this : Nat) : jCt l G yX5_number (ws_ yX5_number cX5_number 1 (some .int)) 0 0 jrI [.ref this] σ (jrd σ (X5_number G n σ this)) := by
  refine jCt.rd (lv := [(0, .ref this)]) (plainFor_of_name (by decide)) (Nat.le_of_ble_eq_true rfl) rfl ?_
  intro t p e s m args below meth c ls X hr hnm hl
  have X : jCx p c cX5_number 1 s m args RX5 G meth := X
  unfold X5_number
  refine J.pu (fun _ _ _ _ k => lv_aload_n X.1.1 X.1.2.1 dX5_number_0 rfl (lv_at hl 0 rfl) k) ?_
  refine J.getI (k := 0) (ci := 4) X in_X5 (show jCl[4]? = some (RX5, TX5, 10) from rfl) (by decide) q957 (fun _ h => h) dX5_number_1 (fun v1 h1 => ?_)
  exact J.iret (vr := jrI) (fin := fun _ : Int32 => σ) (t := t) X hr (by rfl) (by rfl) dX5_number_4
noncomputable def X5_isSorted_j16 (G : jG) (n : Nat) (σ : jH) (this : Nat) : Option (Int32) :=
  (gI σ (some this) 4 7).bind fun v17 => (gI σ (some this) 4 1).bind fun v21 => if v17 = v21 then (some 1) else (some 0)
noncomputable def X5_isSorted (G : jG) (n : Nat) (σ : jH) (this : Nat) : Option (Int32) :=
  (gI σ (some this) 4 4).bind fun v1 => if v1 = 1 then (X5_isSorted_j16 G n σ this) else ((gI σ (some this) 4 4).bind fun v9 => if v9 = 2 then (X5_isSorted_j16 G n σ this) else (some 0))
set_option maxHeartbeats 4000000 in
set_option maxRecDepth 100000 in
theorem ct_X5_isSorted (l : Launch) (G : jG) (n : Nat) (σ : jH) (this : Nat) : jCt l G yX5_isSorted (ws_ yX5_isSorted cX5_isSorted 1 (some .boolean)) 0 0 jrI [.ref this] σ (jrd σ (X5_isSorted G n σ this)) := by
  refine jCt.rd (lv := [(0, .ref this)]) (plainFor_of_name (by decide)) (Nat.le_of_ble_eq_true rfl) rfl ?_
  intro t p e s m args below meth c ls X hr hnm hl
  have X : jCx p c cX5_isSorted 1 s m args RX5 G meth := X
  have j16 : ∀ (ls : Array Slot), lv_has ls 1 [(0, .ref this)] → jGo l G 0 0 σ (fun _ : Int32 => σ) jrI t p e s m args below meth c (X5_isSorted_j16 G n σ this) σ (F0 m 16 ls []) := by
    intro ls hl
    unfold X5_isSorted_j16
    refine J.pu (fun _ _ _ _ k => lv_aload_n X.1.1 X.1.2.1 dX5_isSorted_16 rfl (lv_at hl 0 rfl) k) ?_
    refine J.getI (k := 7) (ci := 4) X in_X5 (show jCl[4]? = some (RX5, TX5, 10) from rfl) (by decide) q979 (fun _ h => h) dX5_isSorted_17 (fun v17 h17 => ?_)
    refine J.pu (fun _ _ _ _ k => lv_aload_n X.1.1 X.1.2.1 dX5_isSorted_20 rfl (lv_at hl 0 rfl) k) ?_
    refine J.getI (k := 1) (ci := 4) X in_X5 (show jCl[4]? = some (RX5, TX5, 10) from rfl) (by decide) q960 (fun _ h => h) dX5_isSorted_21 (fun v21 h21 => ?_)
    refine J.br (fun _ _ _ _ ka kb => lv_icmp_ne (tgt := 31) X.1.1 X.1.2.1 dX5_isSorted_24 (by decide) kb ka) (fun c24 => ?_) (fun c24 => ?_)
    · refine J.pu (fun _ _ _ _ k => lv_iconst (v := 1) X.1.1 X.1.2.1 dX5_isSorted_27 (by decide) k) ?_
      refine J.pu (fun _ _ _ _ k => lv_goto (tgt := 32) X.1.1 X.1.2.1 dX5_isSorted_28 (by decide) k) ?_
      exact J.zret (vr := jrI) (fin := fun _ : Int32 => σ) (t := t) X hr (by decide) (by rfl) (by rfl) dX5_isSorted_32
    · refine J.pu (fun _ _ _ _ k => lv_iconst (v := 0) X.1.1 X.1.2.1 dX5_isSorted_31 (by decide) k) ?_
      exact J.zret (vr := jrI) (fin := fun _ : Int32 => σ) (t := t) X hr (by decide) (by rfl) (by rfl) dX5_isSorted_32
  unfold X5_isSorted
  refine J.pu (fun _ _ _ _ k => lv_aload_n X.1.1 X.1.2.1 dX5_isSorted_0 rfl (lv_at hl 0 rfl) k) ?_
  refine J.getI (k := 4) (ci := 4) X in_X5 (show jCl[4]? = some (RX5, TX5, 10) from rfl) (by decide) q970 (fun _ h => h) dX5_isSorted_1 (fun v1 h1 => ?_)
  refine J.pu (fun _ _ _ _ k => lv_iconst (v := 1) X.1.1 X.1.2.1 dX5_isSorted_4 (by decide) k) ?_
  refine J.br (fun _ _ _ _ ka kb => lv_icmp_eq (tgt := 16) X.1.1 X.1.2.1 dX5_isSorted_5 (by decide) ka kb) (fun c5 => ?_) (fun c5 => ?_)
  · exact j16  ls (lv_sub hl [0] rfl)
  · refine J.pu (fun _ _ _ _ k => lv_aload_n X.1.1 X.1.2.1 dX5_isSorted_8 rfl (lv_at hl 0 rfl) k) ?_
    refine J.getI (k := 4) (ci := 4) X in_X5 (show jCl[4]? = some (RX5, TX5, 10) from rfl) (by decide) q970 (fun _ h => h) dX5_isSorted_9 (fun v9 h9 => ?_)
    refine J.pu (fun _ _ _ _ k => lv_iconst (v := 2) X.1.1 X.1.2.1 dX5_isSorted_12 (by decide) k) ?_
    refine J.br (fun _ _ _ _ ka kb => lv_icmp_ne (tgt := 31) X.1.1 X.1.2.1 dX5_isSorted_13 (by decide) kb ka) (fun c13 => ?_) (fun c13 => ?_)
    · exact j16  ls (lv_sub hl [0] rfl)
    · refine J.pu (fun _ _ _ _ k => lv_iconst (v := 0) X.1.1 X.1.2.1 dX5_isSorted_31 (by decide) k) ?_
      exact J.zret (vr := jrI) (fin := fun _ : Int32 => σ) (t := t) X hr (by decide) (by rfl) (by rfl) dX5_isSorted_32
noncomputable def X7_at_X8 (G : jG) (n : Nat) (σ : jH) (this : Nat) (a1 : Int32) : Option (Int32) :=
  (gR σ (some this) 6 5).bind fun v2 => (gI σ v2 0 1).bind fun v5 => if v5 ≤ a1 then (some (-1)) else ((gR σ (some this) 6 5).bind fun v12 => (gR σ v12 0 0).bind fun v15 => (aI σ v15 1 a1).bind fun v19 => some (v19 &&& 255))
set_option maxHeartbeats 4000000 in
set_option maxRecDepth 100000 in
theorem ct_X7_at_X8 (l : Launch) (G : jG) (n : Nat) (σ : jH) (this : Nat) (a1 : Int32) : jCt l G yX7_at (ws_ yX7_at cX7_at 2 (some .int)) 0 0 jrI [.ref this, .int a1] σ (jrd σ (X7_at_X8 G n σ this a1)) := by
  refine jCt.rd (lv := [(0, .ref this), (1, .int a1)]) (plainFor_of_name (by decide)) (Nat.le_of_ble_eq_true rfl) rfl ?_
  intro t p e s m args below meth c ls X hr hnm hl
  have X : jCx p c cX7_at 2 s m args RX7 G meth := X
  unfold X7_at_X8
  refine J.pu (fun _ _ _ _ k => lv_iload_n X.1.1 X.1.2.1 dX7_at_0 rfl (lv_at hl 1 rfl) k) ?_
  refine J.pu (fun _ _ _ _ k => lv_aload_n X.1.1 X.1.2.1 dX7_at_1 rfl (lv_at hl 0 rfl) k) ?_
  refine J.getR (k := 5) (ci := 6) X in_X8 (show jCl[6]? = some (RX8, TX8, 8) from rfl) (by decide) q1524 (fun _ h => h) dX7_at_2 (fun v2 h2 => ?_)
  refine J.getIN (k := 1) (ci := 0) X in_X1 (show jCl[0]? = some (RX1, TX1, 9) from rfl) (by decide) jnf54 (fun _ h => h) dX7_at_5 (fun v5 h5 => ?_)
  refine J.br (fun _ _ _ _ ka kb => lv_icmp_ge (tgt := 27) X.1.1 X.1.2.1 dX7_at_8 (by decide) ka kb) (fun c8 => ?_) (fun c8 => ?_)
  · refine J.pu (fun _ _ _ _ k => lv_iconst (v := (-1)) X.1.1 X.1.2.1 dX7_at_27 (by decide) k) ?_
    exact J.iret (vr := jrI) (fin := fun _ : Int32 => σ) (t := t) X hr (by rfl) (by rfl) dX7_at_28
  · refine J.pu (fun _ _ _ _ k => lv_aload_n X.1.1 X.1.2.1 dX7_at_11 rfl (lv_at hl 0 rfl) k) ?_
    refine J.getR (k := 5) (ci := 6) X in_X8 (show jCl[6]? = some (RX8, TX8, 8) from rfl) (by decide) q1524 (fun _ h => h) dX7_at_12 (fun v12 h12 => ?_)
    refine J.getRN (k := 0) (ci := 0) X in_X1 (show jCl[0]? = some (RX1, TX1, 9) from rfl) (by decide) jnf53 (fun _ h => h) dX7_at_15 (fun v15 h15 => ?_)
    refine J.pu (fun _ _ _ _ k => lv_iload_n X.1.1 X.1.2.1 dX7_at_18 rfl (lv_at hl 1 rfl) k) ?_
    refine J.aI1 X dX7_at_19 (fun v19 h19 => ?_)
    refine J.pu (fun _ _ _ _ k => lv_sipush (v := 255) X.1.1 X.1.2.1 dX7_at_20 (by decide) k) ?_
    refine J.pu (fun _ _ _ _ k => lv_iand X.1.1 X.1.2.1 dX7_at_23 k) ?_
    refine J.pu (fun _ _ _ _ k => lv_goto (tgt := 28) X.1.1 X.1.2.1 dX7_at_24 (by decide) k) ?_
    exact J.iret (vr := jrI) (fin := fun _ : Int32 => σ) (t := t) X hr (by rfl) (by rfl) dX7_at_28
noncomputable def X7_at_X10 (G : jG) (n : Nat) (σ : jH) (this : Nat) (a1 : Int32) : Option (Int32) :=
  (gR σ (some this) 7 5).bind fun v2 => (gI σ v2 0 1).bind fun v5 => if v5 ≤ a1 then (some (-1)) else ((gR σ (some this) 7 5).bind fun v12 => (gR σ v12 0 0).bind fun v15 => (aI σ v15 1 a1).bind fun v19 => some (v19 &&& 255))
set_option maxHeartbeats 4000000 in
set_option maxRecDepth 100000 in
theorem ct_X7_at_X10 (l : Launch) (G : jG) (n : Nat) (σ : jH) (this : Nat) (a1 : Int32) : jCt l G yX7_at (ws_ yX7_at cX7_at 2 (some .int)) 0 0 jrI [.ref this, .int a1] σ (jrd σ (X7_at_X10 G n σ this a1)) := by
  refine jCt.rd (lv := [(0, .ref this), (1, .int a1)]) (plainFor_of_name (by decide)) (Nat.le_of_ble_eq_true rfl) rfl ?_
  intro t p e s m args below meth c ls X hr hnm hl
  have X : jCx p c cX7_at 2 s m args RX7 G meth := X
  unfold X7_at_X10
  refine J.pu (fun _ _ _ _ k => lv_iload_n X.1.1 X.1.2.1 dX7_at_0 rfl (lv_at hl 1 rfl) k) ?_
  refine J.pu (fun _ _ _ _ k => lv_aload_n X.1.1 X.1.2.1 dX7_at_1 rfl (lv_at hl 0 rfl) k) ?_
  refine J.getR (k := 5) (ci := 7) X in_X10 (show jCl[7]? = some (RX10, TX10, 8) from rfl) (by decide) q1524 (fun _ h => h) dX7_at_2 (fun v2 h2 => ?_)
  refine J.getIN (k := 1) (ci := 0) X in_X1 (show jCl[0]? = some (RX1, TX1, 9) from rfl) (by decide) jnf54 (fun _ h => h) dX7_at_5 (fun v5 h5 => ?_)
  refine J.br (fun _ _ _ _ ka kb => lv_icmp_ge (tgt := 27) X.1.1 X.1.2.1 dX7_at_8 (by decide) ka kb) (fun c8 => ?_) (fun c8 => ?_)
  · refine J.pu (fun _ _ _ _ k => lv_iconst (v := (-1)) X.1.1 X.1.2.1 dX7_at_27 (by decide) k) ?_
    exact J.iret (vr := jrI) (fin := fun _ : Int32 => σ) (t := t) X hr (by rfl) (by rfl) dX7_at_28
  · refine J.pu (fun _ _ _ _ k => lv_aload_n X.1.1 X.1.2.1 dX7_at_11 rfl (lv_at hl 0 rfl) k) ?_
    refine J.getR (k := 5) (ci := 7) X in_X10 (show jCl[7]? = some (RX10, TX10, 8) from rfl) (by decide) q1524 (fun _ h => h) dX7_at_12 (fun v12 h12 => ?_)
    refine J.getRN (k := 0) (ci := 0) X in_X1 (show jCl[0]? = some (RX1, TX1, 9) from rfl) (by decide) jnf53 (fun _ h => h) dX7_at_15 (fun v15 h15 => ?_)
    refine J.pu (fun _ _ _ _ k => lv_iload_n X.1.1 X.1.2.1 dX7_at_18 rfl (lv_at hl 1 rfl) k) ?_
    refine J.aI1 X dX7_at_19 (fun v19 h19 => ?_)
    refine J.pu (fun _ _ _ _ k => lv_sipush (v := 255) X.1.1 X.1.2.1 dX7_at_20 (by decide) k) ?_
    refine J.pu (fun _ _ _ _ k => lv_iand X.1.1 X.1.2.1 dX7_at_23 k) ?_
    refine J.pu (fun _ _ _ _ k => lv_goto (tgt := 28) X.1.1 X.1.2.1 dX7_at_24 (by decide) k) ?_
    exact J.iret (vr := jrI) (fin := fun _ : Int32 => σ) (t := t) X hr (by rfl) (by rfl) dX7_at_28
noncomputable def X7_past_X8_h3 (G : jG) (n : Nat) (σ : jH) (this : Nat) (a1 : Int32) (a2 : Int32) (a3 : Int32) (rec3 : Int32 → Option (Int32)) (q3 : Int32) : Option (Int32) :=
  let x4_3 := q3; (rc σ (some this) 6).bind fun o6 => (X7_at_X8 G n σ o6 x4_3).bind fun v6 => (X1_isIn G n σ v6.toInt64 a2.toInt64 a3.toInt64).bind fun v14 => if v14 = 0 then (some x4_3) else (rec3 (x4_3 + 1))
noncomputable def X7_past_X8 (G : jG) (n : Nat) (σ : jH) (this : Nat) (a1 : Int32) (a2 : Int32) (a3 : Int32) : Option (Int32) :=
  jloop (X7_past_X8_h3 G n σ this a1 a2 a3) n a1
set_option maxHeartbeats 4000000 in
set_option maxRecDepth 100000 in
theorem ct_X7_past_X8 (l : Launch) (G : jG) (n : Nat) (σ : jH) (this : Nat) (a1 : Int32) (a2 : Int32) (a3 : Int32) : jCt l G yX7_past (ws_ yX7_past cX7_past 5 (some .int)) 1 25 jrI [.ref this, .int a1, .int a2, .int a3] σ (jrd σ (X7_past_X8 G n σ this a1 a2 a3)) := by
  refine jCt.rd (lv := [(0, .ref this), (1, .int a1), (2, .int a2), (3, .int a3)]) (plainFor_of_name (by decide)) (Nat.le_of_ble_eq_true rfl) rfl ?_
  intro t p e s m args below meth c ls X hr hnm hl
  have X : jCx p c cX7_past 5 s m args RX7 G meth := X
  have L3 : ∀ (n3 : Nat) (x4_3 : Int32) (ls : Array Slot), lv_has ls 5 [(0, .ref this), (2, .int a2), (3, .int a3), (4, .int x4_3)] → jGo l G 1 25 σ (fun _ : Int32 => σ) jrI t p e s m args below meth c (jloop (X7_past_X8_h3 G n σ this a1 a2 a3) n3 x4_3) σ (F0 m 3 ls []) := by
    intro n3
    induction n3 with
    | zero => intro x4_3 ls hl; exact J.nil_
    | succ n3 ih3 =>
      intro x4_3 ls hl
      refine J.eq (jloop_s _ _ _) ?_
      dsimp only [X7_past_X8_h3]
      refine J.pu (fun _ _ _ _ k => lv_aload_n X.1.1 X.1.2.1 dX7_past_3 rfl (lv_at hl 0 rfl) k) ?_
      refine J.pu (fun _ _ _ _ k => lv_iload X.1.1 X.1.2.1 dX7_past_4 (lv_at hl 3 rfl) k) ?_
      refine J.bind (fun o6 g6 => ?_)
      refine J.bind (fun v6 h6 => ?_)
      refine J.cV (q := (RX8, TX8, 8)) (ci := 6) (As := [.int x4_3]) (rest := []) (s2 := [.int v6]) X ⟨rfl, rfl⟩ (ct_X7_at_X8 l G n σ o6 x4_3) (jrd_of h6) (fun _ _ => jcwP (cwV 1 X.1.2.2.2.2 (lw_V q1393 q1395 qs15 q175 q1397) rfl rfl rfl (by decide +kernel) ⟨(Nat.le_of_ble_eq_true rfl), (Nat.le_of_ble_eq_true rfl)⟩) (jsl0 X.2.1)) g6 rfl rfl hl.1 rfl rfl (Nat.le_of_ble_eq_true rfl) dX7_past_6 ?_
      refine J.pu (fun _ _ _ _ k => lv_i2l (v := v6.toInt64) X.1.1 X.1.2.1 dX7_past_9 rfl k) ?_
      refine J.pu (fun _ _ _ _ k => lv_iload_n X.1.1 X.1.2.1 dX7_past_10 rfl (lv_at hl 1 rfl) k) ?_
      refine J.pu (fun _ _ _ _ k => lv_i2l (v := a2.toInt64) X.1.1 X.1.2.1 dX7_past_11 rfl k) ?_
      refine J.pu (fun _ _ _ _ k => lv_iload_n X.1.1 X.1.2.1 dX7_past_12 rfl (lv_at hl 2 rfl) k) ?_
      refine J.pu (fun _ _ _ _ k => lv_i2l (v := a3.toInt64) X.1.1 X.1.2.1 dX7_past_13 rfl k) ?_
      refine J.bind (fun v14 h14 => ?_)
      refine J.cSN (As := [.long v6.toInt64, .long a2.toInt64, .long a3.toInt64]) (rest := []) (s2 := [.int v14]) X ⟨rfl, rfl⟩ (ct_X1_isIn l G n σ v6.toInt64 a2.toInt64 a3.toInt64) (jrd_of h14) (fun _ _ => ⟨va_cnB 3 X.1.2.2.2.2 (lw_meth q1367) rfl rfl rfl (jnm1 X.2.1) (X.1.2.2.2.2 _ q138) (by decide +kernel) ⟨(Nat.le_of_ble_eq_true rfl), (Nat.le_of_ble_eq_true rfl)⟩, X.1.2.2.2.2 _ q1366, trivial⟩) rfl hl.1 rfl rfl (Nat.le_of_ble_eq_true rfl) dX7_past_14 ?_
      refine J.br (fun _ _ _ _ ka kb => lv_if_eq (tgt := 26) X.1.1 X.1.2.1 dX7_past_17 (by decide) ka kb) (fun c17 => ?_) (fun c17 => ?_)
      · refine J.pu (fun _ _ _ _ k => lv_iload X.1.1 X.1.2.1 dX7_past_26 (lv_at hl 3 rfl) k) ?_
        exact J.iret (vr := jrI) (fin := fun _ : Int32 => σ) (t := t) X hr (by rfl) (by rfl) dX7_past_28
      · refine J.iinc (k := 3) (lv' := [(4, .int (x4_3 + 1)), (0, .ref this), (2, .int a2), (3, .int a3)]) (w := (x4_3 + 1)) X.1.1 X.1.2.1 dX7_past_20 hl rfl rfl (by decide) (by first | rfl | simp [va_rf_cat, jcI, jcA, jcJ, jcD, jcF]) (fun ls hl => ?_)
        refine J.pu (fun _ _ _ _ k => lv_goto (tgt := 3) X.1.1 X.1.2.1 dX7_past_23 (by decide) k) ?_
        exact ih3 (x4_3 + 1) ls (lv_sub hl [1, 2, 3, 0] rfl)
  unfold X7_past_X8
  refine J.pu (fun _ _ _ _ k => lv_iload_n X.1.1 X.1.2.1 dX7_past_0 rfl (lv_at hl 1 rfl) k) ?_
  refine J.istore (lv' := [(4, .int a1), (0, .ref this), (1, .int a1), (2, .int a2), (3, .int a3)]) X.1.1 X.1.2.1 dX7_past_1 hl (by decide) (by first | rfl | simp [va_rf_cat, jcI, jcA, jcJ, jcD, jcF]) (fun ls hl => ?_)
  exact L3 n a1 ls (lv_sub hl [1, 3, 4, 0] rfl)
noncomputable def X7_past_X10_h3 (G : jG) (n : Nat) (σ : jH) (this : Nat) (a1 : Int32) (a2 : Int32) (a3 : Int32) (rec3 : Int32 → Option (Int32)) (q3 : Int32) : Option (Int32) :=
  let x4_3 := q3; (rc σ (some this) 7).bind fun o6 => (X7_at_X10 G n σ o6 x4_3).bind fun v6 => (X1_isIn G n σ v6.toInt64 a2.toInt64 a3.toInt64).bind fun v14 => if v14 = 0 then (some x4_3) else (rec3 (x4_3 + 1))
noncomputable def X7_past_X10 (G : jG) (n : Nat) (σ : jH) (this : Nat) (a1 : Int32) (a2 : Int32) (a3 : Int32) : Option (Int32) :=
  jloop (X7_past_X10_h3 G n σ this a1 a2 a3) n a1
set_option maxHeartbeats 4000000 in
set_option maxRecDepth 100000 in
theorem ct_X7_past_X10 (l : Launch) (G : jG) (n : Nat) (σ : jH) (this : Nat) (a1 : Int32) (a2 : Int32) (a3 : Int32) : jCt l G yX7_past (ws_ yX7_past cX7_past 5 (some .int)) 1 25 jrI [.ref this, .int a1, .int a2, .int a3] σ (jrd σ (X7_past_X10 G n σ this a1 a2 a3)) := by
  refine jCt.rd (lv := [(0, .ref this), (1, .int a1), (2, .int a2), (3, .int a3)]) (plainFor_of_name (by decide)) (Nat.le_of_ble_eq_true rfl) rfl ?_
  intro t p e s m args below meth c ls X hr hnm hl
  have X : jCx p c cX7_past 5 s m args RX7 G meth := X
  have L3 : ∀ (n3 : Nat) (x4_3 : Int32) (ls : Array Slot), lv_has ls 5 [(0, .ref this), (2, .int a2), (3, .int a3), (4, .int x4_3)] → jGo l G 1 25 σ (fun _ : Int32 => σ) jrI t p e s m args below meth c (jloop (X7_past_X10_h3 G n σ this a1 a2 a3) n3 x4_3) σ (F0 m 3 ls []) := by
    intro n3
    induction n3 with
    | zero => intro x4_3 ls hl; exact J.nil_
    | succ n3 ih3 =>
      intro x4_3 ls hl
      refine J.eq (jloop_s _ _ _) ?_
      dsimp only [X7_past_X10_h3]
      refine J.pu (fun _ _ _ _ k => lv_aload_n X.1.1 X.1.2.1 dX7_past_3 rfl (lv_at hl 0 rfl) k) ?_
      refine J.pu (fun _ _ _ _ k => lv_iload X.1.1 X.1.2.1 dX7_past_4 (lv_at hl 3 rfl) k) ?_
      refine J.bind (fun o6 g6 => ?_)
      refine J.bind (fun v6 h6 => ?_)
      refine J.cV (q := (RX10, TX10, 8)) (ci := 7) (As := [.int x4_3]) (rest := []) (s2 := [.int v6]) X ⟨rfl, rfl⟩ (ct_X7_at_X10 l G n σ o6 x4_3) (jrd_of h6) (fun _ _ => jcwP (cwV 1 X.1.2.2.2.2 (lw_V q1393 q1395 qs15 q175 q1397) rfl rfl rfl (by decide +kernel) ⟨(Nat.le_of_ble_eq_true rfl), (Nat.le_of_ble_eq_true rfl)⟩) (jsl1 X.2.1)) g6 rfl rfl hl.1 rfl rfl (Nat.le_of_ble_eq_true rfl) dX7_past_6 ?_
      refine J.pu (fun _ _ _ _ k => lv_i2l (v := v6.toInt64) X.1.1 X.1.2.1 dX7_past_9 rfl k) ?_
      refine J.pu (fun _ _ _ _ k => lv_iload_n X.1.1 X.1.2.1 dX7_past_10 rfl (lv_at hl 1 rfl) k) ?_
      refine J.pu (fun _ _ _ _ k => lv_i2l (v := a2.toInt64) X.1.1 X.1.2.1 dX7_past_11 rfl k) ?_
      refine J.pu (fun _ _ _ _ k => lv_iload_n X.1.1 X.1.2.1 dX7_past_12 rfl (lv_at hl 2 rfl) k) ?_
      refine J.pu (fun _ _ _ _ k => lv_i2l (v := a3.toInt64) X.1.1 X.1.2.1 dX7_past_13 rfl k) ?_
      refine J.bind (fun v14 h14 => ?_)
      refine J.cSN (As := [.long v6.toInt64, .long a2.toInt64, .long a3.toInt64]) (rest := []) (s2 := [.int v14]) X ⟨rfl, rfl⟩ (ct_X1_isIn l G n σ v6.toInt64 a2.toInt64 a3.toInt64) (jrd_of h14) (fun _ _ => ⟨va_cnB 3 X.1.2.2.2.2 (lw_meth q1367) rfl rfl rfl (jnm1 X.2.1) (X.1.2.2.2.2 _ q138) (by decide +kernel) ⟨(Nat.le_of_ble_eq_true rfl), (Nat.le_of_ble_eq_true rfl)⟩, X.1.2.2.2.2 _ q1366, trivial⟩) rfl hl.1 rfl rfl (Nat.le_of_ble_eq_true rfl) dX7_past_14 ?_
      refine J.br (fun _ _ _ _ ka kb => lv_if_eq (tgt := 26) X.1.1 X.1.2.1 dX7_past_17 (by decide) ka kb) (fun c17 => ?_) (fun c17 => ?_)
      · refine J.pu (fun _ _ _ _ k => lv_iload X.1.1 X.1.2.1 dX7_past_26 (lv_at hl 3 rfl) k) ?_
        exact J.iret (vr := jrI) (fin := fun _ : Int32 => σ) (t := t) X hr (by rfl) (by rfl) dX7_past_28
      · refine J.iinc (k := 3) (lv' := [(4, .int (x4_3 + 1)), (0, .ref this), (2, .int a2), (3, .int a3)]) (w := (x4_3 + 1)) X.1.1 X.1.2.1 dX7_past_20 hl rfl rfl (by decide) (by first | rfl | simp [va_rf_cat, jcI, jcA, jcJ, jcD, jcF]) (fun ls hl => ?_)
        refine J.pu (fun _ _ _ _ k => lv_goto (tgt := 3) X.1.1 X.1.2.1 dX7_past_23 (by decide) k) ?_
        exact ih3 (x4_3 + 1) ls (lv_sub hl [1, 2, 3, 0] rfl)
  unfold X7_past_X10
  refine J.pu (fun _ _ _ _ k => lv_iload_n X.1.1 X.1.2.1 dX7_past_0 rfl (lv_at hl 1 rfl) k) ?_
  refine J.istore (lv' := [(4, .int a1), (0, .ref this), (1, .int a1), (2, .int a2), (3, .int a3)]) X.1.1 X.1.2.1 dX7_past_1 hl (by decide) (by first | rfl | simp [va_rf_cat, jcI, jcA, jcJ, jcD, jcF]) (fun ls hl => ?_)
  exact L3 n a1 ls (lv_sub hl [1, 3, 4, 0] rfl)
noncomputable def X7_text_X8_h11 (G : jG) (n : Nat) (this : Nat) (a1 : Int32) (a2 : Int32) (x3_11 : Option Nat) (rec11 : Int32 × jH → Option ((Option Nat) × jH)) (q11 : Int32 × jH) : Option ((Option Nat) × jH) :=
  let x4_11 := q11.1; let B11 := q11.2; if a2 ≤ x4_11 then ((rc B11 x3_11 20).bind fun o36 => bd (jck B11 (sbStr B11 o36)) fun v36 S36 => some (v36, S36)) else ((rc B11 (some this) 6).bind fun o21 => (X7_at_X8 G n B11 o21 x4_11).bind fun v21 => (rc B11 x3_11 20).bind fun o25 => bd (jck B11 (sbAppC G B11 o25 ((v21.toUInt32 % 65536).toInt32))) fun v25 S25 => rec11 ((x4_11 + 1), S25))
noncomputable def X7_text_X8_b (G : jG) (n : Nat) (σ : jH) (this : Nat) (a1 : Int32) (a2 : Int32) : Option ((Option Nat) × jH) :=
  bd (nO σ 20 [.null, .int 0, .int 0, .int 0] 4) fun v0 S0 => bd (jck S0 (sbInit G S0 v0)) fun v4 S4 => jloop (X7_text_X8_h11 G n this a1 a2 (some v0)) n (a1, S4)
noncomputable def X7_text_X8 (G : jG) (n : Nat) (σ : jH) (this : Nat) (a1 : Int32) (a2 : Int32) : Option ((Option Nat) × jH) := jck σ (X7_text_X8_b G n σ this a1 a2)
set_option maxHeartbeats 4000000 in
set_option maxRecDepth 100000 in
theorem ct_X7_text_X8 (l : Launch) (G : jG) (n : Nat) (σ : jH) (this : Nat) (a1 : Int32) (a2 : Int32) : jCt l G yX7_text (ws_ yX7_text cX7_text 5 (some (.object "java/lang/String"))) 21 1221 jrR [.ref this, .int a1, .int a2] σ (X7_text_X8 G n σ this a1 a2) := by
  refine jCt.wr (lv := [(0, .ref this), (1, .int a1), (2, .int a2)]) (plainFor_of_name (by decide)) (Nat.le_of_ble_eq_true rfl) rfl ?_
  intro t p e s m args below meth c ls X hr hnm hl
  have X : jCx p c cX7_text 5 s m args RX7 G meth := X
  have L11 : ∀ (x3_11 : Option Nat) (n11 : Nat) (x4_11 : Int32) (B11 : jH) (ls : Array Slot), lv_has ls 5 [(0, .ref this), (2, .int a2), (3, va_rf x3_11), (4, .int x4_11)] → jGo l G 21 1221 σ (Prod.snd : (Option Nat) × jH → jH) (fun t => jrR t.1) t p e s m args below meth c (jloop (X7_text_X8_h11 G n this a1 a2 x3_11) n11 (x4_11, B11)) B11 (F0 m 11 ls []) := by
    intro x3_11
    intro n11
    induction n11 with
    | zero => intro x4_11 B11 ls hl; exact J.nil_
    | succ n11 ih11 =>
      intro x4_11 B11 ls hl
      refine J.eq (jloop_s _ _ _) ?_
      dsimp only [X7_text_X8_h11]
      refine J.pu (fun _ _ _ _ k => lv_iload X.1.1 X.1.2.1 dX7_text_11 (lv_at hl 3 rfl) k) ?_
      refine J.pu (fun _ _ _ _ k => lv_iload_n X.1.1 X.1.2.1 dX7_text_13 rfl (lv_at hl 1 rfl) k) ?_
      refine J.br (fun _ _ _ _ ka kb => lv_icmp_ge (tgt := 35) X.1.1 X.1.2.1 dX7_text_14 (by decide) ka kb) (fun c14 => ?_) (fun c14 => ?_)
      · refine J.pu (fun _ _ _ _ k => W.rload_n X.1.1 X.1.2.1 dX7_text_35 rfl (lv_at hl 2 rfl) k) ?_
        refine J.bind (fun o36 g36 => ?_)
        refine J.bd' (fun v36 S36 h36 => ?_)
        refine J.cV (q := (RJ8, TJ8, 4)) (ci := 20) (As := []) (rest := []) (s2 := [va_rf v36]) X ⟨rfl, rfl⟩ (ct_J8_toString l G B11 o36) h36 (fun _ _ => cwV 0 X.1.2.2.2.2 (lw_V q1431 q452 q453 q148 q454) rfl rfl rfl (by decide +kernel) ⟨(Nat.le_of_ble_eq_true rfl), (Nat.le_of_ble_eq_true rfl)⟩) g36 rfl rfl hl.1 rfl rfl (Nat.le_of_ble_eq_true rfl) dX7_text_36 ?_
        exact J.aret (vr := fun t : (Option Nat) × jH => jrR t.1) (fin := Prod.snd) (t := t) X hr (Or.inl ⟨_, rfl⟩) (by rfl) (by rfl) dX7_text_39
      · refine J.pu (fun _ _ _ _ k => W.rload_n X.1.1 X.1.2.1 dX7_text_17 rfl (lv_at hl 2 rfl) k) ?_
        refine J.pu (fun _ _ _ _ k => lv_aload_n X.1.1 X.1.2.1 dX7_text_18 rfl (lv_at hl 0 rfl) k) ?_
        refine J.pu (fun _ _ _ _ k => lv_iload X.1.1 X.1.2.1 dX7_text_19 (lv_at hl 3 rfl) k) ?_
        refine J.bind (fun o21 g21 => ?_)
        refine J.bind (fun v21 h21 => ?_)
        refine J.cV (q := (RX8, TX8, 8)) (ci := 6) (As := [.int x4_11]) (rest := [va_rf x3_11]) (s2 := [.int v21, va_rf x3_11]) X ⟨rfl, rfl⟩ (ct_X7_at_X8 l G n B11 o21 x4_11) (jrd_of h21) (fun _ _ => jcwP (cwV 1 X.1.2.2.2.2 (lw_V q1393 q1395 qs15 q175 q1397) rfl rfl rfl (by decide +kernel) ⟨(Nat.le_of_ble_eq_true rfl), (Nat.le_of_ble_eq_true rfl)⟩) (jsl0 X.2.1)) g21 rfl rfl hl.1 rfl rfl (by simp [va_rf_cat, jcI, jcA, jcJ, jcD, jcF]) dX7_text_21 ?_
        refine J.pu (fun _ _ _ _ k => lv_i2c (v := (v21.toUInt32 % 65536).toInt32) X.1.1 X.1.2.1 dX7_text_24 rfl k) ?_
        refine J.bind (fun o25 g25 => ?_)
        refine J.bd' (fun v25 S25 h25 => ?_)
        refine J.cV (q := (RJ8, TJ8, 4)) (ci := 20) (As := [.int ((v21.toUInt32 % 65536).toInt32)]) (rest := []) (s2 := [va_rf v25]) X ⟨rfl, rfl⟩ (ct_J8_append_3 l G B11 o25 ((v21.toUInt32 % 65536).toInt32)) h25 (fun _ _ => cwV 1 X.1.2.2.2.2 (lw_V q1411 q1412 q1413 q148 q1414) rfl rfl rfl (by decide +kernel) ⟨(Nat.le_of_ble_eq_true rfl), (Nat.le_of_ble_eq_true rfl)⟩) g25 rfl rfl hl.1 rfl rfl (Nat.le_of_ble_eq_true rfl) dX7_text_25 ?_
        refine J.pu (fun _ _ _ _ k => lv_pop X.1.1 X.1.2.1 dX7_text_28 (va_rf_cat _) k) ?_
        refine J.iinc (k := 3) (lv' := [(4, .int (x4_11 + 1)), (0, .ref this), (2, .int a2), (3, va_rf x3_11)]) (w := (x4_11 + 1)) X.1.1 X.1.2.1 dX7_text_29 hl rfl rfl (by decide) (by first | rfl | simp [va_rf_cat, jcI, jcA, jcJ, jcD, jcF]) (fun ls hl => ?_)
        refine J.pu (fun _ _ _ _ k => lv_goto (tgt := 11) X.1.1 X.1.2.1 dX7_text_32 (by decide) k) ?_
        exact ih11 (x4_11 + 1) S25 ls (lv_sub hl [1, 2, 3, 0] rfl)
  unfold X7_text_X8_b
  refine J.nO' (fs := [.null, .int 0, .int 0, .int 0]) X ⟨rfl, rfl⟩ in_J8 (show jCl[20]? = some (RJ8, TJ8, 4) from rfl) tyJ8 tyJ8_ok q1409 q273 q148 rfl dX7_text_0 (fun v0 S0 h0 => ?_)
  refine J.pu (fun _ _ _ _ k => lv_dup X.1.1 X.1.2.1 dX7_text_3 rfl k) ?_
  refine J.bd' (fun v4 S4 h4 => ?_)
  refine J.cI (a := v0) (As := []) (rest := [.ref v0]) (s2 := [.ref v0]) X ⟨rfl, rfl⟩ (ct_J8_init l G S0 v0) h4 (fun _ _ => jcwI 0 X.1.2.2.2.2 q1410 q275 q148 q276 rfl rfl rfl (by decide +kernel) ⟨(Nat.le_of_ble_eq_true rfl), (Nat.le_of_ble_eq_true rfl)⟩) rfl hl.1 rfl rfl (Nat.le_of_ble_eq_true rfl) dX7_text_4 ?_
  refine J.astore_n (r := (some v0)) (i := 3) (lv' := [(3, va_rf (some v0)), (0, .ref this), (1, .int a1), (2, .int a2)]) X.1.1 X.1.2.1 dX7_text_7 rfl hl (by decide) (by first | rfl | simp [va_rf_cat, jcI, jcA, jcJ, jcD, jcF]) (fun ls hl => ?_)
  refine J.pu (fun _ _ _ _ k => lv_iload_n X.1.1 X.1.2.1 dX7_text_8 rfl (lv_at hl 2 rfl) k) ?_
  refine J.istore (lv' := [(4, .int a1), (3, va_rf (some v0)), (0, .ref this), (1, .int a1), (2, .int a2)]) X.1.1 X.1.2.1 dX7_text_9 hl (by decide) (by first | rfl | simp [va_rf_cat, jcI, jcA, jcJ, jcD, jcF]) (fun ls hl => ?_)
  exact L11 (some v0) n a1 S4 ls (lv_sub hl [2, 4, 1, 0] rfl)
noncomputable def X7_text_X10_h11 (G : jG) (n : Nat) (this : Nat) (a1 : Int32) (a2 : Int32) (x3_11 : Option Nat) (rec11 : Int32 × jH → Option ((Option Nat) × jH)) (q11 : Int32 × jH) : Option ((Option Nat) × jH) :=
  let x4_11 := q11.1; let B11 := q11.2; if a2 ≤ x4_11 then ((rc B11 x3_11 20).bind fun o36 => bd (jck B11 (sbStr B11 o36)) fun v36 S36 => some (v36, S36)) else ((rc B11 (some this) 7).bind fun o21 => (X7_at_X10 G n B11 o21 x4_11).bind fun v21 => (rc B11 x3_11 20).bind fun o25 => bd (jck B11 (sbAppC G B11 o25 ((v21.toUInt32 % 65536).toInt32))) fun v25 S25 => rec11 ((x4_11 + 1), S25))
noncomputable def X7_text_X10_b (G : jG) (n : Nat) (σ : jH) (this : Nat) (a1 : Int32) (a2 : Int32) : Option ((Option Nat) × jH) :=
  bd (nO σ 20 [.null, .int 0, .int 0, .int 0] 4) fun v0 S0 => bd (jck S0 (sbInit G S0 v0)) fun v4 S4 => jloop (X7_text_X10_h11 G n this a1 a2 (some v0)) n (a1, S4)
noncomputable def X7_text_X10 (G : jG) (n : Nat) (σ : jH) (this : Nat) (a1 : Int32) (a2 : Int32) : Option ((Option Nat) × jH) := jck σ (X7_text_X10_b G n σ this a1 a2)
set_option maxHeartbeats 4000000 in
set_option maxRecDepth 100000 in
theorem ct_X7_text_X10 (l : Launch) (G : jG) (n : Nat) (σ : jH) (this : Nat) (a1 : Int32) (a2 : Int32) : jCt l G yX7_text (ws_ yX7_text cX7_text 5 (some (.object "java/lang/String"))) 21 1221 jrR [.ref this, .int a1, .int a2] σ (X7_text_X10 G n σ this a1 a2) := by
  refine jCt.wr (lv := [(0, .ref this), (1, .int a1), (2, .int a2)]) (plainFor_of_name (by decide)) (Nat.le_of_ble_eq_true rfl) rfl ?_
  intro t p e s m args below meth c ls X hr hnm hl
  have X : jCx p c cX7_text 5 s m args RX7 G meth := X
  have L11 : ∀ (x3_11 : Option Nat) (n11 : Nat) (x4_11 : Int32) (B11 : jH) (ls : Array Slot), lv_has ls 5 [(0, .ref this), (2, .int a2), (3, va_rf x3_11), (4, .int x4_11)] → jGo l G 21 1221 σ (Prod.snd : (Option Nat) × jH → jH) (fun t => jrR t.1) t p e s m args below meth c (jloop (X7_text_X10_h11 G n this a1 a2 x3_11) n11 (x4_11, B11)) B11 (F0 m 11 ls []) := by
    intro x3_11
    intro n11
    induction n11 with
    | zero => intro x4_11 B11 ls hl; exact J.nil_
    | succ n11 ih11 =>
      intro x4_11 B11 ls hl
      refine J.eq (jloop_s _ _ _) ?_
      dsimp only [X7_text_X10_h11]
      refine J.pu (fun _ _ _ _ k => lv_iload X.1.1 X.1.2.1 dX7_text_11 (lv_at hl 3 rfl) k) ?_
      refine J.pu (fun _ _ _ _ k => lv_iload_n X.1.1 X.1.2.1 dX7_text_13 rfl (lv_at hl 1 rfl) k) ?_
      refine J.br (fun _ _ _ _ ka kb => lv_icmp_ge (tgt := 35) X.1.1 X.1.2.1 dX7_text_14 (by decide) ka kb) (fun c14 => ?_) (fun c14 => ?_)
      · refine J.pu (fun _ _ _ _ k => W.rload_n X.1.1 X.1.2.1 dX7_text_35 rfl (lv_at hl 2 rfl) k) ?_
        refine J.bind (fun o36 g36 => ?_)
        refine J.bd' (fun v36 S36 h36 => ?_)
        refine J.cV (q := (RJ8, TJ8, 4)) (ci := 20) (As := []) (rest := []) (s2 := [va_rf v36]) X ⟨rfl, rfl⟩ (ct_J8_toString l G B11 o36) h36 (fun _ _ => cwV 0 X.1.2.2.2.2 (lw_V q1431 q452 q453 q148 q454) rfl rfl rfl (by decide +kernel) ⟨(Nat.le_of_ble_eq_true rfl), (Nat.le_of_ble_eq_true rfl)⟩) g36 rfl rfl hl.1 rfl rfl (Nat.le_of_ble_eq_true rfl) dX7_text_36 ?_
        exact J.aret (vr := fun t : (Option Nat) × jH => jrR t.1) (fin := Prod.snd) (t := t) X hr (Or.inl ⟨_, rfl⟩) (by rfl) (by rfl) dX7_text_39
      · refine J.pu (fun _ _ _ _ k => W.rload_n X.1.1 X.1.2.1 dX7_text_17 rfl (lv_at hl 2 rfl) k) ?_
        refine J.pu (fun _ _ _ _ k => lv_aload_n X.1.1 X.1.2.1 dX7_text_18 rfl (lv_at hl 0 rfl) k) ?_
        refine J.pu (fun _ _ _ _ k => lv_iload X.1.1 X.1.2.1 dX7_text_19 (lv_at hl 3 rfl) k) ?_
        refine J.bind (fun o21 g21 => ?_)
        refine J.bind (fun v21 h21 => ?_)
        refine J.cV (q := (RX10, TX10, 8)) (ci := 7) (As := [.int x4_11]) (rest := [va_rf x3_11]) (s2 := [.int v21, va_rf x3_11]) X ⟨rfl, rfl⟩ (ct_X7_at_X10 l G n B11 o21 x4_11) (jrd_of h21) (fun _ _ => jcwP (cwV 1 X.1.2.2.2.2 (lw_V q1393 q1395 qs15 q175 q1397) rfl rfl rfl (by decide +kernel) ⟨(Nat.le_of_ble_eq_true rfl), (Nat.le_of_ble_eq_true rfl)⟩) (jsl1 X.2.1)) g21 rfl rfl hl.1 rfl rfl (by simp [va_rf_cat, jcI, jcA, jcJ, jcD, jcF]) dX7_text_21 ?_
        refine J.pu (fun _ _ _ _ k => lv_i2c (v := (v21.toUInt32 % 65536).toInt32) X.1.1 X.1.2.1 dX7_text_24 rfl k) ?_
        refine J.bind (fun o25 g25 => ?_)
        refine J.bd' (fun v25 S25 h25 => ?_)
        refine J.cV (q := (RJ8, TJ8, 4)) (ci := 20) (As := [.int ((v21.toUInt32 % 65536).toInt32)]) (rest := []) (s2 := [va_rf v25]) X ⟨rfl, rfl⟩ (ct_J8_append_3 l G B11 o25 ((v21.toUInt32 % 65536).toInt32)) h25 (fun _ _ => cwV 1 X.1.2.2.2.2 (lw_V q1411 q1412 q1413 q148 q1414) rfl rfl rfl (by decide +kernel) ⟨(Nat.le_of_ble_eq_true rfl), (Nat.le_of_ble_eq_true rfl)⟩) g25 rfl rfl hl.1 rfl rfl (Nat.le_of_ble_eq_true rfl) dX7_text_25 ?_
        refine J.pu (fun _ _ _ _ k => lv_pop X.1.1 X.1.2.1 dX7_text_28 (va_rf_cat _) k) ?_
        refine J.iinc (k := 3) (lv' := [(4, .int (x4_11 + 1)), (0, .ref this), (2, .int a2), (3, va_rf x3_11)]) (w := (x4_11 + 1)) X.1.1 X.1.2.1 dX7_text_29 hl rfl rfl (by decide) (by first | rfl | simp [va_rf_cat, jcI, jcA, jcJ, jcD, jcF]) (fun ls hl => ?_)
        refine J.pu (fun _ _ _ _ k => lv_goto (tgt := 11) X.1.1 X.1.2.1 dX7_text_32 (by decide) k) ?_
        exact ih11 (x4_11 + 1) S25 ls (lv_sub hl [1, 2, 3, 0] rfl)
  unfold X7_text_X10_b
  refine J.nO' (fs := [.null, .int 0, .int 0, .int 0]) X ⟨rfl, rfl⟩ in_J8 (show jCl[20]? = some (RJ8, TJ8, 4) from rfl) tyJ8 tyJ8_ok q1409 q273 q148 rfl dX7_text_0 (fun v0 S0 h0 => ?_)
  refine J.pu (fun _ _ _ _ k => lv_dup X.1.1 X.1.2.1 dX7_text_3 rfl k) ?_
  refine J.bd' (fun v4 S4 h4 => ?_)
  refine J.cI (a := v0) (As := []) (rest := [.ref v0]) (s2 := [.ref v0]) X ⟨rfl, rfl⟩ (ct_J8_init l G S0 v0) h4 (fun _ _ => jcwI 0 X.1.2.2.2.2 q1410 q275 q148 q276 rfl rfl rfl (by decide +kernel) ⟨(Nat.le_of_ble_eq_true rfl), (Nat.le_of_ble_eq_true rfl)⟩) rfl hl.1 rfl rfl (Nat.le_of_ble_eq_true rfl) dX7_text_4 ?_
  refine J.astore_n (r := (some v0)) (i := 3) (lv' := [(3, va_rf (some v0)), (0, .ref this), (1, .int a1), (2, .int a2)]) X.1.1 X.1.2.1 dX7_text_7 rfl hl (by decide) (by first | rfl | simp [va_rf_cat, jcI, jcA, jcJ, jcD, jcF]) (fun ls hl => ?_)
  refine J.pu (fun _ _ _ _ k => lv_iload_n X.1.1 X.1.2.1 dX7_text_8 rfl (lv_at hl 2 rfl) k) ?_
  refine J.istore (lv' := [(4, .int a1), (3, va_rf (some v0)), (0, .ref this), (1, .int a1), (2, .int a2)]) X.1.1 X.1.2.1 dX7_text_9 hl (by decide) (by first | rfl | simp [va_rf_cat, jcI, jcA, jcJ, jcD, jcF]) (fun ls hl => ?_)
  exact L11 (some v0) n a1 S4 ls (lv_sub hl [2, 4, 1, 0] rfl)
noncomputable def X7_word_X8 (G : jG) (n : Nat) (σ : jH) (this : Nat) : Option (Option Nat) :=
  (gR σ (some this) 6 4).bind fun v1 => some v1
set_option maxHeartbeats 4000000 in
set_option maxRecDepth 100000 in
theorem ct_X7_word_X8 (l : Launch) (G : jG) (n : Nat) (σ : jH) (this : Nat) : jCt l G yX7_word (ws_ yX7_word cX7_word 1 (some (.object "java/lang/String"))) 0 0 jrR [.ref this] σ (jrd σ (X7_word_X8 G n σ this)) := by
  refine jCt.rd (lv := [(0, .ref this)]) (plainFor_of_name (by decide)) (Nat.le_of_ble_eq_true rfl) rfl ?_
  intro t p e s m args below meth c ls X hr hnm hl
  have X : jCx p c cX7_word 1 s m args RX7 G meth := X
  unfold X7_word_X8
  refine J.pu (fun _ _ _ _ k => lv_aload_n X.1.1 X.1.2.1 dX7_word_0 rfl (lv_at hl 0 rfl) k) ?_
  refine J.getR (k := 4) (ci := 6) X in_X8 (show jCl[6]? = some (RX8, TX8, 8) from rfl) (by decide) q1523 (fun _ h => h) dX7_word_1 (fun v1 h1 => ?_)
  exact J.aret (vr := jrR) (fin := fun _ : Option Nat => σ) (t := t) X hr (Or.inl ⟨_, rfl⟩) (by rfl) (by rfl) dX7_word_4
noncomputable def X7_word_X10 (G : jG) (n : Nat) (σ : jH) (this : Nat) : Option (Option Nat) :=
  (gR σ (some this) 7 4).bind fun v1 => some v1
set_option maxHeartbeats 4000000 in
set_option maxRecDepth 100000 in
theorem ct_X7_word_X10 (l : Launch) (G : jG) (n : Nat) (σ : jH) (this : Nat) : jCt l G yX7_word (ws_ yX7_word cX7_word 1 (some (.object "java/lang/String"))) 0 0 jrR [.ref this] σ (jrd σ (X7_word_X10 G n σ this)) := by
  refine jCt.rd (lv := [(0, .ref this)]) (plainFor_of_name (by decide)) (Nat.le_of_ble_eq_true rfl) rfl ?_
  intro t p e s m args below meth c ls X hr hnm hl
  have X : jCx p c cX7_word 1 s m args RX7 G meth := X
  unfold X7_word_X10
  refine J.pu (fun _ _ _ _ k => lv_aload_n X.1.1 X.1.2.1 dX7_word_0 rfl (lv_at hl 0 rfl) k) ?_
  refine J.getR (k := 4) (ci := 7) X in_X10 (show jCl[7]? = some (RX10, TX10, 8) from rfl) (by decide) q1523 (fun _ h => h) dX7_word_1 (fun v1 h1 => ?_)
  exact J.aret (vr := jrR) (fin := fun _ : Option Nat => σ) (t := t) X hr (Or.inl ⟨_, rfl⟩) (by rfl) (by rfl) dX7_word_4
noncomputable def X7_isOver_X8 (G : jG) (n : Nat) (σ : jH) (this : Nat) : Option (Int32) :=
  (gI σ (some this) 6 2).bind fun v1 => if v1 = 3 then (some 1) else (some 0)
set_option maxHeartbeats 4000000 in
set_option maxRecDepth 100000 in
theorem ct_X7_isOver_X8 (l : Launch) (G : jG) (n : Nat) (σ : jH) (this : Nat) : jCt l G yX7_isOver (ws_ yX7_isOver cX7_isOver 1 (some .boolean)) 0 0 jrI [.ref this] σ (jrd σ (X7_isOver_X8 G n σ this)) := by
  refine jCt.rd (lv := [(0, .ref this)]) (plainFor_of_name (by decide)) (Nat.le_of_ble_eq_true rfl) rfl ?_
  intro t p e s m args below meth c ls X hr hnm hl
  have X : jCx p c cX7_isOver 1 s m args RX7 G meth := X
  unfold X7_isOver_X8
  refine J.pu (fun _ _ _ _ k => lv_aload_n X.1.1 X.1.2.1 dX7_isOver_0 rfl (lv_at hl 0 rfl) k) ?_
  refine J.getI (k := 2) (ci := 6) X in_X8 (show jCl[6]? = some (RX8, TX8, 8) from rfl) (by decide) q1521 (fun _ h => h) dX7_isOver_1 (fun v1 h1 => ?_)
  refine J.pu (fun _ _ _ _ k => lv_iconst (v := 3) X.1.1 X.1.2.1 dX7_isOver_4 (by decide) k) ?_
  refine J.br (fun _ _ _ _ ka kb => lv_icmp_ne (tgt := 12) X.1.1 X.1.2.1 dX7_isOver_5 (by decide) kb ka) (fun c5 => ?_) (fun c5 => ?_)
  · refine J.pu (fun _ _ _ _ k => lv_iconst (v := 1) X.1.1 X.1.2.1 dX7_isOver_8 (by decide) k) ?_
    refine J.pu (fun _ _ _ _ k => lv_goto (tgt := 13) X.1.1 X.1.2.1 dX7_isOver_9 (by decide) k) ?_
    exact J.zret (vr := jrI) (fin := fun _ : Int32 => σ) (t := t) X hr (by decide) (by rfl) (by rfl) dX7_isOver_13
  · refine J.pu (fun _ _ _ _ k => lv_iconst (v := 0) X.1.1 X.1.2.1 dX7_isOver_12 (by decide) k) ?_
    exact J.zret (vr := jrI) (fin := fun _ : Int32 => σ) (t := t) X hr (by decide) (by rfl) (by rfl) dX7_isOver_13
noncomputable def X7_isOver_X10 (G : jG) (n : Nat) (σ : jH) (this : Nat) : Option (Int32) :=
  (gI σ (some this) 7 2).bind fun v1 => if v1 = 3 then (some 1) else (some 0)
set_option maxHeartbeats 4000000 in
set_option maxRecDepth 100000 in
theorem ct_X7_isOver_X10 (l : Launch) (G : jG) (n : Nat) (σ : jH) (this : Nat) : jCt l G yX7_isOver (ws_ yX7_isOver cX7_isOver 1 (some .boolean)) 0 0 jrI [.ref this] σ (jrd σ (X7_isOver_X10 G n σ this)) := by
  refine jCt.rd (lv := [(0, .ref this)]) (plainFor_of_name (by decide)) (Nat.le_of_ble_eq_true rfl) rfl ?_
  intro t p e s m args below meth c ls X hr hnm hl
  have X : jCx p c cX7_isOver 1 s m args RX7 G meth := X
  unfold X7_isOver_X10
  refine J.pu (fun _ _ _ _ k => lv_aload_n X.1.1 X.1.2.1 dX7_isOver_0 rfl (lv_at hl 0 rfl) k) ?_
  refine J.getI (k := 2) (ci := 7) X in_X10 (show jCl[7]? = some (RX10, TX10, 8) from rfl) (by decide) q1521 (fun _ h => h) dX7_isOver_1 (fun v1 h1 => ?_)
  refine J.pu (fun _ _ _ _ k => lv_iconst (v := 3) X.1.1 X.1.2.1 dX7_isOver_4 (by decide) k) ?_
  refine J.br (fun _ _ _ _ ka kb => lv_icmp_ne (tgt := 12) X.1.1 X.1.2.1 dX7_isOver_5 (by decide) kb ka) (fun c5 => ?_) (fun c5 => ?_)
  · refine J.pu (fun _ _ _ _ k => lv_iconst (v := 1) X.1.1 X.1.2.1 dX7_isOver_8 (by decide) k) ?_
    refine J.pu (fun _ _ _ _ k => lv_goto (tgt := 13) X.1.1 X.1.2.1 dX7_isOver_9 (by decide) k) ?_
    exact J.zret (vr := jrI) (fin := fun _ : Int32 => σ) (t := t) X hr (by decide) (by rfl) (by rfl) dX7_isOver_13
  · refine J.pu (fun _ _ _ _ k => lv_iconst (v := 0) X.1.1 X.1.2.1 dX7_isOver_12 (by decide) k) ?_
    exact J.zret (vr := jrI) (fin := fun _ : Int32 => σ) (t := t) X hr (by decide) (by rfl) (by rfl) dX7_isOver_13
noncomputable def X9_init_b (G : jG) (n : Nat) (σ : jH) (this : Nat) (a1 : Int32) (a2 : Int32) : Option (Unit × jH) :=
  bd (J4_init_4_X9 G n σ this none none 0 0) fun v5 S5 => (pI G S5 (some this) 8 6 a1).bind fun S10 => (pI G S10 (some this) 8 7 a2).bind fun S15 => some ((), S15)
noncomputable def X9_init (G : jG) (n : Nat) (σ : jH) (this : Nat) (a1 : Int32) (a2 : Int32) : Option (Unit × jH) := jck σ (X9_init_b G n σ this a1 a2)
set_option maxHeartbeats 4000000 in
set_option maxRecDepth 100000 in
theorem ct_X9_init (l : Launch) (G : jG) (n : Nat) (σ : jH) (this : Nat) (a1 : Int32) (a2 : Int32) : jCt l G yX9_init (ws_ yX9_init cX9_init 3 none) 3 78 jrV [.ref this, .int a1, .int a2] σ (X9_init G n σ this a1 a2) := by
  refine jCt.wr (lv := [(0, .ref this), (1, .int a1), (2, .int a2)]) (plainFor_of_name (by decide)) (Nat.le_of_ble_eq_true rfl) rfl ?_
  intro t p e s m args below meth c ls X hr hnm hl
  have X : jCx p c cX9_init 3 s m args RX9 G meth := X
  unfold X9_init_b
  refine J.pu (fun _ _ _ _ k => lv_aload_n X.1.1 X.1.2.1 dX9_init_0 rfl (lv_at hl 0 rfl) k) ?_
  refine J.pu (fun _ _ _ _ k => lv_null X.1.1 X.1.2.1 dX9_init_1 k) ?_
  refine J.pu (fun _ _ _ _ k => lv_null X.1.1 X.1.2.1 dX9_init_2 k) ?_
  refine J.pu (fun _ _ _ _ k => lv_iconst (v := 0) X.1.1 X.1.2.1 dX9_init_3 (by decide) k) ?_
  refine J.pu (fun _ _ _ _ k => lv_iconst (v := 0) X.1.1 X.1.2.1 dX9_init_4 (by decide) k) ?_
  refine J.bd' (fun v5 S5 h5 => ?_)
  refine J.cI (a := this) (As := [va_rf none, va_rf none, .int 0, .int 0]) (rest := []) (s2 := []) X ⟨rfl, rfl⟩ (ct_J4_init_4_X9 l G n σ this none none 0 0) h5 (fun _ _ => jcwI 4 X.1.2.2.2.2 q1583 q1584 q144 q1585 rfl rfl rfl (by decide +kernel) ⟨(Nat.le_of_ble_eq_true rfl), (Nat.le_of_ble_eq_true rfl)⟩) rfl hl.1 rfl rfl (Nat.le_of_ble_eq_true rfl) dX9_init_5 ?_
  refine J.pu (fun _ _ _ _ k => lv_aload_n X.1.1 X.1.2.1 dX9_init_8 rfl (lv_at hl 0 rfl) k) ?_
  refine J.pu (fun _ _ _ _ k => lv_iload_n X.1.1 X.1.2.1 dX9_init_9 rfl (lv_at hl 1 rfl) k) ?_
  refine J.putIF (k := 6) (ci := 8) X hnm in_X9 (show jCl[8]? = some (RX9, TX9, 8) from rfl) tyX9_ok (fun a ha b hb h => Or.inl (nmX9 a ha b hb h)) (by decide) q1589 (fun _ h => h) rfl rfl rfl dX9_init_10 (fun S10 h10 => ?_)
  refine J.pu (fun _ _ _ _ k => lv_aload_n X.1.1 X.1.2.1 dX9_init_13 rfl (lv_at hl 0 rfl) k) ?_
  refine J.pu (fun _ _ _ _ k => lv_iload_n X.1.1 X.1.2.1 dX9_init_14 rfl (lv_at hl 2 rfl) k) ?_
  refine J.putIF (k := 7) (ci := 8) X hnm in_X9 (show jCl[8]? = some (RX9, TX9, 8) from rfl) tyX9_ok (fun a ha b hb h => Or.inl (nmX9 a ha b hb h)) (by decide) q1591 (fun _ h => h) rfl rfl rfl dX9_init_15 (fun S15 h15 => ?_)
  exact J.vret (vr := fun t : Unit × jH => jrV t.1) (fin := Prod.snd) (t := t) X hr (by rfl) (by rfl) dX9_init_18
noncomputable def X6h_init_b (G : jG) (n : Nat) (σ : jH) (this : Nat) : Option (Unit × jH) :=
  bd (nI' σ 0 525) fun v8 S8 => (pR G S8 (some this) 5 0 (some v8)).bind fun S10 => bd (nI' S10 0 525) fun v17 S17 => (pR G S17 (some this) 5 1 (some v17)).bind fun S19 => bd (nI' S19 0 525) fun v26 S26 => (pR G S26 (some this) 5 2 (some v26)).bind fun S28 => bd (nI' S28 0 525) fun v35 S35 => (pR G S35 (some this) 5 3 (some v35)).bind fun S37 => bd (nI' S37 0 4200) fun v44 S44 => (pR G S44 (some this) 5 4 (some v44)).bind fun S46 => bd (nI' S46 0 600) fun v53 S53 => (pR G S53 (some this) 5 8 (some v53)).bind fun S55 => (pI G S55 (some this) 5 11 (-1)).bind fun S60 => bd (nI' S60 0 4) fun v65 S65 => (pR G S65 (some this) 5 19 (some v65)).bind fun S67 => bd (nI' S67 0 31) fun v73 S73 => (pR G S73 (some this) 5 20 (some v73)).bind fun S75 => bd (nI' S75 0 31) fun v81 S81 => (pR G S81 (some this) 5 21 (some v81)).bind fun S83 => bd (nI' S83 0 31) fun v89 S89 => (pR G S89 (some this) 5 22 (some v89)).bind fun S91 => bd (nI' S91 0 400) fun v98 S98 => (pR G S98 (some this) 5 24 (some v98)).bind fun S100 => (rc S100 (some this) 5).bind fun o107 => bd (mcall G S100 o107 (fun M => X6_begins n M 12 0)) fun v107 S107 => (gR S107 (some this) 5 0).bind fun v111 => (sI G S107 v111 0 19 2).bind fun S117 => (gR S117 (some this) 5 0).bind fun v119 => (sI G S117 v119 0 2 1).bind fun S124 => (rc S124 (some this) 5).bind fun o130 => bd (mcall G S124 o130 (fun M => X6_addsChute n M 4 2 1 1)) fun v130 S130 => (rc S130 (some this) 5).bind fun o139 => bd (mcall G S130 o139 (fun M => X6_addsChute n M 7 3 0 0)) fun v139 S139 => (rc S139 (some this) 5).bind fun o148 => bd (mcall G S139 o148 (fun M => X6_addsChute n M 9 1 0 4)) fun v148 S148 => some ((), S148)
noncomputable def X6h_init (G : jG) (n : Nat) (σ : jH) (this : Nat) : Option (Unit × jH) := jck σ (X6h_init_b G n σ this)
set_option maxHeartbeats 4000000 in
set_option maxRecDepth 100000 in
theorem ct_X6h_init (l : Launch) (G : jG) (n : Nat) (σ : jH) (this : Nat) : jCt l G yX6_init (ws_ yX6_init cX6_init 1 none) 2 48 jrV [.ref this] σ (X6h_init G n σ this) := by
  refine jCt.wr (lv := [(0, .ref this)]) (plainFor_of_name (by decide)) (Nat.le_of_ble_eq_true rfl) rfl ?_
  intro t p e s m args below meth c ls X hr hnm hl
  have X : jCx p c cX6_init 1 s m args RX6 G meth := X
  unfold X6h_init_b
  refine J.pu (fun _ _ _ _ k => lv_aload_n X.1.1 X.1.2.1 dX6_init_0 rfl (lv_at hl 0 rfl) k) ?_
  refine J.objI (a := this) X q2717 hl.1 dX6_init_1 (Nat.le_of_ble_eq_true rfl) (Nat.le_of_ble_eq_true rfl) ?_
  refine J.pu (fun _ _ _ _ k => lv_aload_n X.1.1 X.1.2.1 dX6_init_4 rfl (lv_at hl 0 rfl) k) ?_
  refine J.pu (fun _ _ _ _ k => lv_sipush (v := 525) X.1.1 X.1.2.1 dX6_init_5 (by decide) k) ?_
  refine J.nI0 X ⟨rfl, rfl⟩ dX6_init_8 (fun v8 S8 h8 => ?_)
  refine J.putRF (k := 0) (ci := 5) X hnm in_X6 (show jCl[5]? = some (RX6, TX6, 26) from rfl) tyX6_ok (fun a ha b hb h => Or.inl (nmX6 a ha b hb h)) (by decide) q2730 (fun _ h => h) rfl rfl (Or.inr ⟨_, rfl⟩) dX6_init_10 (fun S10 h10 => ?_)
  refine J.pu (fun _ _ _ _ k => lv_aload_n X.1.1 X.1.2.1 dX6_init_13 rfl (lv_at hl 0 rfl) k) ?_
  refine J.pu (fun _ _ _ _ k => lv_sipush (v := 525) X.1.1 X.1.2.1 dX6_init_14 (by decide) k) ?_
  refine J.nI0 X ⟨rfl, rfl⟩ dX6_init_17 (fun v17 S17 h17 => ?_)
  refine J.putRF (k := 1) (ci := 5) X hnm in_X6 (show jCl[5]? = some (RX6, TX6, 26) from rfl) tyX6_ok (fun a ha b hb h => Or.inl (nmX6 a ha b hb h)) (by decide) q2731 (fun _ h => h) rfl rfl (Or.inr ⟨_, rfl⟩) dX6_init_19 (fun S19 h19 => ?_)
  refine J.pu (fun _ _ _ _ k => lv_aload_n X.1.1 X.1.2.1 dX6_init_22 rfl (lv_at hl 0 rfl) k) ?_
  refine J.pu (fun _ _ _ _ k => lv_sipush (v := 525) X.1.1 X.1.2.1 dX6_init_23 (by decide) k) ?_
  refine J.nI0 X ⟨rfl, rfl⟩ dX6_init_26 (fun v26 S26 h26 => ?_)
  refine J.putRF (k := 2) (ci := 5) X hnm in_X6 (show jCl[5]? = some (RX6, TX6, 26) from rfl) tyX6_ok (fun a ha b hb h => Or.inl (nmX6 a ha b hb h)) (by decide) q2732 (fun _ h => h) rfl rfl (Or.inr ⟨_, rfl⟩) dX6_init_28 (fun S28 h28 => ?_)
  refine J.pu (fun _ _ _ _ k => lv_aload_n X.1.1 X.1.2.1 dX6_init_31 rfl (lv_at hl 0 rfl) k) ?_
  refine J.pu (fun _ _ _ _ k => lv_sipush (v := 525) X.1.1 X.1.2.1 dX6_init_32 (by decide) k) ?_
  refine J.nI0 X ⟨rfl, rfl⟩ dX6_init_35 (fun v35 S35 h35 => ?_)
  refine J.putRF (k := 3) (ci := 5) X hnm in_X6 (show jCl[5]? = some (RX6, TX6, 26) from rfl) tyX6_ok (fun a ha b hb h => Or.inl (nmX6 a ha b hb h)) (by decide) q2733 (fun _ h => h) rfl rfl (Or.inr ⟨_, rfl⟩) dX6_init_37 (fun S37 h37 => ?_)
  refine J.pu (fun _ _ _ _ k => lv_aload_n X.1.1 X.1.2.1 dX6_init_40 rfl (lv_at hl 0 rfl) k) ?_
  refine J.pu (fun _ _ _ _ k => lv_sipush (v := 4200) X.1.1 X.1.2.1 dX6_init_41 (by decide) k) ?_
  refine J.nI0 X ⟨rfl, rfl⟩ dX6_init_44 (fun v44 S44 h44 => ?_)
  refine J.putRF (k := 4) (ci := 5) X hnm in_X6 (show jCl[5]? = some (RX6, TX6, 26) from rfl) tyX6_ok (fun a ha b hb h => Or.inl (nmX6 a ha b hb h)) (by decide) q2734 (fun _ h => h) rfl rfl (Or.inr ⟨_, rfl⟩) dX6_init_46 (fun S46 h46 => ?_)
  refine J.pu (fun _ _ _ _ k => lv_aload_n X.1.1 X.1.2.1 dX6_init_49 rfl (lv_at hl 0 rfl) k) ?_
  refine J.pu (fun _ _ _ _ k => lv_sipush (v := 600) X.1.1 X.1.2.1 dX6_init_50 (by decide) k) ?_
  refine J.nI0 X ⟨rfl, rfl⟩ dX6_init_53 (fun v53 S53 h53 => ?_)
  refine J.putRF (k := 8) (ci := 5) X hnm in_X6 (show jCl[5]? = some (RX6, TX6, 26) from rfl) tyX6_ok (fun a ha b hb h => Or.inl (nmX6 a ha b hb h)) (by decide) q2738 (fun _ h => h) rfl rfl (Or.inr ⟨_, rfl⟩) dX6_init_55 (fun S55 h55 => ?_)
  refine J.pu (fun _ _ _ _ k => lv_aload_n X.1.1 X.1.2.1 dX6_init_58 rfl (lv_at hl 0 rfl) k) ?_
  refine J.pu (fun _ _ _ _ k => lv_iconst (v := (-1)) X.1.1 X.1.2.1 dX6_init_59 (by decide) k) ?_
  refine J.putI (k := 11) (ci := 5) X in_X6 (show jCl[5]? = some (RX6, TX6, 26) from rfl) tyX6_ok (fun a ha b hb h => Or.inl (nmX6 a ha b hb h)) (by decide) q2741 (fun _ h => h) rfl rfl dX6_init_60 (fun S60 h60 => ?_)
  refine J.pu (fun _ _ _ _ k => lv_aload_n X.1.1 X.1.2.1 dX6_init_63 rfl (lv_at hl 0 rfl) k) ?_
  refine J.pu (fun _ _ _ _ k => lv_iconst (v := 4) X.1.1 X.1.2.1 dX6_init_64 (by decide) k) ?_
  refine J.nI0 X ⟨rfl, rfl⟩ dX6_init_65 (fun v65 S65 h65 => ?_)
  refine J.putRF (k := 19) (ci := 5) X hnm in_X6 (show jCl[5]? = some (RX6, TX6, 26) from rfl) tyX6_ok (fun a ha b hb h => Or.inl (nmX6 a ha b hb h)) (by decide) q2749 (fun _ h => h) rfl rfl (Or.inr ⟨_, rfl⟩) dX6_init_67 (fun S67 h67 => ?_)
  refine J.pu (fun _ _ _ _ k => lv_aload_n X.1.1 X.1.2.1 dX6_init_70 rfl (lv_at hl 0 rfl) k) ?_
  refine J.pu (fun _ _ _ _ k => lv_bipush (v := 31) X.1.1 X.1.2.1 dX6_init_71 (by decide) k) ?_
  refine J.nI0 X ⟨rfl, rfl⟩ dX6_init_73 (fun v73 S73 h73 => ?_)
  refine J.putRF (k := 20) (ci := 5) X hnm in_X6 (show jCl[5]? = some (RX6, TX6, 26) from rfl) tyX6_ok (fun a ha b hb h => Or.inl (nmX6 a ha b hb h)) (by decide) q2750 (fun _ h => h) rfl rfl (Or.inr ⟨_, rfl⟩) dX6_init_75 (fun S75 h75 => ?_)
  refine J.pu (fun _ _ _ _ k => lv_aload_n X.1.1 X.1.2.1 dX6_init_78 rfl (lv_at hl 0 rfl) k) ?_
  refine J.pu (fun _ _ _ _ k => lv_bipush (v := 31) X.1.1 X.1.2.1 dX6_init_79 (by decide) k) ?_
  refine J.nI0 X ⟨rfl, rfl⟩ dX6_init_81 (fun v81 S81 h81 => ?_)
  refine J.putRF (k := 21) (ci := 5) X hnm in_X6 (show jCl[5]? = some (RX6, TX6, 26) from rfl) tyX6_ok (fun a ha b hb h => Or.inl (nmX6 a ha b hb h)) (by decide) q2751 (fun _ h => h) rfl rfl (Or.inr ⟨_, rfl⟩) dX6_init_83 (fun S83 h83 => ?_)
  refine J.pu (fun _ _ _ _ k => lv_aload_n X.1.1 X.1.2.1 dX6_init_86 rfl (lv_at hl 0 rfl) k) ?_
  refine J.pu (fun _ _ _ _ k => lv_bipush (v := 31) X.1.1 X.1.2.1 dX6_init_87 (by decide) k) ?_
  refine J.nI0 X ⟨rfl, rfl⟩ dX6_init_89 (fun v89 S89 h89 => ?_)
  refine J.putRF (k := 22) (ci := 5) X hnm in_X6 (show jCl[5]? = some (RX6, TX6, 26) from rfl) tyX6_ok (fun a ha b hb h => Or.inl (nmX6 a ha b hb h)) (by decide) q2752 (fun _ h => h) rfl rfl (Or.inr ⟨_, rfl⟩) dX6_init_91 (fun S91 h91 => ?_)
  refine J.pu (fun _ _ _ _ k => lv_aload_n X.1.1 X.1.2.1 dX6_init_94 rfl (lv_at hl 0 rfl) k) ?_
  refine J.pu (fun _ _ _ _ k => lv_sipush (v := 400) X.1.1 X.1.2.1 dX6_init_95 (by decide) k) ?_
  refine J.nI0 X ⟨rfl, rfl⟩ dX6_init_98 (fun v98 S98 h98 => ?_)
  refine J.putRF (k := 24) (ci := 5) X hnm in_X6 (show jCl[5]? = some (RX6, TX6, 26) from rfl) tyX6_ok (fun a ha b hb h => Or.inl (nmX6 a ha b hb h)) (by decide) q2754 (fun _ h => h) rfl rfl (Or.inr ⟨_, rfl⟩) dX6_init_100 (fun S100 h100 => ?_)
  refine J.pu (fun _ _ _ _ k => lv_aload_n X.1.1 X.1.2.1 dX6_init_103 rfl (lv_at hl 0 rfl) k) ?_
  refine J.pu (fun _ _ _ _ k => lv_bipush (v := 12) X.1.1 X.1.2.1 dX6_init_104 (by decide) k) ?_
  refine J.pu (fun _ _ _ _ k => lv_iconst (v := 0) X.1.1 X.1.2.1 dX6_init_106 (by decide) k) ?_
  refine J.bind (fun o107 g107 => ?_)
  refine J.bd' (fun v107 S107 h107 => ?_)
  refine J.cV (q := (RX6, TX6, 26)) (ci := 5) (As := [.int 12, .int 0]) (rest := []) (s2 := []) X ⟨rfl, rfl⟩ (jmcw (fun A hm σ9 hs M => ct_X6_begins l hm σ9 n M 12 0)) h107 (fun _ _ => cwV 2 X.1.2.2.2.2 (lw_V q2718 q2720 qs56 q174 q2721) rfl rfl rfl (by decide +kernel) ⟨(Nat.le_of_ble_eq_true rfl), (Nat.le_of_ble_eq_true rfl)⟩) g107 rfl rfl hl.1 rfl rfl (Nat.le_of_ble_eq_true rfl) dX6_init_107 ?_
  refine J.pu (fun _ _ _ _ k => lv_aload_n X.1.1 X.1.2.1 dX6_init_110 rfl (lv_at hl 0 rfl) k) ?_
  refine J.getR (k := 0) (ci := 5) X in_X6 (show jCl[5]? = some (RX6, TX6, 26) from rfl) (by decide) q2730 (fun _ h => h) dX6_init_111 (fun v111 h111 => ?_)
  refine J.pu (fun _ _ _ _ k => lv_bipush (v := 19) X.1.1 X.1.2.1 dX6_init_114 (by decide) k) ?_
  refine J.pu (fun _ _ _ _ k => lv_iconst (v := 2) X.1.1 X.1.2.1 dX6_init_116 (by decide) k) ?_
  refine J.sI0 X dX6_init_117 (fun S117 h117 => ?_)
  refine J.pu (fun _ _ _ _ k => lv_aload_n X.1.1 X.1.2.1 dX6_init_118 rfl (lv_at hl 0 rfl) k) ?_
  refine J.getR (k := 0) (ci := 5) X in_X6 (show jCl[5]? = some (RX6, TX6, 26) from rfl) (by decide) q2730 (fun _ h => h) dX6_init_119 (fun v119 h119 => ?_)
  refine J.pu (fun _ _ _ _ k => lv_iconst (v := 2) X.1.1 X.1.2.1 dX6_init_122 (by decide) k) ?_
  refine J.pu (fun _ _ _ _ k => lv_iconst (v := 1) X.1.1 X.1.2.1 dX6_init_123 (by decide) k) ?_
  refine J.sI0 X dX6_init_124 (fun S124 h124 => ?_)
  refine J.pu (fun _ _ _ _ k => lv_aload_n X.1.1 X.1.2.1 dX6_init_125 rfl (lv_at hl 0 rfl) k) ?_
  refine J.pu (fun _ _ _ _ k => lv_iconst (v := 4) X.1.1 X.1.2.1 dX6_init_126 (by decide) k) ?_
  refine J.pu (fun _ _ _ _ k => lv_iconst (v := 2) X.1.1 X.1.2.1 dX6_init_127 (by decide) k) ?_
  refine J.pu (fun _ _ _ _ k => lv_iconst (v := 1) X.1.1 X.1.2.1 dX6_init_128 (by decide) k) ?_
  refine J.pu (fun _ _ _ _ k => lv_iconst (v := 1) X.1.1 X.1.2.1 dX6_init_129 (by decide) k) ?_
  refine J.bind (fun o130 g130 => ?_)
  refine J.bd' (fun v130 S130 h130 => ?_)
  refine J.cV (q := (RX6, TX6, 26)) (ci := 5) (As := [.int 4, .int 2, .int 1, .int 1]) (rest := []) (s2 := []) X ⟨rfl, rfl⟩ (jmcw (fun A hm σ9 hs M => ct_X6_addsChute l hm σ9 n M 4 2 1 1)) h130 (fun _ _ => cwV 4 X.1.2.2.2.2 (lw_V q2722 q2724 qs57 q174 q2725) rfl rfl rfl (by decide +kernel) ⟨(Nat.le_of_ble_eq_true rfl), (Nat.le_of_ble_eq_true rfl)⟩) g130 rfl rfl hl.1 rfl rfl (Nat.le_of_ble_eq_true rfl) dX6_init_130 ?_
  refine J.pu (fun _ _ _ _ k => lv_aload_n X.1.1 X.1.2.1 dX6_init_133 rfl (lv_at hl 0 rfl) k) ?_
  refine J.pu (fun _ _ _ _ k => lv_bipush (v := 7) X.1.1 X.1.2.1 dX6_init_134 (by decide) k) ?_
  refine J.pu (fun _ _ _ _ k => lv_iconst (v := 3) X.1.1 X.1.2.1 dX6_init_136 (by decide) k) ?_
  refine J.pu (fun _ _ _ _ k => lv_iconst (v := 0) X.1.1 X.1.2.1 dX6_init_137 (by decide) k) ?_
  refine J.pu (fun _ _ _ _ k => lv_iconst (v := 0) X.1.1 X.1.2.1 dX6_init_138 (by decide) k) ?_
  refine J.bind (fun o139 g139 => ?_)
  refine J.bd' (fun v139 S139 h139 => ?_)
  refine J.cV (q := (RX6, TX6, 26)) (ci := 5) (As := [.int 7, .int 3, .int 0, .int 0]) (rest := []) (s2 := []) X ⟨rfl, rfl⟩ (jmcw (fun A hm σ9 hs M => ct_X6_addsChute l hm σ9 n M 7 3 0 0)) h139 (fun _ _ => cwV 4 X.1.2.2.2.2 (lw_V q2722 q2724 qs57 q174 q2725) rfl rfl rfl (by decide +kernel) ⟨(Nat.le_of_ble_eq_true rfl), (Nat.le_of_ble_eq_true rfl)⟩) g139 rfl rfl hl.1 rfl rfl (Nat.le_of_ble_eq_true rfl) dX6_init_139 ?_
  refine J.pu (fun _ _ _ _ k => lv_aload_n X.1.1 X.1.2.1 dX6_init_142 rfl (lv_at hl 0 rfl) k) ?_
  refine J.pu (fun _ _ _ _ k => lv_bipush (v := 9) X.1.1 X.1.2.1 dX6_init_143 (by decide) k) ?_
  refine J.pu (fun _ _ _ _ k => lv_iconst (v := 1) X.1.1 X.1.2.1 dX6_init_145 (by decide) k) ?_
  refine J.pu (fun _ _ _ _ k => lv_iconst (v := 0) X.1.1 X.1.2.1 dX6_init_146 (by decide) k) ?_
  refine J.pu (fun _ _ _ _ k => lv_iconst (v := 4) X.1.1 X.1.2.1 dX6_init_147 (by decide) k) ?_
  refine J.bind (fun o148 g148 => ?_)
  refine J.bd' (fun v148 S148 h148 => ?_)
  refine J.cV (q := (RX6, TX6, 26)) (ci := 5) (As := [.int 9, .int 1, .int 0, .int 4]) (rest := []) (s2 := []) X ⟨rfl, rfl⟩ (jmcw (fun A hm σ9 hs M => ct_X6_addsChute l hm σ9 n M 9 1 0 4)) h148 (fun _ _ => cwV 4 X.1.2.2.2.2 (lw_V q2722 q2724 qs57 q174 q2725) rfl rfl rfl (by decide +kernel) ⟨(Nat.le_of_ble_eq_true rfl), (Nat.le_of_ble_eq_true rfl)⟩) g148 rfl rfl hl.1 rfl rfl (Nat.le_of_ble_eq_true rfl) dX6_init_148 ?_
  exact J.vret (vr := fun t : Unit × jH => jrV t.1) (fin := Prod.snd) (t := t) X hr (by rfl) (by rfl) dX6_init_151
