/-! the component, walked: printed by wip gen/comp.py -/
set_option maxRecDepth 100000
noncomputable def J3_init_4_X9_b (G : jG) (n : Nat) (σ : jH) (this : Nat) (a1 : Option Nat) (a2 : Option Nat) (a3 : Int32) (a4 : Int32) : Option (Unit × jH) :=
  (pR G σ (some this) 8 0 (some this)).bind fun S6 => (pR G S6 (some this) 8 1 (G.2.2.2 107)).bind fun S13 => (pR G S13 (some this) 8 2 (G.2.2.2 108)).bind fun S20 => if a4 = 0 then ((pR G S20 (some this) 8 1 none).bind fun S38 => (pR G S38 (some this) 8 3 a1).bind fun S43 => (pR G S43 (some this) 8 0 a2).bind fun S48 => if a3 = 0 then ((pR G S48 (some this) 8 2 none).bind fun S57 => some ((), S57)) else (some ((), S48))) else (none)
noncomputable def J3_init_4_X9 (G : jG) (n : Nat) (σ : jH) (this : Nat) (a1 : Option Nat) (a2 : Option Nat) (a3 : Int32) (a4 : Int32) : Option (Unit × jH) := jck σ (J3_init_4_X9_b G n σ this a1 a2 a3 a4)
set_option maxHeartbeats 4000000 in
set_option maxRecDepth 100000 in
theorem ct_J3_init_4_X9 (l : Launch) (G : jG) (n : Nat) (σ : jH) (this : Nat) (a1 : Option Nat) (a2 : Option Nat) (a3 : Int32) (a4 : Int32) : jCt l G yJ3_init_4 (ws_ yJ3_init_4 cJ3_init_4 5 none) 1 30 jrV [.ref this, va_rf a1, va_rf a2, .int a3, .int a4] σ (J3_init_4_X9 G n σ this a1 a2 a3 a4) := by
  refine jCt.wr (lv := [(0, .ref this), (1, va_rf a1), (2, va_rf a2), (3, .int a3), (4, .int a4)]) (plainFor_of_name (by decide)) (by simp [lg_sl, va_rf_cat, jcI, jcA, jcJ, jcD, jcF]) (by simp [lv_args, va_rf_cat, jcI, jcA, jcJ, jcD, jcF]) ?_
  intro t p e s m args below meth c ls X hr hnm hl
  have X : jCx p c cJ3_init_4 5 s m args RJ3 G meth := X
  unfold J3_init_4_X9_b
  refine J.pu (fun _ _ _ _ k => lv_aload_n X.1.1 X.1.2.1 dJ3_init_4_0 rfl (lv_at hl 0 rfl) k) ?_
  refine J.objI (a := this) X q251 hl.1 dJ3_init_4_1 (Nat.le_of_ble_eq_true rfl) (Nat.le_of_ble_eq_true rfl) ?_
  refine J.pu (fun _ _ _ _ k => lv_aload_n X.1.1 X.1.2.1 dJ3_init_4_4 rfl (lv_at hl 0 rfl) k) ?_
  refine J.pu (fun _ _ _ _ k => lv_aload_n X.1.1 X.1.2.1 dJ3_init_4_5 rfl (lv_at hl 0 rfl) k) ?_
  refine J.putR (k := 0) (ci := 8) X in_X9 (show jCl[8]? = some (RX9, TX9, 8) from rfl) tyX9_ok (fun a ha b hb h => Or.inl (nmX9 a ha b hb h)) (by decide) q508 (fun _ h => h) rfl (Or.inl ⟨_, rfl⟩) dJ3_init_4_6 (fun S6 h6 => ?_)
  refine J.pu (fun _ _ _ _ k => lv_aload_n X.1.1 X.1.2.1 dJ3_init_4_9 rfl (lv_at hl 0 rfl) k) ?_
  refine J.getsR (i := 107) X (List.mem_of_getElem? (i := 7) rfl) q252 (fun _ h => h) dJ3_init_4_10 ?_
  refine J.putR (k := 1) (ci := 8) X in_X9 (show jCl[8]? = some (RX9, TX9, 8) from rfl) tyX9_ok (fun a ha b hb h => Or.inl (nmX9 a ha b hb h)) (by decide) q509 (fun _ h => h) rfl (Or.inr ⟨_, rfl⟩) dJ3_init_4_13 (fun S13 h13 => ?_)
  refine J.pu (fun _ _ _ _ k => lv_aload_n X.1.1 X.1.2.1 dJ3_init_4_16 rfl (lv_at hl 0 rfl) k) ?_
  refine J.getsR (i := 108) X (List.mem_of_getElem? (i := 8) rfl) q254 (fun _ h => h) dJ3_init_4_17 ?_
  refine J.putR (k := 2) (ci := 8) X in_X9 (show jCl[8]? = some (RX9, TX9, 8) from rfl) tyX9_ok (fun a ha b hb h => Or.inl (nmX9 a ha b hb h)) (by decide) q510 (fun _ h => h) rfl (Or.inl ⟨_, rfl⟩) dJ3_init_4_20 (fun S20 h20 => ?_)
  refine J.pu (fun _ _ _ _ k => lv_iload X.1.1 X.1.2.1 dJ3_init_4_23 (lv_at hl 4 rfl) k) ?_
  refine J.br (fun _ _ _ _ ka kb => lv_if_eq (tgt := 36) X.1.1 X.1.2.1 dJ3_init_4_25 (by decide) ka kb) (fun c25 => ?_) (fun c25 => ?_)
  · refine J.pu (fun _ _ _ _ k => lv_aload_n X.1.1 X.1.2.1 dJ3_init_4_36 rfl (lv_at hl 0 rfl) k) ?_
    refine J.pu (fun _ _ _ _ k => lv_null X.1.1 X.1.2.1 dJ3_init_4_37 k) ?_
    refine J.putR (k := 1) (ci := 8) X in_X9 (show jCl[8]? = some (RX9, TX9, 8) from rfl) tyX9_ok (fun a ha b hb h => Or.inl (nmX9 a ha b hb h)) (by decide) q509 (fun _ h => h) rfl (Or.inr ⟨_, rfl⟩) dJ3_init_4_38 (fun S38 h38 => ?_)
    refine J.pu (fun _ _ _ _ k => lv_aload_n X.1.1 X.1.2.1 dJ3_init_4_41 rfl (lv_at hl 0 rfl) k) ?_
    refine J.pu (fun _ _ _ _ k => W.rload_n X.1.1 X.1.2.1 dJ3_init_4_42 rfl (lv_at hl 1 rfl) k) ?_
    refine J.putR (k := 3) (ci := 8) X in_X9 (show jCl[8]? = some (RX9, TX9, 8) from rfl) tyX9_ok (fun a ha b hb h => Or.inl (nmX9 a ha b hb h)) (by decide) q507 (fun _ h => h) rfl (Or.inl ⟨_, rfl⟩) dJ3_init_4_43 (fun S43 h43 => ?_)
    refine J.pu (fun _ _ _ _ k => lv_aload_n X.1.1 X.1.2.1 dJ3_init_4_46 rfl (lv_at hl 0 rfl) k) ?_
    refine J.pu (fun _ _ _ _ k => W.rload_n X.1.1 X.1.2.1 dJ3_init_4_47 rfl (lv_at hl 2 rfl) k) ?_
    refine J.putR (k := 0) (ci := 8) X in_X9 (show jCl[8]? = some (RX9, TX9, 8) from rfl) tyX9_ok (fun a ha b hb h => Or.inl (nmX9 a ha b hb h)) (by decide) q508 (fun _ h => h) rfl (Or.inl ⟨_, rfl⟩) dJ3_init_4_48 (fun S48 h48 => ?_)
    refine J.pu (fun _ _ _ _ k => lv_iload_n X.1.1 X.1.2.1 dJ3_init_4_51 rfl (lv_at hl 3 rfl) k) ?_
    refine J.br (fun _ _ _ _ ka kb => lv_if_ne (tgt := 60) X.1.1 X.1.2.1 dJ3_init_4_52 (by decide) kb ka) (fun c52 => ?_) (fun c52 => ?_)
    · refine J.pu (fun _ _ _ _ k => lv_aload_n X.1.1 X.1.2.1 dJ3_init_4_55 rfl (lv_at hl 0 rfl) k) ?_
      refine J.pu (fun _ _ _ _ k => lv_null X.1.1 X.1.2.1 dJ3_init_4_56 k) ?_
      refine J.putR (k := 2) (ci := 8) X in_X9 (show jCl[8]? = some (RX9, TX9, 8) from rfl) tyX9_ok (fun a ha b hb h => Or.inl (nmX9 a ha b hb h)) (by decide) q510 (fun _ h => h) rfl (Or.inl ⟨_, rfl⟩) dJ3_init_4_57 (fun S57 h57 => ?_)
      exact J.vret (vr := fun t : Unit × jH => jrV t.1) (fin := Prod.snd) (t := t) X hr (by rfl) (by rfl) dJ3_init_4_60
    · exact J.vret (vr := fun t : Unit × jH => jrV t.1) (fin := Prod.snd) (t := t) X hr (by rfl) (by rfl) dJ3_init_4_60
  · refine J.pu (fun _ _ _ _ k => lv_aload_n X.1.1 X.1.2.1 dJ3_init_4_28 rfl (lv_at hl 0 rfl) k) ?_
    exact J.nil_
noncomputable def J4_init_4_X9_b (G : jG) (n : Nat) (σ : jH) (this : Nat) (a1 : Option Nat) (a2 : Option Nat) (a3 : Int32) (a4 : Int32) : Option (Unit × jH) :=
  bd (J3_init_4_X9 G n σ this a1 a2 a3 a4) fun v6 S6 => some ((), S6)
noncomputable def J4_init_4_X9 (G : jG) (n : Nat) (σ : jH) (this : Nat) (a1 : Option Nat) (a2 : Option Nat) (a3 : Int32) (a4 : Int32) : Option (Unit × jH) := jck σ (J4_init_4_X9_b G n σ this a1 a2 a3 a4)
set_option maxHeartbeats 4000000 in
set_option maxRecDepth 100000 in
theorem ct_J4_init_4_X9 (l : Launch) (G : jG) (n : Nat) (σ : jH) (this : Nat) (a1 : Option Nat) (a2 : Option Nat) (a3 : Int32) (a4 : Int32) : jCt l G yJ4_init_4 (ws_ yJ4_init_4 cJ4_init_4 5 none) 2 54 jrV [.ref this, va_rf a1, va_rf a2, .int a3, .int a4] σ (J4_init_4_X9 G n σ this a1 a2 a3 a4) := by
  refine jCt.wr (lv := [(0, .ref this), (1, va_rf a1), (2, va_rf a2), (3, .int a3), (4, .int a4)]) (plainFor_of_name (by decide)) (by simp [lg_sl, va_rf_cat, jcI, jcA, jcJ, jcD, jcF]) (by simp [lv_args, va_rf_cat, jcI, jcA, jcJ, jcD, jcF]) ?_
  intro t p e s m args below meth c ls X hr hnm hl
  have X : jCx p c cJ4_init_4 5 s m args RJ4 G meth := X
  unfold J4_init_4_X9_b
  refine J.pu (fun _ _ _ _ k => lv_aload_n X.1.1 X.1.2.1 dJ4_init_4_0 rfl (lv_at hl 0 rfl) k) ?_
  refine J.pu (fun _ _ _ _ k => W.rload_n X.1.1 X.1.2.1 dJ4_init_4_1 rfl (lv_at hl 1 rfl) k) ?_
  refine J.pu (fun _ _ _ _ k => W.rload_n X.1.1 X.1.2.1 dJ4_init_4_2 rfl (lv_at hl 2 rfl) k) ?_
  refine J.pu (fun _ _ _ _ k => lv_iload_n X.1.1 X.1.2.1 dJ4_init_4_3 rfl (lv_at hl 3 rfl) k) ?_
  refine J.pu (fun _ _ _ _ k => lv_iload X.1.1 X.1.2.1 dJ4_init_4_4 (lv_at hl 4 rfl) k) ?_
  refine J.bd' (fun v6 S6 h6 => ?_)
  refine J.cI (a := this) (As := [va_rf a1, va_rf a2, .int a3, .int a4]) (rest := []) (s2 := []) X ⟨rfl, rfl⟩ (ct_J3_init_4_X9 l G n σ this a1 a2 a3 a4) h6 (fun _ _ => jcwI 4 X.1.2.2.2.2 q1586 q1587 q143 q1588 rfl rfl rfl (by decide +kernel) ⟨(Nat.le_of_ble_eq_true rfl), (Nat.le_of_ble_eq_true rfl)⟩) rfl hl.1 rfl rfl (Nat.le_of_ble_eq_true rfl) dJ4_init_4_6 ?_
  exact J.vret (vr := fun t : Unit × jH => jrV t.1) (fin := Prod.snd) (t := t) X hr (by rfl) (by rfl) dJ4_init_4_9
noncomputable def X1_appends_h3 (G : jG) (n : Nat) (this : Nat) (a1 : Int32) (rec3 : Int32 × jH → Option (Unit × jH)) (q3 : Int32 × jH) : Option (Unit × jH) :=
  let x2_3 := q3.1; let B3 := q3.2; if x2_3 < 0 then (some ((), B3)) else ((gR B3 (some this) 0 0).bind fun v8 => (gI B3 (some this) 0 1).bind fun v12 => (sI G B3 v8 1 v12 ((a1 >>> (x2_3 &&& 31)).toInt8.toInt32)).bind fun S19 => (gI S19 (some this) 0 1).bind fun v22 => (pI G S19 (some this) 0 1 (v22 + 1)).bind fun S27 => rec3 ((x2_3 + (-8)), S27))
noncomputable def X1_appends_b (G : jG) (n : Nat) (σ : jH) (this : Nat) (a1 : Int32) : Option (Unit × jH) :=
  jloop (X1_appends_h3 G n this a1) n (24, σ)
noncomputable def X1_appends (G : jG) (n : Nat) (σ : jH) (this : Nat) (a1 : Int32) : Option (Unit × jH) := jck σ (X1_appends_b G n σ this a1)
set_option maxHeartbeats 4000000 in
set_option maxRecDepth 100000 in
theorem ct_X1_appends (l : Launch) (G : jG) (n : Nat) (σ : jH) (this : Nat) (a1 : Int32) : jCt l G yX1_appends (ws_ yX1_appends cX1_appends 3 none) 0 0 jrV [.ref this, .int a1] σ (X1_appends G n σ this a1) := by
  refine jCt.wr (lv := [(0, .ref this), (1, .int a1)]) (plainFor_of_name (by decide)) (Nat.le_of_ble_eq_true rfl) rfl ?_
  intro t p e s m args below meth c ls X hr hnm hl
  have X : jCx p c cX1_appends 3 s m args RX1 G meth := X
  have L3 : ∀ (n3 : Nat) (x2_3 : Int32) (B3 : jH) (ls : Array Slot), lv_has ls 3 [(0, .ref this), (1, .int a1), (2, .int x2_3)] → jGo l G 0 0 σ (Prod.snd : Unit × jH → jH) (fun t => jrV t.1) t p e s m args below meth c (jloop (X1_appends_h3 G n this a1) n3 (x2_3, B3)) B3 (F0 m 3 ls []) := by
    intro n3
    induction n3 with
    | zero => intro x2_3 B3 ls hl; exact J.nil_
    | succ n3 ih3 =>
      intro x2_3 B3 ls hl
      refine J.eq (jloop_s _ _ _) ?_
      dsimp only [X1_appends_h3]
      refine J.pu (fun _ _ _ _ k => lv_iload_n X.1.1 X.1.2.1 dX1_appends_3 rfl (lv_at hl 2 rfl) k) ?_
      refine J.br (fun _ _ _ _ ka kb => lv_if_lt (tgt := 36) X.1.1 X.1.2.1 dX1_appends_4 (by decide) ka kb) (fun c4 => ?_) (fun c4 => ?_)
      · exact J.vret (vr := fun t : Unit × jH => jrV t.1) (fin := Prod.snd) (t := t) X hr (by rfl) (by rfl) dX1_appends_36
      · refine J.pu (fun _ _ _ _ k => lv_aload_n X.1.1 X.1.2.1 dX1_appends_7 rfl (lv_at hl 0 rfl) k) ?_
        refine J.getR (k := 0) (ci := 0) X in_X1 (show jCl[0]? = some (RX1, TX1, 9) from rfl) (by decide) q1323 (fun _ h => h) dX1_appends_8 (fun v8 h8 => ?_)
        refine J.pu (fun _ _ _ _ k => lv_aload_n X.1.1 X.1.2.1 dX1_appends_11 rfl (lv_at hl 0 rfl) k) ?_
        refine J.getI (k := 1) (ci := 0) X in_X1 (show jCl[0]? = some (RX1, TX1, 9) from rfl) (by decide) q1325 (fun _ h => h) dX1_appends_12 (fun v12 h12 => ?_)
        refine J.pu (fun _ _ _ _ k => lv_iload_n X.1.1 X.1.2.1 dX1_appends_15 rfl (lv_at hl 1 rfl) k) ?_
        refine J.pu (fun _ _ _ _ k => lv_iload_n X.1.1 X.1.2.1 dX1_appends_16 rfl (lv_at hl 2 rfl) k) ?_
        refine J.pu (fun _ _ _ _ k => lv_ishr X.1.1 X.1.2.1 dX1_appends_17 k) ?_
        refine J.pu (fun _ _ _ _ k => lv_i2b (v := (a1 >>> (x2_3 &&& 31)).toInt8.toInt32) X.1.1 X.1.2.1 dX1_appends_18 rfl k) ?_
        refine J.sI1 X dX1_appends_19 (fun S19 h19 => ?_)
        refine J.pu (fun _ _ _ _ k => lv_aload_n X.1.1 X.1.2.1 dX1_appends_20 rfl (lv_at hl 0 rfl) k) ?_
        refine J.pu (fun _ _ _ _ k => lv_dup X.1.1 X.1.2.1 dX1_appends_21 rfl k) ?_
        refine J.getI (k := 1) (ci := 0) X in_X1 (show jCl[0]? = some (RX1, TX1, 9) from rfl) (by decide) q1325 (fun _ h => h) dX1_appends_22 (fun v22 h22 => ?_)
        refine J.pu (fun _ _ _ _ k => lv_iconst (v := 1) X.1.1 X.1.2.1 dX1_appends_25 (by decide) k) ?_
        refine J.pu (fun _ _ _ _ k => lv_iadd X.1.1 X.1.2.1 dX1_appends_26 k) ?_
        refine J.putI (k := 1) (ci := 0) X in_X1 (show jCl[0]? = some (RX1, TX1, 9) from rfl) tyX1_ok (fun a ha b hb h => Or.inl (nmX1 a ha b hb h)) (by decide) q1325 (fun _ h => h) rfl rfl dX1_appends_27 (fun S27 h27 => ?_)
        refine J.iinc (k := 2) (lv' := [(2, .int (x2_3 + (-8))), (0, .ref this), (1, .int a1)]) (w := (x2_3 + (-8))) X.1.1 X.1.2.1 dX1_appends_30 hl rfl (by rw [show Int32.ofInt (-8) = ((-8) : Int32) from by decide]) (by decide) (by first | rfl | simp [va_rf_cat, jcI, jcA, jcJ, jcD, jcF]) (fun ls hl => ?_)
        refine J.pu (fun _ _ _ _ k => lv_goto (tgt := 3) X.1.1 X.1.2.1 dX1_appends_33 (by decide) k) ?_
        exact ih3 (x2_3 + (-8)) S27 ls (lv_sub hl [1, 2, 0] rfl)
  unfold X1_appends_b
  refine J.pu (fun _ _ _ _ k => lv_bipush (v := 24) X.1.1 X.1.2.1 dX1_appends_0 (by decide) k) ?_
  refine J.istore_n (i := 2) (lv' := [(2, .int 24), (0, .ref this), (1, .int a1)]) X.1.1 X.1.2.1 dX1_appends_2 rfl hl (by decide) (by first | rfl | simp [va_rf_cat, jcI, jcA, jcJ, jcD, jcF]) (fun ls hl => ?_)
  exact L3 n 24 σ ls (lv_sub hl [1, 2, 0] rfl)
noncomputable def X1_isIn (G : jG) (n : Nat) (σ : jH) (a0 : Int64) (a2 : Int64) (a4 : Int64) : Option (Int32) :=
  if (lg_cmp a0 a2) < 0 then (some 0) else (if 0 < (lg_cmp a0 a4) then (some 0) else (some 1))
set_option maxHeartbeats 4000000 in
set_option maxRecDepth 100000 in
theorem ct_X1_isIn (l : Launch) (G : jG) (n : Nat) (σ : jH) (a0 : Int64) (a2 : Int64) (a4 : Int64) : jCt l G yX1_isIn (ws_ yX1_isIn cX1_isIn 6 (some .boolean)) 0 0 jrI [.long a0, .long a2, .long a4] σ (jrd σ (X1_isIn G n σ a0 a2 a4)) := by
  refine jCt.rd (lv := [(0, .long a0), (2, .long a2), (4, .long a4)]) (plainFor_of_name (by decide)) (Nat.le_of_ble_eq_true rfl) rfl ?_
  intro t p e s m args below meth c ls X hr hnm hl
  have X : jCx p c cX1_isIn 6 s m args RX1 G meth := X
  unfold X1_isIn
  refine J.pu (fun _ _ _ _ k => lv_lload_n X.1.1 X.1.2.1 dX1_isIn_0 rfl (lv_at hl 0 rfl) k) ?_
  refine J.pu (fun _ _ _ _ k => lv_lload_n X.1.1 X.1.2.1 dX1_isIn_1 rfl (lv_at hl 1 rfl) k) ?_
  refine J.pu (fun _ _ _ _ k => W.lcmp X.1.1 X.1.2.1 dX1_isIn_2 k) ?_
  refine J.br (fun _ _ _ _ ka kb => lv_if_lt (tgt := 17) X.1.1 X.1.2.1 dX1_isIn_3 (by decide) ka kb) (fun c3 => ?_) (fun c3 => ?_)
  · refine J.pu (fun _ _ _ _ k => lv_iconst (v := 0) X.1.1 X.1.2.1 dX1_isIn_17 (by decide) k) ?_
    exact J.zret (vr := jrI) (fin := fun _ : Int32 => σ) (t := t) X hr (by decide) (by rfl) (by rfl) dX1_isIn_18
  · refine J.pu (fun _ _ _ _ k => lv_lload_n X.1.1 X.1.2.1 dX1_isIn_6 rfl (lv_at hl 0 rfl) k) ?_
    refine J.pu (fun _ _ _ _ k => lv_lload X.1.1 X.1.2.1 dX1_isIn_7 (lv_at hl 2 rfl) k) ?_
    refine J.pu (fun _ _ _ _ k => W.lcmp X.1.1 X.1.2.1 dX1_isIn_9 k) ?_
    refine J.br (fun _ _ _ _ ka kb => lv_if_gt (tgt := 17) X.1.1 X.1.2.1 dX1_isIn_10 (by decide) ka kb) (fun c10 => ?_) (fun c10 => ?_)
    · refine J.pu (fun _ _ _ _ k => lv_iconst (v := 0) X.1.1 X.1.2.1 dX1_isIn_17 (by decide) k) ?_
      exact J.zret (vr := jrI) (fin := fun _ : Int32 => σ) (t := t) X hr (by decide) (by rfl) (by rfl) dX1_isIn_18
    · refine J.pu (fun _ _ _ _ k => lv_iconst (v := 1) X.1.1 X.1.2.1 dX1_isIn_13 (by decide) k) ?_
      refine J.pu (fun _ _ _ _ k => lv_goto (tgt := 18) X.1.1 X.1.2.1 dX1_isIn_14 (by decide) k) ?_
      exact J.zret (vr := jrI) (fin := fun _ : Int32 => σ) (t := t) X hr (by decide) (by rfl) (by rfl) dX1_isIn_18
noncomputable def X1_startsText_b (G : jG) (n : Nat) (σ : jH) (this : Nat) : Option (Unit × jH) :=
  (pI G σ (some this) 0 2 0).bind fun S2 => (pI G S2 (some this) 0 3 (-1)).bind fun S7 => some ((), S7)
noncomputable def X1_startsText (G : jG) (n : Nat) (σ : jH) (this : Nat) : Option (Unit × jH) := jck σ (X1_startsText_b G n σ this)
set_option maxHeartbeats 4000000 in
set_option maxRecDepth 100000 in
theorem ct_X1_startsText (l : Launch) (G : jG) (n : Nat) (σ : jH) (this : Nat) : jCt l G yX1_startsText (ws_ yX1_startsText cX1_startsText 1 none) 0 0 jrV [.ref this] σ (X1_startsText G n σ this) := by
  refine jCt.wr (lv := [(0, .ref this)]) (plainFor_of_name (by decide)) (Nat.le_of_ble_eq_true rfl) rfl ?_
  intro t p e s m args below meth c ls X hr hnm hl
  have X : jCx p c cX1_startsText 1 s m args RX1 G meth := X
  unfold X1_startsText_b
  refine J.pu (fun _ _ _ _ k => lv_aload_n X.1.1 X.1.2.1 dX1_startsText_0 rfl (lv_at hl 0 rfl) k) ?_
  refine J.pu (fun _ _ _ _ k => lv_iconst (v := 0) X.1.1 X.1.2.1 dX1_startsText_1 (by decide) k) ?_
  refine J.putI (k := 2) (ci := 0) X in_X1 (show jCl[0]? = some (RX1, TX1, 9) from rfl) tyX1_ok (fun a ha b hb h => Or.inl (nmX1 a ha b hb h)) (by decide) q1326 (fun _ h => h) rfl rfl dX1_startsText_2 (fun S2 h2 => ?_)
  refine J.pu (fun _ _ _ _ k => lv_aload_n X.1.1 X.1.2.1 dX1_startsText_5 rfl (lv_at hl 0 rfl) k) ?_
  refine J.pu (fun _ _ _ _ k => lv_iconst (v := (-1)) X.1.1 X.1.2.1 dX1_startsText_6 (by decide) k) ?_
  refine J.putI (k := 3) (ci := 0) X in_X1 (show jCl[0]? = some (RX1, TX1, 9) from rfl) tyX1_ok (fun a ha b hb h => Or.inl (nmX1 a ha b hb h)) (by decide) q1327 (fun _ h => h) rfl rfl dX1_startsText_7 (fun S7 h7 => ?_)
  exact J.vret (vr := fun t : Unit × jH => jrV t.1) (fin := Prod.snd) (t := t) X hr (by rfl) (by rfl) dX1_startsText_10
noncomputable def X1_bit (G : jG) (n : Nat) (σ : jH) (a0 : Int32) : Option (Int32) :=
  if a0 = 0 then (some 0) else (some 1)
set_option maxHeartbeats 4000000 in
set_option maxRecDepth 100000 in
theorem ct_X1_bit (l : Launch) (G : jG) (n : Nat) (σ : jH) (a0 : Int32) : jCt l G yX1_bit (ws_ yX1_bit cX1_bit 1 (some .int)) 0 0 jrI [.int a0] σ (jrd σ (X1_bit G n σ a0)) := by
  refine jCt.rd (lv := [(0, .int a0)]) (plainFor_of_name (by decide)) (Nat.le_of_ble_eq_true rfl) rfl ?_
  intro t p e s m args below meth c ls X hr hnm hl
  have X : jCx p c cX1_bit 1 s m args RX1 G meth := X
  unfold X1_bit
  refine J.pu (fun _ _ _ _ k => lv_iload_n X.1.1 X.1.2.1 dX1_bit_0 rfl (lv_at hl 0 rfl) k) ?_
  refine J.br (fun _ _ _ _ ka kb => lv_if_eq (tgt := 8) X.1.1 X.1.2.1 dX1_bit_1 (by decide) ka kb) (fun c1 => ?_) (fun c1 => ?_)
  · refine J.pu (fun _ _ _ _ k => lv_iconst (v := 0) X.1.1 X.1.2.1 dX1_bit_8 (by decide) k) ?_
    exact J.iret (vr := jrI) (fin := fun _ : Int32 => σ) (t := t) X hr (by rfl) (by rfl) dX1_bit_9
  · refine J.pu (fun _ _ _ _ k => lv_iconst (v := 1) X.1.1 X.1.2.1 dX1_bit_4 (by decide) k) ?_
    refine J.pu (fun _ _ _ _ k => lv_goto (tgt := 9) X.1.1 X.1.2.1 dX1_bit_5 (by decide) k) ?_
    exact J.iret (vr := jrI) (fin := fun _ : Int32 => σ) (t := t) X hr (by rfl) (by rfl) dX1_bit_9
noncomputable def X1_fails_b (G : jG) (n : Nat) (σ : jH) (this : Nat) (a1 : Option Nat) : Option (Int32 × jH) :=
  (gI σ a1 8 6).bind fun v2 => (pI G σ (some this) 0 2 v2).bind fun S5 => (gI S5 a1 8 7).bind fun v10 => (pI G S5 (some this) 0 3 v10).bind fun S13 => some ((-1), S13)
noncomputable def X1_fails (G : jG) (n : Nat) (σ : jH) (this : Nat) (a1 : Option Nat) : Option (Int32 × jH) := jck σ (X1_fails_b G n σ this a1)
set_option maxHeartbeats 4000000 in
set_option maxRecDepth 100000 in
theorem ct_X1_fails (l : Launch) (G : jG) (n : Nat) (σ : jH) (this : Nat) (a1 : Option Nat) : jCt l G yX1_fails (ws_ yX1_fails cX1_fails 2 (some .int)) 0 0 jrI [.ref this, va_rf a1] σ (X1_fails G n σ this a1) := by
  refine jCt.wr (lv := [(0, .ref this), (1, va_rf a1)]) (plainFor_of_name (by decide)) (by simp [lg_sl, va_rf_cat, jcI, jcA, jcJ, jcD, jcF]) (by simp [lv_args, va_rf_cat, jcI, jcA, jcJ, jcD, jcF]) ?_
  intro t p e s m args below meth c ls X hr hnm hl
  have X : jCx p c cX1_fails 2 s m args RX1 G meth := X
  unfold X1_fails_b
  refine J.pu (fun _ _ _ _ k => lv_aload_n X.1.1 X.1.2.1 dX1_fails_0 rfl (lv_at hl 0 rfl) k) ?_
  refine J.pu (fun _ _ _ _ k => W.rload_n X.1.1 X.1.2.1 dX1_fails_1 rfl (lv_at hl 1 rfl) k) ?_
  refine J.getIN (k := 6) (ci := 8) X in_X9 (show jCl[8]? = some (RX9, TX9, 8) from rfl) (by decide) jnf56 (fun _ h => h) dX1_fails_2 (fun v2 h2 => ?_)
  refine J.putI (k := 2) (ci := 0) X in_X1 (show jCl[0]? = some (RX1, TX1, 9) from rfl) tyX1_ok (fun a ha b hb h => Or.inl (nmX1 a ha b hb h)) (by decide) q1326 (fun _ h => h) rfl rfl dX1_fails_5 (fun S5 h5 => ?_)
  refine J.pu (fun _ _ _ _ k => lv_aload_n X.1.1 X.1.2.1 dX1_fails_8 rfl (lv_at hl 0 rfl) k) ?_
  refine J.pu (fun _ _ _ _ k => W.rload_n X.1.1 X.1.2.1 dX1_fails_9 rfl (lv_at hl 1 rfl) k) ?_
  refine J.getIN (k := 7) (ci := 8) X in_X9 (show jCl[8]? = some (RX9, TX9, 8) from rfl) (by decide) jnf57 (fun _ h => h) dX1_fails_10 (fun v10 h10 => ?_)
  refine J.putI (k := 3) (ci := 0) X in_X1 (show jCl[0]? = some (RX1, TX1, 9) from rfl) tyX1_ok (fun a ha b hb h => Or.inl (nmX1 a ha b hb h)) (by decide) q1327 (fun _ h => h) rfl rfl dX1_fails_13 (fun S13 h13 => ?_)
  refine J.pu (fun _ _ _ _ k => lv_iconst (v := (-1)) X.1.1 X.1.2.1 dX1_fails_16 (by decide) k) ?_
  exact J.iret (vr := fun t : Int32 × jH => jrI t.1) (fin := Prod.snd) (t := t) X hr (by rfl) (by rfl) dX1_fails_17
noncomputable def X1_errorCode (G : jG) (n : Nat) (σ : jH) (this : Nat) : Option (Int32) :=
  (gI σ (some this) 0 2).bind fun v1 => some v1
set_option maxHeartbeats 4000000 in
set_option maxRecDepth 100000 in
theorem ct_X1_errorCode (l : Launch) (G : jG) (n : Nat) (σ : jH) (this : Nat) : jCt l G yX1_errorCode (ws_ yX1_errorCode cX1_errorCode 1 (some .int)) 0 0 jrI [.ref this] σ (jrd σ (X1_errorCode G n σ this)) := by
  refine jCt.rd (lv := [(0, .ref this)]) (plainFor_of_name (by decide)) (Nat.le_of_ble_eq_true rfl) rfl ?_
  intro t p e s m args below meth c ls X hr hnm hl
  have X : jCx p c cX1_errorCode 1 s m args RX1 G meth := X
  unfold X1_errorCode
  refine J.pu (fun _ _ _ _ k => lv_aload_n X.1.1 X.1.2.1 dX1_errorCode_0 rfl (lv_at hl 0 rfl) k) ?_
  refine J.getI (k := 2) (ci := 0) X in_X1 (show jCl[0]? = some (RX1, TX1, 9) from rfl) (by decide) q1326 (fun _ h => h) dX1_errorCode_1 (fun v1 h1 => ?_)
  exact J.iret (vr := jrI) (fin := fun _ : Int32 => σ) (t := t) X hr (by rfl) (by rfl) dX1_errorCode_4
noncomputable def X1_errorOffset (G : jG) (n : Nat) (σ : jH) (this : Nat) : Option (Int32) :=
  (gI σ (some this) 0 3).bind fun v1 => some v1
set_option maxHeartbeats 4000000 in
set_option maxRecDepth 100000 in
theorem ct_X1_errorOffset (l : Launch) (G : jG) (n : Nat) (σ : jH) (this : Nat) : jCt l G yX1_errorOffset (ws_ yX1_errorOffset cX1_errorOffset 1 (some .int)) 0 0 jrI [.ref this] σ (jrd σ (X1_errorOffset G n σ this)) := by
  refine jCt.rd (lv := [(0, .ref this)]) (plainFor_of_name (by decide)) (Nat.le_of_ble_eq_true rfl) rfl ?_
  intro t p e s m args below meth c ls X hr hnm hl
  have X : jCx p c cX1_errorOffset 1 s m args RX1 G meth := X
  unfold X1_errorOffset
  refine J.pu (fun _ _ _ _ k => lv_aload_n X.1.1 X.1.2.1 dX1_errorOffset_0 rfl (lv_at hl 0 rfl) k) ?_
  refine J.getI (k := 3) (ci := 0) X in_X1 (show jCl[0]? = some (RX1, TX1, 9) from rfl) (by decide) q1327 (fun _ h => h) dX1_errorOffset_1 (fun v1 h1 => ?_)
  exact J.iret (vr := jrI) (fin := fun _ : Int32 => σ) (t := t) X hr (by rfl) (by rfl) dX1_errorOffset_4
noncomputable def X1_sortedPart (G : jG) (n : Nat) (σ : jH) (this : Nat) : Option (UInt64) :=
  (gR σ (some this) 0 4).bind fun v1 => (gR σ v1 1 6).bind fun v4 => (aI σ v4 0 2).bind fun v8 => (gR σ (some this) 0 4).bind fun v10 => (gR σ v10 1 6).bind fun v13 => (aI σ v13 0 3).bind fun v17 => if (v8 + v17) = 0 then (some 0) else ((gR σ (some this) 0 4).bind fun v29 => (gR σ v29 1 6).bind fun v32 => (aI σ v32 0 2).bind fun v36 => jn64 (FP.ddiv (FP.i2d v36) (FP.i2d (v8 + v17))) fun _ => some (FP.ddiv (FP.i2d v36) (FP.i2d (v8 + v17))))
set_option maxHeartbeats 4000000 in
set_option maxRecDepth 100000 in
theorem ct_X1_sortedPart (l : Launch) (G : jG) (n : Nat) (σ : jH) (this : Nat) : jCt l G yX1_sortedPart (ws_ yX1_sortedPart cX1_sortedPart 2 (some .double)) 0 0 jrD [.ref this] σ (jrd σ (X1_sortedPart G n σ this)) := by
  refine jCt.rd (lv := [(0, .ref this)]) (plainFor_of_name (by decide)) (Nat.le_of_ble_eq_true rfl) rfl ?_
  intro t p e s m args below meth c ls X hr hnm hl
  have X : jCx p c cX1_sortedPart 2 s m args RX1 G meth := X
  unfold X1_sortedPart
  refine J.pu (fun _ _ _ _ k => lv_aload_n X.1.1 X.1.2.1 dX1_sortedPart_0 rfl (lv_at hl 0 rfl) k) ?_
  refine J.getR (k := 4) (ci := 0) X in_X1 (show jCl[0]? = some (RX1, TX1, 9) from rfl) (by decide) q1329 (fun _ h => h) dX1_sortedPart_1 (fun v1 h1 => ?_)
  refine J.getRN (k := 6) (ci := 1) X in_X2 (show jCl[1]? = some (RX2, TX2, 9) from rfl) (by decide) jnf12 (fun _ h => h) dX1_sortedPart_4 (fun v4 h4 => ?_)
  refine J.pu (fun _ _ _ _ k => lv_iconst (v := 2) X.1.1 X.1.2.1 dX1_sortedPart_7 (by decide) k) ?_
  refine J.aI0 X dX1_sortedPart_8 (fun v8 h8 => ?_)
  refine J.pu (fun _ _ _ _ k => lv_aload_n X.1.1 X.1.2.1 dX1_sortedPart_9 rfl (lv_at hl 0 rfl) k) ?_
  refine J.getR (k := 4) (ci := 0) X in_X1 (show jCl[0]? = some (RX1, TX1, 9) from rfl) (by decide) q1329 (fun _ h => h) dX1_sortedPart_10 (fun v10 h10 => ?_)
  refine J.getRN (k := 6) (ci := 1) X in_X2 (show jCl[1]? = some (RX2, TX2, 9) from rfl) (by decide) jnf12 (fun _ h => h) dX1_sortedPart_13 (fun v13 h13 => ?_)
  refine J.pu (fun _ _ _ _ k => lv_iconst (v := 3) X.1.1 X.1.2.1 dX1_sortedPart_16 (by decide) k) ?_
  refine J.aI0 X dX1_sortedPart_17 (fun v17 h17 => ?_)
  refine J.pu (fun _ _ _ _ k => lv_iadd X.1.1 X.1.2.1 dX1_sortedPart_18 k) ?_
  refine J.istore_n (i := 1) (lv' := [(1, .int (v8 + v17)), (0, .ref this)]) X.1.1 X.1.2.1 dX1_sortedPart_19 rfl hl (by decide) (by first | rfl | simp [va_rf_cat, jcI, jcA, jcJ, jcD, jcF]) (fun ls hl => ?_)
  refine J.pu (fun _ _ _ _ k => lv_iload_n X.1.1 X.1.2.1 dX1_sortedPart_20 rfl (lv_at hl 0 rfl) k) ?_
  refine J.br (fun _ _ _ _ ka kb => lv_if_ne (tgt := 28) X.1.1 X.1.2.1 dX1_sortedPart_21 (by decide) kb ka) (fun c21 => ?_) (fun c21 => ?_)
  · refine J.pu (fun _ _ _ _ k => lv_dconst0 X.1.1 X.1.2.1 dX1_sortedPart_24 k) ?_
    refine J.pu (fun _ _ _ _ k => lv_goto (tgt := 41) X.1.1 X.1.2.1 dX1_sortedPart_25 (by decide) k) ?_
    exact J.dret (vr := jrD) (fin := fun _ : UInt64 => σ) (t := t) X hr (by rfl) (by rfl) dX1_sortedPart_41
  · refine J.pu (fun _ _ _ _ k => lv_aload_n X.1.1 X.1.2.1 dX1_sortedPart_28 rfl (lv_at hl 1 rfl) k) ?_
    refine J.getR (k := 4) (ci := 0) X in_X1 (show jCl[0]? = some (RX1, TX1, 9) from rfl) (by decide) q1329 (fun _ h => h) dX1_sortedPart_29 (fun v29 h29 => ?_)
    refine J.getRN (k := 6) (ci := 1) X in_X2 (show jCl[1]? = some (RX2, TX2, 9) from rfl) (by decide) jnf12 (fun _ h => h) dX1_sortedPart_32 (fun v32 h32 => ?_)
    refine J.pu (fun _ _ _ _ k => lv_iconst (v := 2) X.1.1 X.1.2.1 dX1_sortedPart_35 (by decide) k) ?_
    refine J.aI0 X dX1_sortedPart_36 (fun v36 h36 => ?_)
    refine J.pu (fun _ _ _ _ k => lv_i2d X.1.1 X.1.2.1 dX1_sortedPart_37 k) ?_
    refine J.pu (fun _ _ _ _ k => lv_iload_n X.1.1 X.1.2.1 dX1_sortedPart_38 rfl (lv_at hl 0 rfl) k) ?_
    refine J.pu (fun _ _ _ _ k => lv_i2d X.1.1 X.1.2.1 dX1_sortedPart_39 k) ?_
    refine J.n64 (fun z40 => ?_)
    refine J.pu (fun _ _ _ _ k => lv_ddiv X.1.1 X.1.2.1 dX1_sortedPart_40 z40 k) ?_
    exact J.dret (vr := jrD) (fin := fun _ : UInt64 => σ) (t := t) X hr (by rfl) (by rfl) dX1_sortedPart_41
noncomputable def X1_outputByte (G : jG) (n : Nat) (σ : jH) (this : Nat) (a1 : Int32) : Option (Int32) :=
  (gR σ (some this) 0 8).bind fun v4 => (rc σ v4 20).bind fun o7 => (sbLen σ o7).bind fun v7 => (X1_isIn G n σ a1.toInt64 0 ((v7 - 1).toInt64)).bind fun v13 => if v13 = 0 then (some (-1)) else ((gR σ (some this) 0 8).bind fun v20 => (rc σ v20 20).bind fun o24 => (sbChr σ o24 a1).bind fun v24 => some v24)
set_option maxHeartbeats 4000000 in
set_option maxRecDepth 100000 in
theorem ct_X1_outputByte (l : Launch) (G : jG) (n : Nat) (σ : jH) (this : Nat) (a1 : Int32) : jCt l G yX1_outputByte (ws_ yX1_outputByte cX1_outputByte 2 (some .int)) 21 1221 jrI [.ref this, .int a1] σ (jrd σ (X1_outputByte G n σ this a1)) := by
  refine jCt.rd (lv := [(0, .ref this), (1, .int a1)]) (plainFor_of_name (by decide)) (Nat.le_of_ble_eq_true rfl) rfl ?_
  intro t p e s m args below meth c ls X hr hnm hl
  have X : jCx p c cX1_outputByte 2 s m args RX1 G meth := X
  unfold X1_outputByte
  refine J.pu (fun _ _ _ _ k => lv_iload_n X.1.1 X.1.2.1 dX1_outputByte_0 rfl (lv_at hl 1 rfl) k) ?_
  refine J.pu (fun _ _ _ _ k => lv_i2l (v := a1.toInt64) X.1.1 X.1.2.1 dX1_outputByte_1 rfl k) ?_
  refine J.pu (fun _ _ _ _ k => lv_lconst (v := 0) X.1.1 X.1.2.1 dX1_outputByte_2 (by decide) k) ?_
  refine J.pu (fun _ _ _ _ k => lv_aload_n X.1.1 X.1.2.1 dX1_outputByte_3 rfl (lv_at hl 0 rfl) k) ?_
  refine J.getR (k := 8) (ci := 0) X in_X1 (show jCl[0]? = some (RX1, TX1, 9) from rfl) (by decide) q1333 (fun _ h => h) dX1_outputByte_4 (fun v4 h4 => ?_)
  refine J.bind (fun o7 g7 => ?_)
  refine J.bind (fun v7 h7 => ?_)
  refine J.cV (q := (RJ8, TJ8, 4)) (ci := 20) (As := []) (rest := [.long 0, .long a1.toInt64]) (s2 := [.int v7, .long 0, .long a1.toInt64]) X ⟨rfl, rfl⟩ (ct_J8_length l G σ o7) (jrd_of h7) (fun _ _ => cwV 0 X.1.2.2.2.2 (lw_V q2352 q473 q3344 q148 q474) rfl rfl rfl (by decide +kernel) ⟨(Nat.le_of_ble_eq_true rfl), (Nat.le_of_ble_eq_true rfl)⟩) g7 rfl rfl hl.1 rfl rfl (Nat.le_of_ble_eq_true rfl) dX1_outputByte_7 ?_
  refine J.pu (fun _ _ _ _ k => lv_iconst (v := 1) X.1.1 X.1.2.1 dX1_outputByte_10 (by decide) k) ?_
  refine J.pu (fun _ _ _ _ k => lv_isub X.1.1 X.1.2.1 dX1_outputByte_11 k) ?_
  refine J.pu (fun _ _ _ _ k => lv_i2l (v := (v7 - 1).toInt64) X.1.1 X.1.2.1 dX1_outputByte_12 rfl k) ?_
  refine J.bind (fun v13 h13 => ?_)
  refine J.cS (As := [.long a1.toInt64, .long 0, .long (v7 - 1).toInt64]) (rest := []) (s2 := [.int v13]) X ⟨rfl, rfl⟩ (ct_X1_isIn l G n σ a1.toInt64 0 ((v7 - 1).toInt64)) (jrd_of h13) (fun _ _ => va_cwS 3 X.1.2.2.2.2 (lw_S q1365 q1366 q138 q1367) rfl rfl rfl (by decide +kernel) ⟨(Nat.le_of_ble_eq_true rfl), (Nat.le_of_ble_eq_true rfl)⟩) rfl hl.1 rfl rfl (Nat.le_of_ble_eq_true rfl) dX1_outputByte_13 ?_
  refine J.br (fun _ _ _ _ ka kb => lv_if_eq (tgt := 30) X.1.1 X.1.2.1 dX1_outputByte_16 (by decide) ka kb) (fun c16 => ?_) (fun c16 => ?_)
  · refine J.pu (fun _ _ _ _ k => lv_iconst (v := (-1)) X.1.1 X.1.2.1 dX1_outputByte_30 (by decide) k) ?_
    exact J.iret (vr := jrI) (fin := fun _ : Int32 => σ) (t := t) X hr (by rfl) (by rfl) dX1_outputByte_31
  · refine J.pu (fun _ _ _ _ k => lv_aload_n X.1.1 X.1.2.1 dX1_outputByte_19 rfl (lv_at hl 0 rfl) k) ?_
    refine J.getR (k := 8) (ci := 0) X in_X1 (show jCl[0]? = some (RX1, TX1, 9) from rfl) (by decide) q1333 (fun _ h => h) dX1_outputByte_20 (fun v20 h20 => ?_)
    refine J.pu (fun _ _ _ _ k => lv_iload_n X.1.1 X.1.2.1 dX1_outputByte_23 rfl (lv_at hl 1 rfl) k) ?_
    refine J.bind (fun o24 g24 => ?_)
    refine J.bind (fun v24 h24 => ?_)
    refine J.cV (q := (RJ8, TJ8, 4)) (ci := 20) (As := [.int a1]) (rest := []) (s2 := [.int v24]) X ⟨rfl, rfl⟩ (ct_J8_charAt l G σ o24 a1) (jrd_of h24) (fun _ _ => cwV 1 X.1.2.2.2.2 (lw_V q2368 q2369 q2370 q148 q2371) rfl rfl rfl (by decide +kernel) ⟨(Nat.le_of_ble_eq_true rfl), (Nat.le_of_ble_eq_true rfl)⟩) g24 rfl rfl hl.1 rfl rfl (Nat.le_of_ble_eq_true rfl) dX1_outputByte_24 ?_
    refine J.pu (fun _ _ _ _ k => lv_goto (tgt := 31) X.1.1 X.1.2.1 dX1_outputByte_27 (by decide) k) ?_
    exact J.iret (vr := jrI) (fin := fun _ : Int32 => σ) (t := t) X hr (by rfl) (by rfl) dX1_outputByte_31
noncomputable def X1_checkArgument_b (G : jG) (n : Nat) (σ : jH) (a0 : Int32) : Option (jTh Unit × jH) :=
  if a0 = 0 then (some (.inr (0, σ.2.1), tnew σ)) else (some (.inl (), σ))
noncomputable def X1_checkArgument (G : jG) (n : Nat) (σ : jH) (a0 : Int32) : Option (jTh Unit × jH) := jck σ (X1_checkArgument_b G n σ a0)
set_option maxHeartbeats 4000000 in
set_option maxRecDepth 100000 in
theorem ct_X1_checkArgument (l : Launch) (hfl : l.stackTraces = false) (G : jG) (n : Nat) (σ : jH) (a0 : Int32) : jTt l G yX1_checkArgument (ws_ yX1_checkArgument cX1_checkArgument 1 none) 6 100 jrV [.int a0] σ (X1_checkArgument G n σ a0) := by
  refine jTt.wr (lv := [(0, .int a0)]) rfl (Nat.le_of_ble_eq_true rfl) rfl ?_
  intro t p e s m args below meth c ls X hr hnm hout hl
  have X : jCx p c cX1_checkArgument 1 s m args RX1 G meth := X
  unfold X1_checkArgument_b
  refine J.pu (fun _ _ _ _ k => lv_iload_n X.1.1 X.1.2.1 dX1_checkArgument_0 rfl (lv_at hl 0 rfl) k) ?_
  refine J.br (fun _ _ _ _ ka kb => lv_if_ne (tgt := 12) X.1.1 X.1.2.1 dX1_checkArgument_1 (by decide) kb ka) (fun c1 => ?_) (fun c1 => ?_)
  · exact J.throw0 (k := 0) X hfl hout ⟨rfl, rfl⟩ rfl (by decide) q2401 q146 (jth0 X.1.2.2.2.2 X.2.1) (by decide +kernel) hl.1 dX1_checkArgument_4 dX1_checkArgument_7 dX1_checkArgument_8 dX1_checkArgument_11 (Nat.le_of_ble_eq_true rfl) (Nat.le_of_ble_eq_true rfl)
  · exact J.tret (J.vret (vr := fun t : Unit × jH => jrV t.1) (fin := (Prod.snd : Unit × jH → jH)) (t := ((), σ)) X hr (by rfl) (by rfl) dX1_checkArgument_12)
noncomputable def X1_checkIndex_b (G : jG) (n : Nat) (σ : jH) (a0 : Int32) : Option (jTh Unit × jH) :=
  if a0 = 0 then (some (.inr (2, σ.2.1), tnew σ)) else (some (.inl (), σ))
noncomputable def X1_checkIndex (G : jG) (n : Nat) (σ : jH) (a0 : Int32) : Option (jTh Unit × jH) := jck σ (X1_checkIndex_b G n σ a0)
set_option maxHeartbeats 4000000 in
set_option maxRecDepth 100000 in
theorem ct_X1_checkIndex (l : Launch) (hfl : l.stackTraces = false) (G : jG) (n : Nat) (σ : jH) (a0 : Int32) : jTt l G yX1_checkIndex (ws_ yX1_checkIndex cX1_checkIndex 1 none) 6 100 jrV [.int a0] σ (X1_checkIndex G n σ a0) := by
  refine jTt.wr (lv := [(0, .int a0)]) rfl (Nat.le_of_ble_eq_true rfl) rfl ?_
  intro t p e s m args below meth c ls X hr hnm hout hl
  have X : jCx p c cX1_checkIndex 1 s m args RX1 G meth := X
  unfold X1_checkIndex_b
  refine J.pu (fun _ _ _ _ k => lv_iload_n X.1.1 X.1.2.1 dX1_checkIndex_0 rfl (lv_at hl 0 rfl) k) ?_
  refine J.br (fun _ _ _ _ ka kb => lv_if_ne (tgt := 12) X.1.1 X.1.2.1 dX1_checkIndex_1 (by decide) kb ka) (fun c1 => ?_) (fun c1 => ?_)
  · exact J.throw0 (k := 2) X hfl hout ⟨rfl, rfl⟩ rfl (by decide) q2434 q166 (jth2 X.1.2.2.2.2 X.2.1) (by decide +kernel) hl.1 dX1_checkIndex_4 dX1_checkIndex_7 dX1_checkIndex_8 dX1_checkIndex_11 (Nat.le_of_ble_eq_true rfl) (Nat.le_of_ble_eq_true rfl)
  · exact J.tret (J.vret (vr := fun t : Unit × jH => jrV t.1) (fin := (Prod.snd : Unit × jH → jH)) (t := ((), σ)) X hr (by rfl) (by rfl) dX1_checkIndex_12)
noncomputable def X1_checkTicks_b (G : jG) (n : Nat) (σ : jH) (a0 : Int32) : Option (jTh Unit × jH) :=
  (X1_isIn G n σ a0.toInt64 0 500).bind fun v6 => tb (X1_checkArgument G n σ v6) fun v9 S9 => some (.inl (), S9)
noncomputable def X1_checkTicks (G : jG) (n : Nat) (σ : jH) (a0 : Int32) : Option (jTh Unit × jH) := jck σ (X1_checkTicks_b G n σ a0)
set_option maxHeartbeats 4000000 in
set_option maxRecDepth 100000 in
theorem ct_X1_checkTicks (l : Launch) (hfl : l.stackTraces = false) (G : jG) (n : Nat) (σ : jH) (a0 : Int32) : jTt l G yX1_checkTicks (ws_ yX1_checkTicks cX1_checkTicks 1 none) 7 120 jrV [.int a0] σ (X1_checkTicks G n σ a0) := by
  refine jTt.wr (lv := [(0, .int a0)]) rfl (Nat.le_of_ble_eq_true rfl) rfl ?_
  intro t p e s m args below meth c ls X hr hnm hout hl
  have X : jCx p c cX1_checkTicks 1 s m args RX1 G meth := X
  unfold X1_checkTicks_b
  refine J.pu (fun _ _ _ _ k => lv_iload_n X.1.1 X.1.2.1 dX1_checkTicks_0 rfl (lv_at hl 0 rfl) k) ?_
  refine J.pu (fun _ _ _ _ k => lv_i2l (v := a0.toInt64) X.1.1 X.1.2.1 dX1_checkTicks_1 rfl k) ?_
  refine J.pu (fun _ _ _ _ k => lv_lconst (v := 0) X.1.1 X.1.2.1 dX1_checkTicks_2 (by decide) k) ?_
  refine J.pu (fun _ _ _ _ k => lv_ldc2 (v := 500) X.1.1 X.1.2.1 X.1.2.2.2.1 (X.1.2.2.2.2 _ q2573) dX1_checkTicks_3 k) ?_
  refine J.bind (fun v6 h6 => ?_)
  refine J.cS (As := [.long a0.toInt64, .long 0, .long 500]) (rest := []) (s2 := [.int v6]) X ⟨rfl, rfl⟩ (ct_X1_isIn l G n σ a0.toInt64 0 500) (jrd_of h6) (fun _ _ => va_cwS 3 X.1.2.2.2.2 (lw_S q1365 q1366 q138 q1367) rfl rfl rfl (by decide +kernel) ⟨(Nat.le_of_ble_eq_true rfl), (Nat.le_of_ble_eq_true rfl)⟩) rfl hl.1 rfl rfl (Nat.le_of_ble_eq_true rfl) dX1_checkTicks_6 ?_
  refine J.tS (As := [.int v6]) (rest := []) X hout ⟨rfl, rfl⟩ (ct_X1_checkArgument l hfl G n σ v6) (fun _ _ => va_cwS 1 X.1.2.2.2.2 (lw_S q2414 q2415 q138 q2416) rfl rfl rfl (by decide +kernel) ⟨(Nat.le_of_ble_eq_true rfl), (Nat.le_of_ble_eq_true rfl)⟩) rfl hl.1 rfl (Nat.le_of_ble_eq_true rfl) dX1_checkTicks_9 (fun v9 S9 h9 => ?_)
  refine J.geq (g2 := F0 m 12 ls []) rfl ?_
  exact J.tret (J.vret (vr := fun t : Unit × jH => jrV t.1) (fin := (Prod.snd : Unit × jH → jH)) (t := ((), S9)) X hr (by rfl) (by rfl) dX1_checkTicks_12)
noncomputable def X1_checkState_b (G : jG) (n : Nat) (σ : jH) (a0 : Int32) : Option (jTh Unit × jH) :=
  if a0 = 0 then (some (.inr (1, σ.2.1), tnew σ)) else (some (.inl (), σ))
noncomputable def X1_checkState (G : jG) (n : Nat) (σ : jH) (a0 : Int32) : Option (jTh Unit × jH) := jck σ (X1_checkState_b G n σ a0)
set_option maxHeartbeats 4000000 in
set_option maxRecDepth 100000 in
theorem ct_X1_checkState (l : Launch) (hfl : l.stackTraces = false) (G : jG) (n : Nat) (σ : jH) (a0 : Int32) : jTt l G yX1_checkState (ws_ yX1_checkState cX1_checkState 1 none) 6 100 jrV [.int a0] σ (X1_checkState G n σ a0) := by
  refine jTt.wr (lv := [(0, .int a0)]) rfl (Nat.le_of_ble_eq_true rfl) rfl ?_
  intro t p e s m args below meth c ls X hr hnm hout hl
  have X : jCx p c cX1_checkState 1 s m args RX1 G meth := X
  unfold X1_checkState_b
  refine J.pu (fun _ _ _ _ k => lv_iload_n X.1.1 X.1.2.1 dX1_checkState_0 rfl (lv_at hl 0 rfl) k) ?_
  refine J.br (fun _ _ _ _ ka kb => lv_if_ne (tgt := 12) X.1.1 X.1.2.1 dX1_checkState_1 (by decide) kb ka) (fun c1 => ?_) (fun c1 => ?_)
  · exact J.throw0 (k := 1) X hfl hout ⟨rfl, rfl⟩ rfl (by decide) q2633 q190 (jth1 X.1.2.2.2.2 X.2.1) (by decide +kernel) hl.1 dX1_checkState_4 dX1_checkState_7 dX1_checkState_8 dX1_checkState_11 (Nat.le_of_ble_eq_true rfl) (Nat.le_of_ble_eq_true rfl)
  · exact J.tret (J.vret (vr := fun t : Unit × jH => jrV t.1) (fin := (Prod.snd : Unit × jH → jH)) (t := ((), σ)) X hr (by rfl) (by rfl) dX1_checkState_12)
noncomputable def X1_checkElement_b (G : jG) (n : Nat) (σ : jH) (a0 : Int32) : Option (jTh Unit × jH) :=
  if a0 = 0 then (some (.inr (3, σ.2.1), tnew σ)) else (some (.inl (), σ))
noncomputable def X1_checkElement (G : jG) (n : Nat) (σ : jH) (a0 : Int32) : Option (jTh Unit × jH) := jck σ (X1_checkElement_b G n σ a0)
set_option maxHeartbeats 4000000 in
set_option maxRecDepth 100000 in
theorem ct_X1_checkElement (l : Launch) (hfl : l.stackTraces = false) (G : jG) (n : Nat) (σ : jH) (a0 : Int32) : jTt l G yX1_checkElement (ws_ yX1_checkElement cX1_checkElement 1 none) 6 100 jrV [.int a0] σ (X1_checkElement G n σ a0) := by
  refine jTt.wr (lv := [(0, .int a0)]) rfl (Nat.le_of_ble_eq_true rfl) rfl ?_
  intro t p e s m args below meth c ls X hr hnm hout hl
  have X : jCx p c cX1_checkElement 1 s m args RX1 G meth := X
  unfold X1_checkElement_b
  refine J.pu (fun _ _ _ _ k => lv_iload_n X.1.1 X.1.2.1 dX1_checkElement_0 rfl (lv_at hl 0 rfl) k) ?_
  refine J.br (fun _ _ _ _ ka kb => lv_if_ne (tgt := 12) X.1.1 X.1.2.1 dX1_checkElement_1 (by decide) kb ka) (fun c1 => ?_) (fun c1 => ?_)
  · exact J.throw0 (k := 3) X hfl hout ⟨rfl, rfl⟩ rfl (by decide) q2692 q173 (jth3 X.1.2.2.2.2 X.2.1) (by decide +kernel) hl.1 dX1_checkElement_4 dX1_checkElement_7 dX1_checkElement_8 dX1_checkElement_11 (Nat.le_of_ble_eq_true rfl) (Nat.le_of_ble_eq_true rfl)
  · exact J.tret (J.vret (vr := fun t : Unit × jH => jrV t.1) (fin := (Prod.snd : Unit × jH → jH)) (t := ((), σ)) X hr (by rfl) (by rfl) dX1_checkElement_12)
noncomputable def X10_isDeed_j195 (G : jG) (n : Nat) (this : Nat) (a1 : Option Nat) (x3_195 : Int32) (B195 : jH) : Option (Int32 × jH) :=
  if x3_195 = 0 then (some (1, B195)) else if x3_195 = 1 then (some (1, B195)) else if x3_195 = 2 then (some (1, B195)) else if x3_195 = 3 then (some (1, B195)) else if x3_195 = 4 then (some (1, B195)) else if x3_195 = 5 then (some (1, B195)) else if x3_195 = 6 then (some (1, B195)) else if x3_195 = 7 then (some (1, B195)) else some (0, B195)
noncomputable def X10_isDeed_b (G : jG) (n : Nat) (σ : jH) (this : Nat) (a1 : Option Nat) : Option (Int32 × jH) :=
  (rc σ a1 21).bind fun o5 => bd (jck σ (stHash G σ o5)) fun v5 S5 => if v5 = (-925138779) then ((rc S5 a1 21).bind fun o186 => (stEq S5 o186 (G.2.2.2 28)).bind fun v186 => if v186 = 0 then (X10_isDeed_j195 G n this a1 (-1) S5) else (X10_isDeed_j195 G n this a1 7 S5)) else if v5 = (-787751952) then ((rc S5 a1 21).bind fun o171 => (stEq S5 o171 (G.2.2.2 27)).bind fun v171 => if v171 = 0 then (X10_isDeed_j195 G n this a1 (-1) S5) else (X10_isDeed_j195 G n this a1 6 S5)) else if v5 = 111375 then ((rc S5 a1 21).bind fun o87 => (stEq S5 o87 (G.2.2.2 21)).bind fun v87 => if v87 = 0 then (X10_isDeed_j195 G n this a1 (-1) S5) else (X10_isDeed_j195 G n this a1 0 S5)) else if v5 = 3417674 then ((rc S5 a1 21).bind fun o157 => (stEq S5 o157 (G.2.2.2 26)).bind fun v157 => if v157 = 0 then (X10_isDeed_j195 G n this a1 (-1) S5) else (X10_isDeed_j195 G n this a1 5 S5)) else if v5 = 3529652 then ((rc S5 a1 21).bind fun o143 => (stEq S5 o143 (G.2.2.2 25)).bind fun v143 => if v143 = 0 then (X10_isDeed_j195 G n this a1 (-1) S5) else (X10_isDeed_j195 G n this a1 4 S5)) else if v5 = 3533120 then ((rc S5 a1 21).bind fun o115 => (stEq S5 o115 (G.2.2.2 23)).bind fun v115 => if v115 = 0 then (X10_isDeed_j195 G n this a1 (-1) S5) else (X10_isDeed_j195 G n this a1 2 S5)) else if v5 = 3559837 then ((rc S5 a1 21).bind fun o101 => (stEq S5 o101 (G.2.2.2 22)).bind fun v101 => if v101 = 0 then (X10_isDeed_j195 G n this a1 (-1) S5) else (X10_isDeed_j195 G n this a1 1 S5)) else if v5 = 96634189 then ((rc S5 a1 21).bind fun o129 => (stEq S5 o129 (G.2.2.2 24)).bind fun v129 => if v129 = 0 then (X10_isDeed_j195 G n this a1 (-1) S5) else (X10_isDeed_j195 G n this a1 3 S5)) else X10_isDeed_j195 G n this a1 (-1) S5
noncomputable def X10_isDeed (G : jG) (n : Nat) (σ : jH) (this : Nat) (a1 : Option Nat) : Option (Int32 × jH) := jck σ (X10_isDeed_b G n σ this a1)
set_option maxHeartbeats 4000000 in
set_option maxRecDepth 100000 in
theorem ct_X10_isDeed (l : Launch) (G : jG) (n : Nat) (σ : jH) (this : Nat) (a1 : Option Nat) : jCt l G yX10_isDeed (ws_ yX10_isDeed cX10_isDeed 4 (some .boolean)) 21 1222 jrI [.ref this, va_rf a1] σ (X10_isDeed G n σ this a1) := by
  refine jCt.wr (lv := [(0, .ref this), (1, va_rf a1)]) (plainFor_of_name (by decide)) (by simp [lg_sl, va_rf_cat, jcI, jcA, jcJ, jcD, jcF]) (by simp [lv_args, va_rf_cat, jcI, jcA, jcJ, jcD, jcF]) ?_
  intro t p e s m args below meth c ls X hr hnm hl
  have X : jCx p c cX10_isDeed 4 s m args RX10 G meth := X
  have j195 : ∀ (x3_195 : Int32) (B195 : jH) (ls : Array Slot), lv_has ls 4 [(3, .int x3_195)] → jGo l G 21 1222 σ (Prod.snd : Int32 × jH → jH) (fun t => jrI t.1) t p e s m args below meth c (X10_isDeed_j195 G n this a1 x3_195 B195) B195 (F0 m 195 ls []) := by
    intro x3_195 B195 ls hl
    unfold X10_isDeed_j195
    refine J.pu (fun _ _ _ _ k => lv_iload_n X.1.1 X.1.2.1 dX10_isDeed_195 rfl (lv_at hl 0 rfl) k) ?_
    refine J.ite (fun c196_0 => ?_) (fun c196_0 => ?_)
    · refine J.pu (fun _ _ _ _ k => lv_tableIn (tgt := 244) (off := 48) X.1.1 X.1.2.1 dX10_isDeed_196 (by rw [c196_0]; decide) (by rw [c196_0]; decide) (by rw [c196_0]; decide) (by decide) k) ?_
      refine J.pu (fun _ _ _ _ k => lv_iconst (v := 1) X.1.1 X.1.2.1 dX10_isDeed_244 (by decide) k) ?_
      refine J.pu (fun _ _ _ _ k => lv_goto (tgt := 249) X.1.1 X.1.2.1 dX10_isDeed_245 (by decide) k) ?_
      exact J.zret (vr := fun t : Int32 × jH => jrI t.1) (fin := Prod.snd) (t := t) X hr (by decide) (by rfl) (by rfl) dX10_isDeed_249
    refine J.ite (fun c196_1 => ?_) (fun c196_1 => ?_)
    · refine J.pu (fun _ _ _ _ k => lv_tableIn (tgt := 244) (off := 48) X.1.1 X.1.2.1 dX10_isDeed_196 (by rw [c196_1]; decide) (by rw [c196_1]; decide) (by rw [c196_1]; decide) (by decide) k) ?_
      refine J.pu (fun _ _ _ _ k => lv_iconst (v := 1) X.1.1 X.1.2.1 dX10_isDeed_244 (by decide) k) ?_
      refine J.pu (fun _ _ _ _ k => lv_goto (tgt := 249) X.1.1 X.1.2.1 dX10_isDeed_245 (by decide) k) ?_
      exact J.zret (vr := fun t : Int32 × jH => jrI t.1) (fin := Prod.snd) (t := t) X hr (by decide) (by rfl) (by rfl) dX10_isDeed_249
    refine J.ite (fun c196_2 => ?_) (fun c196_2 => ?_)
    · refine J.pu (fun _ _ _ _ k => lv_tableIn (tgt := 244) (off := 48) X.1.1 X.1.2.1 dX10_isDeed_196 (by rw [c196_2]; decide) (by rw [c196_2]; decide) (by rw [c196_2]; decide) (by decide) k) ?_
      refine J.pu (fun _ _ _ _ k => lv_iconst (v := 1) X.1.1 X.1.2.1 dX10_isDeed_244 (by decide) k) ?_
      refine J.pu (fun _ _ _ _ k => lv_goto (tgt := 249) X.1.1 X.1.2.1 dX10_isDeed_245 (by decide) k) ?_
      exact J.zret (vr := fun t : Int32 × jH => jrI t.1) (fin := Prod.snd) (t := t) X hr (by decide) (by rfl) (by rfl) dX10_isDeed_249
    refine J.ite (fun c196_3 => ?_) (fun c196_3 => ?_)
    · refine J.pu (fun _ _ _ _ k => lv_tableIn (tgt := 244) (off := 48) X.1.1 X.1.2.1 dX10_isDeed_196 (by rw [c196_3]; decide) (by rw [c196_3]; decide) (by rw [c196_3]; decide) (by decide) k) ?_
      refine J.pu (fun _ _ _ _ k => lv_iconst (v := 1) X.1.1 X.1.2.1 dX10_isDeed_244 (by decide) k) ?_
      refine J.pu (fun _ _ _ _ k => lv_goto (tgt := 249) X.1.1 X.1.2.1 dX10_isDeed_245 (by decide) k) ?_
      exact J.zret (vr := fun t : Int32 × jH => jrI t.1) (fin := Prod.snd) (t := t) X hr (by decide) (by rfl) (by rfl) dX10_isDeed_249
    refine J.ite (fun c196_4 => ?_) (fun c196_4 => ?_)
    · refine J.pu (fun _ _ _ _ k => lv_tableIn (tgt := 244) (off := 48) X.1.1 X.1.2.1 dX10_isDeed_196 (by rw [c196_4]; decide) (by rw [c196_4]; decide) (by rw [c196_4]; decide) (by decide) k) ?_
      refine J.pu (fun _ _ _ _ k => lv_iconst (v := 1) X.1.1 X.1.2.1 dX10_isDeed_244 (by decide) k) ?_
      refine J.pu (fun _ _ _ _ k => lv_goto (tgt := 249) X.1.1 X.1.2.1 dX10_isDeed_245 (by decide) k) ?_
      exact J.zret (vr := fun t : Int32 × jH => jrI t.1) (fin := Prod.snd) (t := t) X hr (by decide) (by rfl) (by rfl) dX10_isDeed_249
    refine J.ite (fun c196_5 => ?_) (fun c196_5 => ?_)
    · refine J.pu (fun _ _ _ _ k => lv_tableIn (tgt := 244) (off := 48) X.1.1 X.1.2.1 dX10_isDeed_196 (by rw [c196_5]; decide) (by rw [c196_5]; decide) (by rw [c196_5]; decide) (by decide) k) ?_
      refine J.pu (fun _ _ _ _ k => lv_iconst (v := 1) X.1.1 X.1.2.1 dX10_isDeed_244 (by decide) k) ?_
      refine J.pu (fun _ _ _ _ k => lv_goto (tgt := 249) X.1.1 X.1.2.1 dX10_isDeed_245 (by decide) k) ?_
      exact J.zret (vr := fun t : Int32 × jH => jrI t.1) (fin := Prod.snd) (t := t) X hr (by decide) (by rfl) (by rfl) dX10_isDeed_249
    refine J.ite (fun c196_6 => ?_) (fun c196_6 => ?_)
    · refine J.pu (fun _ _ _ _ k => lv_tableIn (tgt := 244) (off := 48) X.1.1 X.1.2.1 dX10_isDeed_196 (by rw [c196_6]; decide) (by rw [c196_6]; decide) (by rw [c196_6]; decide) (by decide) k) ?_
      refine J.pu (fun _ _ _ _ k => lv_iconst (v := 1) X.1.1 X.1.2.1 dX10_isDeed_244 (by decide) k) ?_
      refine J.pu (fun _ _ _ _ k => lv_goto (tgt := 249) X.1.1 X.1.2.1 dX10_isDeed_245 (by decide) k) ?_
      exact J.zret (vr := fun t : Int32 × jH => jrI t.1) (fin := Prod.snd) (t := t) X hr (by decide) (by rfl) (by rfl) dX10_isDeed_249
    refine J.ite (fun c196_7 => ?_) (fun c196_7 => ?_)
    · refine J.pu (fun _ _ _ _ k => lv_tableIn (tgt := 244) (off := 48) X.1.1 X.1.2.1 dX10_isDeed_196 (by rw [c196_7]; decide) (by rw [c196_7]; decide) (by rw [c196_7]; decide) (by decide) k) ?_
      refine J.pu (fun _ _ _ _ k => lv_iconst (v := 1) X.1.1 X.1.2.1 dX10_isDeed_244 (by decide) k) ?_
      refine J.pu (fun _ _ _ _ k => lv_goto (tgt := 249) X.1.1 X.1.2.1 dX10_isDeed_245 (by decide) k) ?_
      exact J.zret (vr := fun t : Int32 × jH => jrI t.1) (fin := Prod.snd) (t := t) X hr (by decide) (by rfl) (by rfl) dX10_isDeed_249
    by_cases b196 : x3_195.toInt < 0 ∨ 7 < x3_195.toInt
    · refine J.pu (fun _ _ _ _ k => lv_tableOut (tgt := 248) X.1.1 X.1.2.1 dX10_isDeed_196 b196 (by decide) k) ?_
      refine J.pu (fun _ _ _ _ k => lv_iconst (v := 0) X.1.1 X.1.2.1 dX10_isDeed_248 (by decide) k) ?_
      exact J.zret (vr := fun t : Int32 × jH => jrI t.1) (fin := Prod.snd) (t := t) X hr (by decide) (by rfl) (by rfl) dX10_isDeed_249
    · exfalso; have := lv_neT c196_0 (a := 0) rfl; have := lv_neT c196_1 (a := 1) rfl; have := lv_neT c196_2 (a := 2) rfl; have := lv_neT c196_3 (a := 3) rfl; have := lv_neT c196_4 (a := 4) rfl; have := lv_neT c196_5 (a := 5) rfl; have := lv_neT c196_6 (a := 6) rfl; have := lv_neT c196_7 (a := 7) rfl; omega
  unfold X10_isDeed_b
  refine J.pu (fun _ _ _ _ k => W.rload_n X.1.1 X.1.2.1 dX10_isDeed_0 rfl (lv_at hl 1 rfl) k) ?_
  refine J.astore_n (r := a1) (i := 2) (lv' := [(2, va_rf a1), (0, .ref this), (1, va_rf a1)]) X.1.1 X.1.2.1 dX10_isDeed_1 rfl hl (by decide) (by first | rfl | simp [va_rf_cat, jcI, jcA, jcJ, jcD, jcF]) (fun ls hl => ?_)
  refine J.pu (fun _ _ _ _ k => lv_iconst (v := (-1)) X.1.1 X.1.2.1 dX10_isDeed_2 (by decide) k) ?_
  refine J.istore_n (i := 3) (lv' := [(3, .int (-1)), (2, va_rf a1), (0, .ref this), (1, va_rf a1)]) X.1.1 X.1.2.1 dX10_isDeed_3 rfl hl (by decide) (by first | rfl | simp [va_rf_cat, jcI, jcA, jcJ, jcD, jcF]) (fun ls hl => ?_)
  refine J.pu (fun _ _ _ _ k => W.rload_n X.1.1 X.1.2.1 dX10_isDeed_4 rfl (lv_at hl 1 rfl) k) ?_
  refine J.bind (fun o5 g5 => ?_)
  refine J.bd' (fun v5 S5 h5 => ?_)
  refine J.cV (q := (RJ9, TJ9, 4)) (ci := 21) (As := []) (rest := []) (s2 := [.int v5]) X ⟨rfl, rfl⟩ (ct_J9_hashCode l G σ o5) h5 (fun _ _ => cwV 0 X.1.2.2.2.2 (lw_V q1795 q1635 q1636 q149 q1637) rfl rfl rfl (by decide +kernel) ⟨(Nat.le_of_ble_eq_true rfl), (Nat.le_of_ble_eq_true rfl)⟩) g5 rfl rfl hl.1 rfl rfl (Nat.le_of_ble_eq_true rfl) dX10_isDeed_5 ?_
  refine J.ite (fun c8_m925138779 => ?_) (fun c8_m925138779 => ?_)
  · refine J.pu (fun _ _ _ _ k => lv_lookup (tgt := 183) (off := 175) X.1.1 X.1.2.1 dX10_isDeed_8 (by decide +kernel) (by rw [c8_m925138779]; decide +kernel) (by decide) k) ?_
    refine J.pu (fun _ _ _ _ k => W.rload_n X.1.1 X.1.2.1 dX10_isDeed_183 rfl (lv_at hl 1 rfl) k) ?_
    refine J.pu (fun _ _ _ _ k => W.ldcS (i := 28) X rfl dX10_isDeed_184 k) ?_
    refine J.bind (fun o186 g186 => ?_)
    refine J.bind (fun v186 h186 => ?_)
    refine J.cV (q := (RJ9, TJ9, 4)) (ci := 21) (As := [va_rf (G.2.2.2 28)]) (rest := []) (s2 := [.int v186]) X ⟨rfl, rfl⟩ (ct_J9_equals l G S5 o186 (G.2.2.2 28)) (jrd_of h186) (fun _ _ => cwV 1 X.1.2.2.2.2 (lw_V q1797 q1558 q1559 q149 q1560) rfl rfl rfl (by decide +kernel) ⟨(Nat.le_of_ble_eq_true rfl), (Nat.le_of_ble_eq_true rfl)⟩) g186 rfl rfl hl.1 rfl rfl (Nat.le_of_ble_eq_true rfl) dX10_isDeed_186 ?_
    refine J.br (fun _ _ _ _ ka kb => lv_if_eq (tgt := 195) X.1.1 X.1.2.1 dX10_isDeed_189 (by decide) ka kb) (fun c189 => ?_) (fun c189 => ?_)
    · exact j195 (-1) S5 ls (lv_sub hl [0] rfl)
    · refine J.pu (fun _ _ _ _ k => lv_bipush (v := 7) X.1.1 X.1.2.1 dX10_isDeed_192 (by decide) k) ?_
      refine J.istore_n (i := 3) (lv' := [(3, .int 7), (2, va_rf a1), (0, .ref this), (1, va_rf a1)]) X.1.1 X.1.2.1 dX10_isDeed_194 rfl hl (by decide) (by first | rfl | simp [va_rf_cat, jcI, jcA, jcJ, jcD, jcF]) (fun ls hl => ?_)
      exact j195 7 S5 ls (lv_sub hl [0] rfl)
  refine J.ite (fun c8_m787751952 => ?_) (fun c8_m787751952 => ?_)
  · refine J.pu (fun _ _ _ _ k => lv_lookup (tgt := 168) (off := 160) X.1.1 X.1.2.1 dX10_isDeed_8 (by decide +kernel) (by rw [c8_m787751952]; decide +kernel) (by decide) k) ?_
    refine J.pu (fun _ _ _ _ k => W.rload_n X.1.1 X.1.2.1 dX10_isDeed_168 rfl (lv_at hl 1 rfl) k) ?_
    refine J.pu (fun _ _ _ _ k => W.ldcS (i := 27) X rfl dX10_isDeed_169 k) ?_
    refine J.bind (fun o171 g171 => ?_)
    refine J.bind (fun v171 h171 => ?_)
    refine J.cV (q := (RJ9, TJ9, 4)) (ci := 21) (As := [va_rf (G.2.2.2 27)]) (rest := []) (s2 := [.int v171]) X ⟨rfl, rfl⟩ (ct_J9_equals l G S5 o171 (G.2.2.2 27)) (jrd_of h171) (fun _ _ => cwV 1 X.1.2.2.2.2 (lw_V q1797 q1558 q1559 q149 q1560) rfl rfl rfl (by decide +kernel) ⟨(Nat.le_of_ble_eq_true rfl), (Nat.le_of_ble_eq_true rfl)⟩) g171 rfl rfl hl.1 rfl rfl (Nat.le_of_ble_eq_true rfl) dX10_isDeed_171 ?_
    refine J.br (fun _ _ _ _ ka kb => lv_if_eq (tgt := 195) X.1.1 X.1.2.1 dX10_isDeed_174 (by decide) ka kb) (fun c174 => ?_) (fun c174 => ?_)
    · exact j195 (-1) S5 ls (lv_sub hl [0] rfl)
    · refine J.pu (fun _ _ _ _ k => lv_bipush (v := 6) X.1.1 X.1.2.1 dX10_isDeed_177 (by decide) k) ?_
      refine J.istore_n (i := 3) (lv' := [(3, .int 6), (2, va_rf a1), (0, .ref this), (1, va_rf a1)]) X.1.1 X.1.2.1 dX10_isDeed_179 rfl hl (by decide) (by first | rfl | simp [va_rf_cat, jcI, jcA, jcJ, jcD, jcF]) (fun ls hl => ?_)
      refine J.pu (fun _ _ _ _ k => lv_goto (tgt := 195) X.1.1 X.1.2.1 dX10_isDeed_180 (by decide) k) ?_
      exact j195 6 S5 ls (lv_sub hl [0] rfl)
  refine J.ite (fun c8_111375 => ?_) (fun c8_111375 => ?_)
  · refine J.pu (fun _ _ _ _ k => lv_lookup (tgt := 84) (off := 76) X.1.1 X.1.2.1 dX10_isDeed_8 (by decide +kernel) (by rw [c8_111375]; decide +kernel) (by decide) k) ?_
    refine J.pu (fun _ _ _ _ k => W.rload_n X.1.1 X.1.2.1 dX10_isDeed_84 rfl (lv_at hl 1 rfl) k) ?_
    refine J.pu (fun _ _ _ _ k => W.ldcS (i := 21) X rfl dX10_isDeed_85 k) ?_
    refine J.bind (fun o87 g87 => ?_)
    refine J.bind (fun v87 h87 => ?_)
    refine J.cV (q := (RJ9, TJ9, 4)) (ci := 21) (As := [va_rf (G.2.2.2 21)]) (rest := []) (s2 := [.int v87]) X ⟨rfl, rfl⟩ (ct_J9_equals l G S5 o87 (G.2.2.2 21)) (jrd_of h87) (fun _ _ => cwV 1 X.1.2.2.2.2 (lw_V q1797 q1558 q1559 q149 q1560) rfl rfl rfl (by decide +kernel) ⟨(Nat.le_of_ble_eq_true rfl), (Nat.le_of_ble_eq_true rfl)⟩) g87 rfl rfl hl.1 rfl rfl (Nat.le_of_ble_eq_true rfl) dX10_isDeed_87 ?_
    refine J.br (fun _ _ _ _ ka kb => lv_if_eq (tgt := 195) X.1.1 X.1.2.1 dX10_isDeed_90 (by decide) ka kb) (fun c90 => ?_) (fun c90 => ?_)
    · exact j195 (-1) S5 ls (lv_sub hl [0] rfl)
    · refine J.pu (fun _ _ _ _ k => lv_iconst (v := 0) X.1.1 X.1.2.1 dX10_isDeed_93 (by decide) k) ?_
      refine J.istore_n (i := 3) (lv' := [(3, .int 0), (2, va_rf a1), (0, .ref this), (1, va_rf a1)]) X.1.1 X.1.2.1 dX10_isDeed_94 rfl hl (by decide) (by first | rfl | simp [va_rf_cat, jcI, jcA, jcJ, jcD, jcF]) (fun ls hl => ?_)
      refine J.pu (fun _ _ _ _ k => lv_goto (tgt := 195) X.1.1 X.1.2.1 dX10_isDeed_95 (by decide) k) ?_
      exact j195 0 S5 ls (lv_sub hl [0] rfl)
  refine J.ite (fun c8_3417674 => ?_) (fun c8_3417674 => ?_)
  · refine J.pu (fun _ _ _ _ k => lv_lookup (tgt := 154) (off := 146) X.1.1 X.1.2.1 dX10_isDeed_8 (by decide +kernel) (by rw [c8_3417674]; decide +kernel) (by decide) k) ?_
    refine J.pu (fun _ _ _ _ k => W.rload_n X.1.1 X.1.2.1 dX10_isDeed_154 rfl (lv_at hl 1 rfl) k) ?_
    refine J.pu (fun _ _ _ _ k => W.ldcS (i := 26) X rfl dX10_isDeed_155 k) ?_
    refine J.bind (fun o157 g157 => ?_)
    refine J.bind (fun v157 h157 => ?_)
    refine J.cV (q := (RJ9, TJ9, 4)) (ci := 21) (As := [va_rf (G.2.2.2 26)]) (rest := []) (s2 := [.int v157]) X ⟨rfl, rfl⟩ (ct_J9_equals l G S5 o157 (G.2.2.2 26)) (jrd_of h157) (fun _ _ => cwV 1 X.1.2.2.2.2 (lw_V q1797 q1558 q1559 q149 q1560) rfl rfl rfl (by decide +kernel) ⟨(Nat.le_of_ble_eq_true rfl), (Nat.le_of_ble_eq_true rfl)⟩) g157 rfl rfl hl.1 rfl rfl (Nat.le_of_ble_eq_true rfl) dX10_isDeed_157 ?_
    refine J.br (fun _ _ _ _ ka kb => lv_if_eq (tgt := 195) X.1.1 X.1.2.1 dX10_isDeed_160 (by decide) ka kb) (fun c160 => ?_) (fun c160 => ?_)
    · exact j195 (-1) S5 ls (lv_sub hl [0] rfl)
    · refine J.pu (fun _ _ _ _ k => lv_iconst (v := 5) X.1.1 X.1.2.1 dX10_isDeed_163 (by decide) k) ?_
      refine J.istore_n (i := 3) (lv' := [(3, .int 5), (2, va_rf a1), (0, .ref this), (1, va_rf a1)]) X.1.1 X.1.2.1 dX10_isDeed_164 rfl hl (by decide) (by first | rfl | simp [va_rf_cat, jcI, jcA, jcJ, jcD, jcF]) (fun ls hl => ?_)
      refine J.pu (fun _ _ _ _ k => lv_goto (tgt := 195) X.1.1 X.1.2.1 dX10_isDeed_165 (by decide) k) ?_
      exact j195 5 S5 ls (lv_sub hl [0] rfl)
  refine J.ite (fun c8_3529652 => ?_) (fun c8_3529652 => ?_)
  · refine J.pu (fun _ _ _ _ k => lv_lookup (tgt := 140) (off := 132) X.1.1 X.1.2.1 dX10_isDeed_8 (by decide +kernel) (by rw [c8_3529652]; decide +kernel) (by decide) k) ?_
    refine J.pu (fun _ _ _ _ k => W.rload_n X.1.1 X.1.2.1 dX10_isDeed_140 rfl (lv_at hl 1 rfl) k) ?_
    refine J.pu (fun _ _ _ _ k => W.ldcS (i := 25) X rfl dX10_isDeed_141 k) ?_
    refine J.bind (fun o143 g143 => ?_)
    refine J.bind (fun v143 h143 => ?_)
    refine J.cV (q := (RJ9, TJ9, 4)) (ci := 21) (As := [va_rf (G.2.2.2 25)]) (rest := []) (s2 := [.int v143]) X ⟨rfl, rfl⟩ (ct_J9_equals l G S5 o143 (G.2.2.2 25)) (jrd_of h143) (fun _ _ => cwV 1 X.1.2.2.2.2 (lw_V q1797 q1558 q1559 q149 q1560) rfl rfl rfl (by decide +kernel) ⟨(Nat.le_of_ble_eq_true rfl), (Nat.le_of_ble_eq_true rfl)⟩) g143 rfl rfl hl.1 rfl rfl (Nat.le_of_ble_eq_true rfl) dX10_isDeed_143 ?_
    refine J.br (fun _ _ _ _ ka kb => lv_if_eq (tgt := 195) X.1.1 X.1.2.1 dX10_isDeed_146 (by decide) ka kb) (fun c146 => ?_) (fun c146 => ?_)
    · exact j195 (-1) S5 ls (lv_sub hl [0] rfl)
    · refine J.pu (fun _ _ _ _ k => lv_iconst (v := 4) X.1.1 X.1.2.1 dX10_isDeed_149 (by decide) k) ?_
      refine J.istore_n (i := 3) (lv' := [(3, .int 4), (2, va_rf a1), (0, .ref this), (1, va_rf a1)]) X.1.1 X.1.2.1 dX10_isDeed_150 rfl hl (by decide) (by first | rfl | simp [va_rf_cat, jcI, jcA, jcJ, jcD, jcF]) (fun ls hl => ?_)
      refine J.pu (fun _ _ _ _ k => lv_goto (tgt := 195) X.1.1 X.1.2.1 dX10_isDeed_151 (by decide) k) ?_
      exact j195 4 S5 ls (lv_sub hl [0] rfl)
  refine J.ite (fun c8_3533120 => ?_) (fun c8_3533120 => ?_)
  · refine J.pu (fun _ _ _ _ k => lv_lookup (tgt := 112) (off := 104) X.1.1 X.1.2.1 dX10_isDeed_8 (by decide +kernel) (by rw [c8_3533120]; decide +kernel) (by decide) k) ?_
    refine J.pu (fun _ _ _ _ k => W.rload_n X.1.1 X.1.2.1 dX10_isDeed_112 rfl (lv_at hl 1 rfl) k) ?_
    refine J.pu (fun _ _ _ _ k => W.ldcS (i := 23) X rfl dX10_isDeed_113 k) ?_
    refine J.bind (fun o115 g115 => ?_)
    refine J.bind (fun v115 h115 => ?_)
    refine J.cV (q := (RJ9, TJ9, 4)) (ci := 21) (As := [va_rf (G.2.2.2 23)]) (rest := []) (s2 := [.int v115]) X ⟨rfl, rfl⟩ (ct_J9_equals l G S5 o115 (G.2.2.2 23)) (jrd_of h115) (fun _ _ => cwV 1 X.1.2.2.2.2 (lw_V q1797 q1558 q1559 q149 q1560) rfl rfl rfl (by decide +kernel) ⟨(Nat.le_of_ble_eq_true rfl), (Nat.le_of_ble_eq_true rfl)⟩) g115 rfl rfl hl.1 rfl rfl (Nat.le_of_ble_eq_true rfl) dX10_isDeed_115 ?_
    refine J.br (fun _ _ _ _ ka kb => lv_if_eq (tgt := 195) X.1.1 X.1.2.1 dX10_isDeed_118 (by decide) ka kb) (fun c118 => ?_) (fun c118 => ?_)
    · exact j195 (-1) S5 ls (lv_sub hl [0] rfl)
    · refine J.pu (fun _ _ _ _ k => lv_iconst (v := 2) X.1.1 X.1.2.1 dX10_isDeed_121 (by decide) k) ?_
      refine J.istore_n (i := 3) (lv' := [(3, .int 2), (2, va_rf a1), (0, .ref this), (1, va_rf a1)]) X.1.1 X.1.2.1 dX10_isDeed_122 rfl hl (by decide) (by first | rfl | simp [va_rf_cat, jcI, jcA, jcJ, jcD, jcF]) (fun ls hl => ?_)
      refine J.pu (fun _ _ _ _ k => lv_goto (tgt := 195) X.1.1 X.1.2.1 dX10_isDeed_123 (by decide) k) ?_
      exact j195 2 S5 ls (lv_sub hl [0] rfl)
  refine J.ite (fun c8_3559837 => ?_) (fun c8_3559837 => ?_)
  · refine J.pu (fun _ _ _ _ k => lv_lookup (tgt := 98) (off := 90) X.1.1 X.1.2.1 dX10_isDeed_8 (by decide +kernel) (by rw [c8_3559837]; decide +kernel) (by decide) k) ?_
    refine J.pu (fun _ _ _ _ k => W.rload_n X.1.1 X.1.2.1 dX10_isDeed_98 rfl (lv_at hl 1 rfl) k) ?_
    refine J.pu (fun _ _ _ _ k => W.ldcS (i := 22) X rfl dX10_isDeed_99 k) ?_
    refine J.bind (fun o101 g101 => ?_)
    refine J.bind (fun v101 h101 => ?_)
    refine J.cV (q := (RJ9, TJ9, 4)) (ci := 21) (As := [va_rf (G.2.2.2 22)]) (rest := []) (s2 := [.int v101]) X ⟨rfl, rfl⟩ (ct_J9_equals l G S5 o101 (G.2.2.2 22)) (jrd_of h101) (fun _ _ => cwV 1 X.1.2.2.2.2 (lw_V q1797 q1558 q1559 q149 q1560) rfl rfl rfl (by decide +kernel) ⟨(Nat.le_of_ble_eq_true rfl), (Nat.le_of_ble_eq_true rfl)⟩) g101 rfl rfl hl.1 rfl rfl (Nat.le_of_ble_eq_true rfl) dX10_isDeed_101 ?_
    refine J.br (fun _ _ _ _ ka kb => lv_if_eq (tgt := 195) X.1.1 X.1.2.1 dX10_isDeed_104 (by decide) ka kb) (fun c104 => ?_) (fun c104 => ?_)
    · exact j195 (-1) S5 ls (lv_sub hl [0] rfl)
    · refine J.pu (fun _ _ _ _ k => lv_iconst (v := 1) X.1.1 X.1.2.1 dX10_isDeed_107 (by decide) k) ?_
      refine J.istore_n (i := 3) (lv' := [(3, .int 1), (2, va_rf a1), (0, .ref this), (1, va_rf a1)]) X.1.1 X.1.2.1 dX10_isDeed_108 rfl hl (by decide) (by first | rfl | simp [va_rf_cat, jcI, jcA, jcJ, jcD, jcF]) (fun ls hl => ?_)
      refine J.pu (fun _ _ _ _ k => lv_goto (tgt := 195) X.1.1 X.1.2.1 dX10_isDeed_109 (by decide) k) ?_
      exact j195 1 S5 ls (lv_sub hl [0] rfl)
  refine J.ite (fun c8_96634189 => ?_) (fun c8_96634189 => ?_)
  · refine J.pu (fun _ _ _ _ k => lv_lookup (tgt := 126) (off := 118) X.1.1 X.1.2.1 dX10_isDeed_8 (by decide +kernel) (by rw [c8_96634189]; decide +kernel) (by decide) k) ?_
    refine J.pu (fun _ _ _ _ k => W.rload_n X.1.1 X.1.2.1 dX10_isDeed_126 rfl (lv_at hl 1 rfl) k) ?_
    refine J.pu (fun _ _ _ _ k => W.ldcS (i := 24) X rfl dX10_isDeed_127 k) ?_
    refine J.bind (fun o129 g129 => ?_)
    refine J.bind (fun v129 h129 => ?_)
    refine J.cV (q := (RJ9, TJ9, 4)) (ci := 21) (As := [va_rf (G.2.2.2 24)]) (rest := []) (s2 := [.int v129]) X ⟨rfl, rfl⟩ (ct_J9_equals l G S5 o129 (G.2.2.2 24)) (jrd_of h129) (fun _ _ => cwV 1 X.1.2.2.2.2 (lw_V q1797 q1558 q1559 q149 q1560) rfl rfl rfl (by decide +kernel) ⟨(Nat.le_of_ble_eq_true rfl), (Nat.le_of_ble_eq_true rfl)⟩) g129 rfl rfl hl.1 rfl rfl (Nat.le_of_ble_eq_true rfl) dX10_isDeed_129 ?_
    refine J.br (fun _ _ _ _ ka kb => lv_if_eq (tgt := 195) X.1.1 X.1.2.1 dX10_isDeed_132 (by decide) ka kb) (fun c132 => ?_) (fun c132 => ?_)
    · exact j195 (-1) S5 ls (lv_sub hl [0] rfl)
    · refine J.pu (fun _ _ _ _ k => lv_iconst (v := 3) X.1.1 X.1.2.1 dX10_isDeed_135 (by decide) k) ?_
      refine J.istore_n (i := 3) (lv' := [(3, .int 3), (2, va_rf a1), (0, .ref this), (1, va_rf a1)]) X.1.1 X.1.2.1 dX10_isDeed_136 rfl hl (by decide) (by first | rfl | simp [va_rf_cat, jcI, jcA, jcJ, jcD, jcF]) (fun ls hl => ?_)
      refine J.pu (fun _ _ _ _ k => lv_goto (tgt := 195) X.1.1 X.1.2.1 dX10_isDeed_137 (by decide) k) ?_
      exact j195 3 S5 ls (lv_sub hl [0] rfl)
  refine J.pu (fun _ _ _ _ k => lv_lookup (tgt := 195) (off := 187) X.1.1 X.1.2.1 dX10_isDeed_8 (by decide +kernel) (by show Op.lookupswitch.offset [(-925138779, 175), (-787751952, 160), (111375, 76), (3417674, 146), (3529652, 132), (3533120, 104), (3559837, 90), (96634189, 118)] _ _ = _; rw [lv_osw c8_m925138779 (by decide), lv_osw c8_m787751952 (by decide), lv_osw c8_111375 (by decide), lv_osw c8_3417674 (by decide), lv_osw c8_3529652 (by decide), lv_osw c8_3533120 (by decide), lv_osw c8_3559837 (by decide), lv_osw c8_96634189 (by decide)]; rfl) (by decide) k) ?_
  exact j195 (-1) S5 ls (lv_sub hl [0] rfl)
noncomputable def X11_init_X12_j17 (G : jG) (n : Nat) (this : Nat) (a1 : Option Nat) (s1_17 : Int32) (B17 : jH) : Option (Unit × jH) :=
  (pI G B17 (some this) 9 0 s1_17).bind fun S17 => (aLen' S17 a1).bind fun v22 => if v22 ≤ 1 then ((pI G S17 (some this) 9 1 (-1)).bind fun S34 => some ((), S34)) else ((aI S17 a1 0 1).bind fun v29 => (pI G S17 (some this) 9 1 v29).bind fun S34 => some ((), S34))
noncomputable def X11_init_X12_b (G : jG) (n : Nat) (σ : jH) (this : Nat) (a1 : Option Nat) : Option (Unit × jH) :=
  (aLen' σ a1).bind fun v6 => if v6 ≤ 0 then (X11_init_X12_j17 G n this a1 (-1) σ) else ((aI σ a1 0 0).bind fun v12 => X11_init_X12_j17 G n this a1 v12 σ)
noncomputable def X11_init_X12 (G : jG) (n : Nat) (σ : jH) (this : Nat) (a1 : Option Nat) : Option (Unit × jH) := jck σ (X11_init_X12_b G n σ this a1)
set_option maxHeartbeats 4000000 in
set_option maxRecDepth 100000 in
theorem ct_X11_init_X12 (l : Launch) (G : jG) (n : Nat) (σ : jH) (this : Nat) (a1 : Option Nat) : jCt l G yX11_init (ws_ yX11_init cX11_init 2 none) 1 30 jrV [.ref this, va_rf a1] σ (X11_init_X12 G n σ this a1) := by
  refine jCt.wr (lv := [(0, .ref this), (1, va_rf a1)]) (plainFor_of_name (by decide)) (by simp [lg_sl, va_rf_cat, jcI, jcA, jcJ, jcD, jcF]) (by simp [lv_args, va_rf_cat, jcI, jcA, jcJ, jcD, jcF]) ?_
  intro t p e s m args below meth c ls X hr hnm hl
  have X : jCx p c cX11_init 2 s m args RX11 G meth := X
  have j17 : ∀ (s1_17 : Int32) (B17 : jH) (ls : Array Slot), lv_has ls 2 [(0, .ref this), (1, va_rf a1)] → jGo l G 1 30 σ (Prod.snd : Unit × jH → jH) (fun t => jrV t.1) t p e s m args below meth c (X11_init_X12_j17 G n this a1 s1_17 B17) B17 (F0 m 17 ls [.int s1_17, .ref this]) := by
    intro s1_17 B17 ls hl
    unfold X11_init_X12_j17
    refine J.putIF (k := 0) (ci := 9) X hnm in_X12 (show jCl[9]? = some (RX12, TX12, 2) from rfl) tyX12_ok (fun a ha b hb h => Or.inl (nmX12 a ha b hb h)) (by decide) q1837 (fun _ h => h) rfl rfl rfl dX11_init_17 (fun S17 h17 => ?_)
    refine J.pu (fun _ _ _ _ k => lv_aload_n X.1.1 X.1.2.1 dX11_init_20 rfl (lv_at hl 0 rfl) k) ?_
    refine J.pu (fun _ _ _ _ k => W.rload_n X.1.1 X.1.2.1 dX11_init_21 rfl (lv_at hl 1 rfl) k) ?_
    refine J.len X dX11_init_22 (fun v22 h22 => ?_)
    refine J.pu (fun _ _ _ _ k => lv_iconst (v := 1) X.1.1 X.1.2.1 dX11_init_23 (by decide) k) ?_
    refine J.br (fun _ _ _ _ ka kb => lv_icmp_le (tgt := 33) X.1.1 X.1.2.1 dX11_init_24 (by decide) ka kb) (fun c24 => ?_) (fun c24 => ?_)
    · refine J.pu (fun _ _ _ _ k => lv_iconst (v := (-1)) X.1.1 X.1.2.1 dX11_init_33 (by decide) k) ?_
      refine J.putIF (k := 1) (ci := 9) X hnm in_X12 (show jCl[9]? = some (RX12, TX12, 2) from rfl) tyX12_ok (fun a ha b hb h => Or.inl (nmX12 a ha b hb h)) (by decide) q1838 (fun _ h => h) rfl rfl rfl dX11_init_34 (fun S34 h34 => ?_)
      exact J.vret (vr := fun t : Unit × jH => jrV t.1) (fin := Prod.snd) (t := t) X hr (by rfl) (by rfl) dX11_init_37
    · refine J.pu (fun _ _ _ _ k => W.rload_n X.1.1 X.1.2.1 dX11_init_27 rfl (lv_at hl 1 rfl) k) ?_
      refine J.pu (fun _ _ _ _ k => lv_iconst (v := 1) X.1.1 X.1.2.1 dX11_init_28 (by decide) k) ?_
      refine J.aI0 X dX11_init_29 (fun v29 h29 => ?_)
      refine J.pu (fun _ _ _ _ k => lv_goto (tgt := 34) X.1.1 X.1.2.1 dX11_init_30 (by decide) k) ?_
      refine J.putIF (k := 1) (ci := 9) X hnm in_X12 (show jCl[9]? = some (RX12, TX12, 2) from rfl) tyX12_ok (fun a ha b hb h => Or.inl (nmX12 a ha b hb h)) (by decide) q1838 (fun _ h => h) rfl rfl rfl dX11_init_34 (fun S34 h34 => ?_)
      exact J.vret (vr := fun t : Unit × jH => jrV t.1) (fin := Prod.snd) (t := t) X hr (by rfl) (by rfl) dX11_init_37
  unfold X11_init_X12_b
  refine J.pu (fun _ _ _ _ k => lv_aload_n X.1.1 X.1.2.1 dX11_init_0 rfl (lv_at hl 0 rfl) k) ?_
  refine J.objI (a := this) X q1836 hl.1 dX11_init_1 (Nat.le_of_ble_eq_true rfl) (Nat.le_of_ble_eq_true rfl) ?_
  refine J.pu (fun _ _ _ _ k => lv_aload_n X.1.1 X.1.2.1 dX11_init_4 rfl (lv_at hl 0 rfl) k) ?_
  refine J.pu (fun _ _ _ _ k => W.rload_n X.1.1 X.1.2.1 dX11_init_5 rfl (lv_at hl 1 rfl) k) ?_
  refine J.len X dX11_init_6 (fun v6 h6 => ?_)
  refine J.br (fun _ _ _ _ ka kb => lv_if_le (tgt := 16) X.1.1 X.1.2.1 dX11_init_7 (by decide) ka kb) (fun c7 => ?_) (fun c7 => ?_)
  · refine J.pu (fun _ _ _ _ k => lv_iconst (v := (-1)) X.1.1 X.1.2.1 dX11_init_16 (by decide) k) ?_
    exact j17 (-1) σ ls (lv_sub hl [0, 1] rfl)
  · refine J.pu (fun _ _ _ _ k => W.rload_n X.1.1 X.1.2.1 dX11_init_10 rfl (lv_at hl 1 rfl) k) ?_
    refine J.pu (fun _ _ _ _ k => lv_iconst (v := 0) X.1.1 X.1.2.1 dX11_init_11 (by decide) k) ?_
    refine J.aI0 X dX11_init_12 (fun v12 h12 => ?_)
    refine J.pu (fun _ _ _ _ k => lv_goto (tgt := 17) X.1.1 X.1.2.1 dX11_init_13 (by decide) k) ?_
    exact j17 v12 σ ls (lv_sub hl [0, 1] rfl)
noncomputable def X11_init_X13_j17 (G : jG) (n : Nat) (this : Nat) (a1 : Option Nat) (s1_17 : Int32) (B17 : jH) : Option (Unit × jH) :=
  (pI G B17 (some this) 10 0 s1_17).bind fun S17 => (aLen' S17 a1).bind fun v22 => if v22 ≤ 1 then ((pI G S17 (some this) 10 1 (-1)).bind fun S34 => some ((), S34)) else ((aI S17 a1 0 1).bind fun v29 => (pI G S17 (some this) 10 1 v29).bind fun S34 => some ((), S34))
noncomputable def X11_init_X13_b (G : jG) (n : Nat) (σ : jH) (this : Nat) (a1 : Option Nat) : Option (Unit × jH) :=
  (aLen' σ a1).bind fun v6 => if v6 ≤ 0 then (X11_init_X13_j17 G n this a1 (-1) σ) else ((aI σ a1 0 0).bind fun v12 => X11_init_X13_j17 G n this a1 v12 σ)
noncomputable def X11_init_X13 (G : jG) (n : Nat) (σ : jH) (this : Nat) (a1 : Option Nat) : Option (Unit × jH) := jck σ (X11_init_X13_b G n σ this a1)
set_option maxHeartbeats 4000000 in
set_option maxRecDepth 100000 in
theorem ct_X11_init_X13 (l : Launch) (G : jG) (n : Nat) (σ : jH) (this : Nat) (a1 : Option Nat) : jCt l G yX11_init (ws_ yX11_init cX11_init 2 none) 1 30 jrV [.ref this, va_rf a1] σ (X11_init_X13 G n σ this a1) := by
  refine jCt.wr (lv := [(0, .ref this), (1, va_rf a1)]) (plainFor_of_name (by decide)) (by simp [lg_sl, va_rf_cat, jcI, jcA, jcJ, jcD, jcF]) (by simp [lv_args, va_rf_cat, jcI, jcA, jcJ, jcD, jcF]) ?_
  intro t p e s m args below meth c ls X hr hnm hl
  have X : jCx p c cX11_init 2 s m args RX11 G meth := X
  have j17 : ∀ (s1_17 : Int32) (B17 : jH) (ls : Array Slot), lv_has ls 2 [(0, .ref this), (1, va_rf a1)] → jGo l G 1 30 σ (Prod.snd : Unit × jH → jH) (fun t => jrV t.1) t p e s m args below meth c (X11_init_X13_j17 G n this a1 s1_17 B17) B17 (F0 m 17 ls [.int s1_17, .ref this]) := by
    intro s1_17 B17 ls hl
    unfold X11_init_X13_j17
    refine J.putIF (k := 0) (ci := 10) X hnm in_X13 (show jCl[10]? = some (RX13, TX13, 2) from rfl) tyX13_ok (fun a ha b hb h => Or.inl (nmX13 a ha b hb h)) (by decide) q1837 (fun _ h => h) rfl rfl rfl dX11_init_17 (fun S17 h17 => ?_)
    refine J.pu (fun _ _ _ _ k => lv_aload_n X.1.1 X.1.2.1 dX11_init_20 rfl (lv_at hl 0 rfl) k) ?_
    refine J.pu (fun _ _ _ _ k => W.rload_n X.1.1 X.1.2.1 dX11_init_21 rfl (lv_at hl 1 rfl) k) ?_
    refine J.len X dX11_init_22 (fun v22 h22 => ?_)
    refine J.pu (fun _ _ _ _ k => lv_iconst (v := 1) X.1.1 X.1.2.1 dX11_init_23 (by decide) k) ?_
    refine J.br (fun _ _ _ _ ka kb => lv_icmp_le (tgt := 33) X.1.1 X.1.2.1 dX11_init_24 (by decide) ka kb) (fun c24 => ?_) (fun c24 => ?_)
    · refine J.pu (fun _ _ _ _ k => lv_iconst (v := (-1)) X.1.1 X.1.2.1 dX11_init_33 (by decide) k) ?_
      refine J.putIF (k := 1) (ci := 10) X hnm in_X13 (show jCl[10]? = some (RX13, TX13, 2) from rfl) tyX13_ok (fun a ha b hb h => Or.inl (nmX13 a ha b hb h)) (by decide) q1838 (fun _ h => h) rfl rfl rfl dX11_init_34 (fun S34 h34 => ?_)
      exact J.vret (vr := fun t : Unit × jH => jrV t.1) (fin := Prod.snd) (t := t) X hr (by rfl) (by rfl) dX11_init_37
    · refine J.pu (fun _ _ _ _ k => W.rload_n X.1.1 X.1.2.1 dX11_init_27 rfl (lv_at hl 1 rfl) k) ?_
      refine J.pu (fun _ _ _ _ k => lv_iconst (v := 1) X.1.1 X.1.2.1 dX11_init_28 (by decide) k) ?_
      refine J.aI0 X dX11_init_29 (fun v29 h29 => ?_)
      refine J.pu (fun _ _ _ _ k => lv_goto (tgt := 34) X.1.1 X.1.2.1 dX11_init_30 (by decide) k) ?_
      refine J.putIF (k := 1) (ci := 10) X hnm in_X13 (show jCl[10]? = some (RX13, TX13, 2) from rfl) tyX13_ok (fun a ha b hb h => Or.inl (nmX13 a ha b hb h)) (by decide) q1838 (fun _ h => h) rfl rfl rfl dX11_init_34 (fun S34 h34 => ?_)
      exact J.vret (vr := fun t : Unit × jH => jrV t.1) (fin := Prod.snd) (t := t) X hr (by rfl) (by rfl) dX11_init_37
  unfold X11_init_X13_b
  refine J.pu (fun _ _ _ _ k => lv_aload_n X.1.1 X.1.2.1 dX11_init_0 rfl (lv_at hl 0 rfl) k) ?_
  refine J.objI (a := this) X q1836 hl.1 dX11_init_1 (Nat.le_of_ble_eq_true rfl) (Nat.le_of_ble_eq_true rfl) ?_
  refine J.pu (fun _ _ _ _ k => lv_aload_n X.1.1 X.1.2.1 dX11_init_4 rfl (lv_at hl 0 rfl) k) ?_
  refine J.pu (fun _ _ _ _ k => W.rload_n X.1.1 X.1.2.1 dX11_init_5 rfl (lv_at hl 1 rfl) k) ?_
  refine J.len X dX11_init_6 (fun v6 h6 => ?_)
  refine J.br (fun _ _ _ _ ka kb => lv_if_le (tgt := 16) X.1.1 X.1.2.1 dX11_init_7 (by decide) ka kb) (fun c7 => ?_) (fun c7 => ?_)
  · refine J.pu (fun _ _ _ _ k => lv_iconst (v := (-1)) X.1.1 X.1.2.1 dX11_init_16 (by decide) k) ?_
    exact j17 (-1) σ ls (lv_sub hl [0, 1] rfl)
  · refine J.pu (fun _ _ _ _ k => W.rload_n X.1.1 X.1.2.1 dX11_init_10 rfl (lv_at hl 1 rfl) k) ?_
    refine J.pu (fun _ _ _ _ k => lv_iconst (v := 0) X.1.1 X.1.2.1 dX11_init_11 (by decide) k) ?_
    refine J.aI0 X dX11_init_12 (fun v12 h12 => ?_)
    refine J.pu (fun _ _ _ _ k => lv_goto (tgt := 17) X.1.1 X.1.2.1 dX11_init_13 (by decide) k) ?_
    exact j17 v12 σ ls (lv_sub hl [0, 1] rfl)
noncomputable def X11_init_X14_j17 (G : jG) (n : Nat) (this : Nat) (a1 : Option Nat) (s1_17 : Int32) (B17 : jH) : Option (Unit × jH) :=
  (pI G B17 (some this) 11 0 s1_17).bind fun S17 => (aLen' S17 a1).bind fun v22 => if v22 ≤ 1 then ((pI G S17 (some this) 11 1 (-1)).bind fun S34 => some ((), S34)) else ((aI S17 a1 0 1).bind fun v29 => (pI G S17 (some this) 11 1 v29).bind fun S34 => some ((), S34))
noncomputable def X11_init_X14_b (G : jG) (n : Nat) (σ : jH) (this : Nat) (a1 : Option Nat) : Option (Unit × jH) :=
  (aLen' σ a1).bind fun v6 => if v6 ≤ 0 then (X11_init_X14_j17 G n this a1 (-1) σ) else ((aI σ a1 0 0).bind fun v12 => X11_init_X14_j17 G n this a1 v12 σ)
noncomputable def X11_init_X14 (G : jG) (n : Nat) (σ : jH) (this : Nat) (a1 : Option Nat) : Option (Unit × jH) := jck σ (X11_init_X14_b G n σ this a1)
set_option maxHeartbeats 4000000 in
set_option maxRecDepth 100000 in
theorem ct_X11_init_X14 (l : Launch) (G : jG) (n : Nat) (σ : jH) (this : Nat) (a1 : Option Nat) : jCt l G yX11_init (ws_ yX11_init cX11_init 2 none) 1 30 jrV [.ref this, va_rf a1] σ (X11_init_X14 G n σ this a1) := by
  refine jCt.wr (lv := [(0, .ref this), (1, va_rf a1)]) (plainFor_of_name (by decide)) (by simp [lg_sl, va_rf_cat, jcI, jcA, jcJ, jcD, jcF]) (by simp [lv_args, va_rf_cat, jcI, jcA, jcJ, jcD, jcF]) ?_
  intro t p e s m args below meth c ls X hr hnm hl
  have X : jCx p c cX11_init 2 s m args RX11 G meth := X
  have j17 : ∀ (s1_17 : Int32) (B17 : jH) (ls : Array Slot), lv_has ls 2 [(0, .ref this), (1, va_rf a1)] → jGo l G 1 30 σ (Prod.snd : Unit × jH → jH) (fun t => jrV t.1) t p e s m args below meth c (X11_init_X14_j17 G n this a1 s1_17 B17) B17 (F0 m 17 ls [.int s1_17, .ref this]) := by
    intro s1_17 B17 ls hl
    unfold X11_init_X14_j17
    refine J.putIF (k := 0) (ci := 11) X hnm in_X14 (show jCl[11]? = some (RX14, TX14, 2) from rfl) tyX14_ok (fun a ha b hb h => Or.inl (nmX14 a ha b hb h)) (by decide) q1837 (fun _ h => h) rfl rfl rfl dX11_init_17 (fun S17 h17 => ?_)
    refine J.pu (fun _ _ _ _ k => lv_aload_n X.1.1 X.1.2.1 dX11_init_20 rfl (lv_at hl 0 rfl) k) ?_
    refine J.pu (fun _ _ _ _ k => W.rload_n X.1.1 X.1.2.1 dX11_init_21 rfl (lv_at hl 1 rfl) k) ?_
    refine J.len X dX11_init_22 (fun v22 h22 => ?_)
    refine J.pu (fun _ _ _ _ k => lv_iconst (v := 1) X.1.1 X.1.2.1 dX11_init_23 (by decide) k) ?_
    refine J.br (fun _ _ _ _ ka kb => lv_icmp_le (tgt := 33) X.1.1 X.1.2.1 dX11_init_24 (by decide) ka kb) (fun c24 => ?_) (fun c24 => ?_)
    · refine J.pu (fun _ _ _ _ k => lv_iconst (v := (-1)) X.1.1 X.1.2.1 dX11_init_33 (by decide) k) ?_
      refine J.putIF (k := 1) (ci := 11) X hnm in_X14 (show jCl[11]? = some (RX14, TX14, 2) from rfl) tyX14_ok (fun a ha b hb h => Or.inl (nmX14 a ha b hb h)) (by decide) q1838 (fun _ h => h) rfl rfl rfl dX11_init_34 (fun S34 h34 => ?_)
      exact J.vret (vr := fun t : Unit × jH => jrV t.1) (fin := Prod.snd) (t := t) X hr (by rfl) (by rfl) dX11_init_37
    · refine J.pu (fun _ _ _ _ k => W.rload_n X.1.1 X.1.2.1 dX11_init_27 rfl (lv_at hl 1 rfl) k) ?_
      refine J.pu (fun _ _ _ _ k => lv_iconst (v := 1) X.1.1 X.1.2.1 dX11_init_28 (by decide) k) ?_
      refine J.aI0 X dX11_init_29 (fun v29 h29 => ?_)
      refine J.pu (fun _ _ _ _ k => lv_goto (tgt := 34) X.1.1 X.1.2.1 dX11_init_30 (by decide) k) ?_
      refine J.putIF (k := 1) (ci := 11) X hnm in_X14 (show jCl[11]? = some (RX14, TX14, 2) from rfl) tyX14_ok (fun a ha b hb h => Or.inl (nmX14 a ha b hb h)) (by decide) q1838 (fun _ h => h) rfl rfl rfl dX11_init_34 (fun S34 h34 => ?_)
      exact J.vret (vr := fun t : Unit × jH => jrV t.1) (fin := Prod.snd) (t := t) X hr (by rfl) (by rfl) dX11_init_37
  unfold X11_init_X14_b
  refine J.pu (fun _ _ _ _ k => lv_aload_n X.1.1 X.1.2.1 dX11_init_0 rfl (lv_at hl 0 rfl) k) ?_
  refine J.objI (a := this) X q1836 hl.1 dX11_init_1 (Nat.le_of_ble_eq_true rfl) (Nat.le_of_ble_eq_true rfl) ?_
  refine J.pu (fun _ _ _ _ k => lv_aload_n X.1.1 X.1.2.1 dX11_init_4 rfl (lv_at hl 0 rfl) k) ?_
  refine J.pu (fun _ _ _ _ k => W.rload_n X.1.1 X.1.2.1 dX11_init_5 rfl (lv_at hl 1 rfl) k) ?_
  refine J.len X dX11_init_6 (fun v6 h6 => ?_)
  refine J.br (fun _ _ _ _ ka kb => lv_if_le (tgt := 16) X.1.1 X.1.2.1 dX11_init_7 (by decide) ka kb) (fun c7 => ?_) (fun c7 => ?_)
  · refine J.pu (fun _ _ _ _ k => lv_iconst (v := (-1)) X.1.1 X.1.2.1 dX11_init_16 (by decide) k) ?_
    exact j17 (-1) σ ls (lv_sub hl [0, 1] rfl)
  · refine J.pu (fun _ _ _ _ k => W.rload_n X.1.1 X.1.2.1 dX11_init_10 rfl (lv_at hl 1 rfl) k) ?_
    refine J.pu (fun _ _ _ _ k => lv_iconst (v := 0) X.1.1 X.1.2.1 dX11_init_11 (by decide) k) ?_
    refine J.aI0 X dX11_init_12 (fun v12 h12 => ?_)
    refine J.pu (fun _ _ _ _ k => lv_goto (tgt := 17) X.1.1 X.1.2.1 dX11_init_13 (by decide) k) ?_
    exact j17 v12 σ ls (lv_sub hl [0, 1] rfl)
noncomputable def X11_init_X15_j17 (G : jG) (n : Nat) (this : Nat) (a1 : Option Nat) (s1_17 : Int32) (B17 : jH) : Option (Unit × jH) :=
  (pI G B17 (some this) 12 0 s1_17).bind fun S17 => (aLen' S17 a1).bind fun v22 => if v22 ≤ 1 then ((pI G S17 (some this) 12 1 (-1)).bind fun S34 => some ((), S34)) else ((aI S17 a1 0 1).bind fun v29 => (pI G S17 (some this) 12 1 v29).bind fun S34 => some ((), S34))
noncomputable def X11_init_X15_b (G : jG) (n : Nat) (σ : jH) (this : Nat) (a1 : Option Nat) : Option (Unit × jH) :=
  (aLen' σ a1).bind fun v6 => if v6 ≤ 0 then (X11_init_X15_j17 G n this a1 (-1) σ) else ((aI σ a1 0 0).bind fun v12 => X11_init_X15_j17 G n this a1 v12 σ)
noncomputable def X11_init_X15 (G : jG) (n : Nat) (σ : jH) (this : Nat) (a1 : Option Nat) : Option (Unit × jH) := jck σ (X11_init_X15_b G n σ this a1)
set_option maxHeartbeats 4000000 in
set_option maxRecDepth 100000 in
theorem ct_X11_init_X15 (l : Launch) (G : jG) (n : Nat) (σ : jH) (this : Nat) (a1 : Option Nat) : jCt l G yX11_init (ws_ yX11_init cX11_init 2 none) 1 30 jrV [.ref this, va_rf a1] σ (X11_init_X15 G n σ this a1) := by
  refine jCt.wr (lv := [(0, .ref this), (1, va_rf a1)]) (plainFor_of_name (by decide)) (by simp [lg_sl, va_rf_cat, jcI, jcA, jcJ, jcD, jcF]) (by simp [lv_args, va_rf_cat, jcI, jcA, jcJ, jcD, jcF]) ?_
  intro t p e s m args below meth c ls X hr hnm hl
  have X : jCx p c cX11_init 2 s m args RX11 G meth := X
  have j17 : ∀ (s1_17 : Int32) (B17 : jH) (ls : Array Slot), lv_has ls 2 [(0, .ref this), (1, va_rf a1)] → jGo l G 1 30 σ (Prod.snd : Unit × jH → jH) (fun t => jrV t.1) t p e s m args below meth c (X11_init_X15_j17 G n this a1 s1_17 B17) B17 (F0 m 17 ls [.int s1_17, .ref this]) := by
    intro s1_17 B17 ls hl
    unfold X11_init_X15_j17
    refine J.putIF (k := 0) (ci := 12) X hnm in_X15 (show jCl[12]? = some (RX15, TX15, 2) from rfl) tyX15_ok (fun a ha b hb h => Or.inl (nmX15 a ha b hb h)) (by decide) q1837 (fun _ h => h) rfl rfl rfl dX11_init_17 (fun S17 h17 => ?_)
    refine J.pu (fun _ _ _ _ k => lv_aload_n X.1.1 X.1.2.1 dX11_init_20 rfl (lv_at hl 0 rfl) k) ?_
    refine J.pu (fun _ _ _ _ k => W.rload_n X.1.1 X.1.2.1 dX11_init_21 rfl (lv_at hl 1 rfl) k) ?_
    refine J.len X dX11_init_22 (fun v22 h22 => ?_)
    refine J.pu (fun _ _ _ _ k => lv_iconst (v := 1) X.1.1 X.1.2.1 dX11_init_23 (by decide) k) ?_
    refine J.br (fun _ _ _ _ ka kb => lv_icmp_le (tgt := 33) X.1.1 X.1.2.1 dX11_init_24 (by decide) ka kb) (fun c24 => ?_) (fun c24 => ?_)
    · refine J.pu (fun _ _ _ _ k => lv_iconst (v := (-1)) X.1.1 X.1.2.1 dX11_init_33 (by decide) k) ?_
      refine J.putIF (k := 1) (ci := 12) X hnm in_X15 (show jCl[12]? = some (RX15, TX15, 2) from rfl) tyX15_ok (fun a ha b hb h => Or.inl (nmX15 a ha b hb h)) (by decide) q1838 (fun _ h => h) rfl rfl rfl dX11_init_34 (fun S34 h34 => ?_)
      exact J.vret (vr := fun t : Unit × jH => jrV t.1) (fin := Prod.snd) (t := t) X hr (by rfl) (by rfl) dX11_init_37
    · refine J.pu (fun _ _ _ _ k => W.rload_n X.1.1 X.1.2.1 dX11_init_27 rfl (lv_at hl 1 rfl) k) ?_
      refine J.pu (fun _ _ _ _ k => lv_iconst (v := 1) X.1.1 X.1.2.1 dX11_init_28 (by decide) k) ?_
      refine J.aI0 X dX11_init_29 (fun v29 h29 => ?_)
      refine J.pu (fun _ _ _ _ k => lv_goto (tgt := 34) X.1.1 X.1.2.1 dX11_init_30 (by decide) k) ?_
      refine J.putIF (k := 1) (ci := 12) X hnm in_X15 (show jCl[12]? = some (RX15, TX15, 2) from rfl) tyX15_ok (fun a ha b hb h => Or.inl (nmX15 a ha b hb h)) (by decide) q1838 (fun _ h => h) rfl rfl rfl dX11_init_34 (fun S34 h34 => ?_)
      exact J.vret (vr := fun t : Unit × jH => jrV t.1) (fin := Prod.snd) (t := t) X hr (by rfl) (by rfl) dX11_init_37
  unfold X11_init_X15_b
  refine J.pu (fun _ _ _ _ k => lv_aload_n X.1.1 X.1.2.1 dX11_init_0 rfl (lv_at hl 0 rfl) k) ?_
  refine J.objI (a := this) X q1836 hl.1 dX11_init_1 (Nat.le_of_ble_eq_true rfl) (Nat.le_of_ble_eq_true rfl) ?_
  refine J.pu (fun _ _ _ _ k => lv_aload_n X.1.1 X.1.2.1 dX11_init_4 rfl (lv_at hl 0 rfl) k) ?_
  refine J.pu (fun _ _ _ _ k => W.rload_n X.1.1 X.1.2.1 dX11_init_5 rfl (lv_at hl 1 rfl) k) ?_
  refine J.len X dX11_init_6 (fun v6 h6 => ?_)
  refine J.br (fun _ _ _ _ ka kb => lv_if_le (tgt := 16) X.1.1 X.1.2.1 dX11_init_7 (by decide) ka kb) (fun c7 => ?_) (fun c7 => ?_)
  · refine J.pu (fun _ _ _ _ k => lv_iconst (v := (-1)) X.1.1 X.1.2.1 dX11_init_16 (by decide) k) ?_
    exact j17 (-1) σ ls (lv_sub hl [0, 1] rfl)
  · refine J.pu (fun _ _ _ _ k => W.rload_n X.1.1 X.1.2.1 dX11_init_10 rfl (lv_at hl 1 rfl) k) ?_
    refine J.pu (fun _ _ _ _ k => lv_iconst (v := 0) X.1.1 X.1.2.1 dX11_init_11 (by decide) k) ?_
    refine J.aI0 X dX11_init_12 (fun v12 h12 => ?_)
    refine J.pu (fun _ _ _ _ k => lv_goto (tgt := 17) X.1.1 X.1.2.1 dX11_init_13 (by decide) k) ?_
    exact j17 v12 σ ls (lv_sub hl [0, 1] rfl)
noncomputable def X11_init_X16_j17 (G : jG) (n : Nat) (this : Nat) (a1 : Option Nat) (s1_17 : Int32) (B17 : jH) : Option (Unit × jH) :=
  (pI G B17 (some this) 13 0 s1_17).bind fun S17 => (aLen' S17 a1).bind fun v22 => if v22 ≤ 1 then ((pI G S17 (some this) 13 1 (-1)).bind fun S34 => some ((), S34)) else ((aI S17 a1 0 1).bind fun v29 => (pI G S17 (some this) 13 1 v29).bind fun S34 => some ((), S34))
noncomputable def X11_init_X16_b (G : jG) (n : Nat) (σ : jH) (this : Nat) (a1 : Option Nat) : Option (Unit × jH) :=
  (aLen' σ a1).bind fun v6 => if v6 ≤ 0 then (X11_init_X16_j17 G n this a1 (-1) σ) else ((aI σ a1 0 0).bind fun v12 => X11_init_X16_j17 G n this a1 v12 σ)
noncomputable def X11_init_X16 (G : jG) (n : Nat) (σ : jH) (this : Nat) (a1 : Option Nat) : Option (Unit × jH) := jck σ (X11_init_X16_b G n σ this a1)
set_option maxHeartbeats 4000000 in
set_option maxRecDepth 100000 in
theorem ct_X11_init_X16 (l : Launch) (G : jG) (n : Nat) (σ : jH) (this : Nat) (a1 : Option Nat) : jCt l G yX11_init (ws_ yX11_init cX11_init 2 none) 1 30 jrV [.ref this, va_rf a1] σ (X11_init_X16 G n σ this a1) := by
  refine jCt.wr (lv := [(0, .ref this), (1, va_rf a1)]) (plainFor_of_name (by decide)) (by simp [lg_sl, va_rf_cat, jcI, jcA, jcJ, jcD, jcF]) (by simp [lv_args, va_rf_cat, jcI, jcA, jcJ, jcD, jcF]) ?_
  intro t p e s m args below meth c ls X hr hnm hl
  have X : jCx p c cX11_init 2 s m args RX11 G meth := X
  have j17 : ∀ (s1_17 : Int32) (B17 : jH) (ls : Array Slot), lv_has ls 2 [(0, .ref this), (1, va_rf a1)] → jGo l G 1 30 σ (Prod.snd : Unit × jH → jH) (fun t => jrV t.1) t p e s m args below meth c (X11_init_X16_j17 G n this a1 s1_17 B17) B17 (F0 m 17 ls [.int s1_17, .ref this]) := by
    intro s1_17 B17 ls hl
    unfold X11_init_X16_j17
    refine J.putIF (k := 0) (ci := 13) X hnm in_X16 (show jCl[13]? = some (RX16, TX16, 2) from rfl) tyX16_ok (fun a ha b hb h => Or.inl (nmX16 a ha b hb h)) (by decide) q1837 (fun _ h => h) rfl rfl rfl dX11_init_17 (fun S17 h17 => ?_)
    refine J.pu (fun _ _ _ _ k => lv_aload_n X.1.1 X.1.2.1 dX11_init_20 rfl (lv_at hl 0 rfl) k) ?_
    refine J.pu (fun _ _ _ _ k => W.rload_n X.1.1 X.1.2.1 dX11_init_21 rfl (lv_at hl 1 rfl) k) ?_
    refine J.len X dX11_init_22 (fun v22 h22 => ?_)
    refine J.pu (fun _ _ _ _ k => lv_iconst (v := 1) X.1.1 X.1.2.1 dX11_init_23 (by decide) k) ?_
    refine J.br (fun _ _ _ _ ka kb => lv_icmp_le (tgt := 33) X.1.1 X.1.2.1 dX11_init_24 (by decide) ka kb) (fun c24 => ?_) (fun c24 => ?_)
    · refine J.pu (fun _ _ _ _ k => lv_iconst (v := (-1)) X.1.1 X.1.2.1 dX11_init_33 (by decide) k) ?_
      refine J.putIF (k := 1) (ci := 13) X hnm in_X16 (show jCl[13]? = some (RX16, TX16, 2) from rfl) tyX16_ok (fun a ha b hb h => Or.inl (nmX16 a ha b hb h)) (by decide) q1838 (fun _ h => h) rfl rfl rfl dX11_init_34 (fun S34 h34 => ?_)
      exact J.vret (vr := fun t : Unit × jH => jrV t.1) (fin := Prod.snd) (t := t) X hr (by rfl) (by rfl) dX11_init_37
    · refine J.pu (fun _ _ _ _ k => W.rload_n X.1.1 X.1.2.1 dX11_init_27 rfl (lv_at hl 1 rfl) k) ?_
      refine J.pu (fun _ _ _ _ k => lv_iconst (v := 1) X.1.1 X.1.2.1 dX11_init_28 (by decide) k) ?_
      refine J.aI0 X dX11_init_29 (fun v29 h29 => ?_)
      refine J.pu (fun _ _ _ _ k => lv_goto (tgt := 34) X.1.1 X.1.2.1 dX11_init_30 (by decide) k) ?_
      refine J.putIF (k := 1) (ci := 13) X hnm in_X16 (show jCl[13]? = some (RX16, TX16, 2) from rfl) tyX16_ok (fun a ha b hb h => Or.inl (nmX16 a ha b hb h)) (by decide) q1838 (fun _ h => h) rfl rfl rfl dX11_init_34 (fun S34 h34 => ?_)
      exact J.vret (vr := fun t : Unit × jH => jrV t.1) (fin := Prod.snd) (t := t) X hr (by rfl) (by rfl) dX11_init_37
  unfold X11_init_X16_b
  refine J.pu (fun _ _ _ _ k => lv_aload_n X.1.1 X.1.2.1 dX11_init_0 rfl (lv_at hl 0 rfl) k) ?_
  refine J.objI (a := this) X q1836 hl.1 dX11_init_1 (Nat.le_of_ble_eq_true rfl) (Nat.le_of_ble_eq_true rfl) ?_
  refine J.pu (fun _ _ _ _ k => lv_aload_n X.1.1 X.1.2.1 dX11_init_4 rfl (lv_at hl 0 rfl) k) ?_
  refine J.pu (fun _ _ _ _ k => W.rload_n X.1.1 X.1.2.1 dX11_init_5 rfl (lv_at hl 1 rfl) k) ?_
  refine J.len X dX11_init_6 (fun v6 h6 => ?_)
  refine J.br (fun _ _ _ _ ka kb => lv_if_le (tgt := 16) X.1.1 X.1.2.1 dX11_init_7 (by decide) ka kb) (fun c7 => ?_) (fun c7 => ?_)
  · refine J.pu (fun _ _ _ _ k => lv_iconst (v := (-1)) X.1.1 X.1.2.1 dX11_init_16 (by decide) k) ?_
    exact j17 (-1) σ ls (lv_sub hl [0, 1] rfl)
  · refine J.pu (fun _ _ _ _ k => W.rload_n X.1.1 X.1.2.1 dX11_init_10 rfl (lv_at hl 1 rfl) k) ?_
    refine J.pu (fun _ _ _ _ k => lv_iconst (v := 0) X.1.1 X.1.2.1 dX11_init_11 (by decide) k) ?_
    refine J.aI0 X dX11_init_12 (fun v12 h12 => ?_)
    refine J.pu (fun _ _ _ _ k => lv_goto (tgt := 17) X.1.1 X.1.2.1 dX11_init_13 (by decide) k) ?_
    exact j17 v12 σ ls (lv_sub hl [0, 1] rfl)
noncomputable def X11_init_X17_j17 (G : jG) (n : Nat) (this : Nat) (a1 : Option Nat) (s1_17 : Int32) (B17 : jH) : Option (Unit × jH) :=
  (pI G B17 (some this) 14 0 s1_17).bind fun S17 => (aLen' S17 a1).bind fun v22 => if v22 ≤ 1 then ((pI G S17 (some this) 14 1 (-1)).bind fun S34 => some ((), S34)) else ((aI S17 a1 0 1).bind fun v29 => (pI G S17 (some this) 14 1 v29).bind fun S34 => some ((), S34))
noncomputable def X11_init_X17_b (G : jG) (n : Nat) (σ : jH) (this : Nat) (a1 : Option Nat) : Option (Unit × jH) :=
  (aLen' σ a1).bind fun v6 => if v6 ≤ 0 then (X11_init_X17_j17 G n this a1 (-1) σ) else ((aI σ a1 0 0).bind fun v12 => X11_init_X17_j17 G n this a1 v12 σ)
noncomputable def X11_init_X17 (G : jG) (n : Nat) (σ : jH) (this : Nat) (a1 : Option Nat) : Option (Unit × jH) := jck σ (X11_init_X17_b G n σ this a1)
set_option maxHeartbeats 4000000 in
set_option maxRecDepth 100000 in
theorem ct_X11_init_X17 (l : Launch) (G : jG) (n : Nat) (σ : jH) (this : Nat) (a1 : Option Nat) : jCt l G yX11_init (ws_ yX11_init cX11_init 2 none) 1 30 jrV [.ref this, va_rf a1] σ (X11_init_X17 G n σ this a1) := by
  refine jCt.wr (lv := [(0, .ref this), (1, va_rf a1)]) (plainFor_of_name (by decide)) (by simp [lg_sl, va_rf_cat, jcI, jcA, jcJ, jcD, jcF]) (by simp [lv_args, va_rf_cat, jcI, jcA, jcJ, jcD, jcF]) ?_
  intro t p e s m args below meth c ls X hr hnm hl
  have X : jCx p c cX11_init 2 s m args RX11 G meth := X
  have j17 : ∀ (s1_17 : Int32) (B17 : jH) (ls : Array Slot), lv_has ls 2 [(0, .ref this), (1, va_rf a1)] → jGo l G 1 30 σ (Prod.snd : Unit × jH → jH) (fun t => jrV t.1) t p e s m args below meth c (X11_init_X17_j17 G n this a1 s1_17 B17) B17 (F0 m 17 ls [.int s1_17, .ref this]) := by
    intro s1_17 B17 ls hl
    unfold X11_init_X17_j17
    refine J.putIF (k := 0) (ci := 14) X hnm in_X17 (show jCl[14]? = some (RX17, TX17, 2) from rfl) tyX17_ok (fun a ha b hb h => Or.inl (nmX17 a ha b hb h)) (by decide) q1837 (fun _ h => h) rfl rfl rfl dX11_init_17 (fun S17 h17 => ?_)
    refine J.pu (fun _ _ _ _ k => lv_aload_n X.1.1 X.1.2.1 dX11_init_20 rfl (lv_at hl 0 rfl) k) ?_
    refine J.pu (fun _ _ _ _ k => W.rload_n X.1.1 X.1.2.1 dX11_init_21 rfl (lv_at hl 1 rfl) k) ?_
    refine J.len X dX11_init_22 (fun v22 h22 => ?_)
    refine J.pu (fun _ _ _ _ k => lv_iconst (v := 1) X.1.1 X.1.2.1 dX11_init_23 (by decide) k) ?_
    refine J.br (fun _ _ _ _ ka kb => lv_icmp_le (tgt := 33) X.1.1 X.1.2.1 dX11_init_24 (by decide) ka kb) (fun c24 => ?_) (fun c24 => ?_)
    · refine J.pu (fun _ _ _ _ k => lv_iconst (v := (-1)) X.1.1 X.1.2.1 dX11_init_33 (by decide) k) ?_
      refine J.putIF (k := 1) (ci := 14) X hnm in_X17 (show jCl[14]? = some (RX17, TX17, 2) from rfl) tyX17_ok (fun a ha b hb h => Or.inl (nmX17 a ha b hb h)) (by decide) q1838 (fun _ h => h) rfl rfl rfl dX11_init_34 (fun S34 h34 => ?_)
      exact J.vret (vr := fun t : Unit × jH => jrV t.1) (fin := Prod.snd) (t := t) X hr (by rfl) (by rfl) dX11_init_37
    · refine J.pu (fun _ _ _ _ k => W.rload_n X.1.1 X.1.2.1 dX11_init_27 rfl (lv_at hl 1 rfl) k) ?_
      refine J.pu (fun _ _ _ _ k => lv_iconst (v := 1) X.1.1 X.1.2.1 dX11_init_28 (by decide) k) ?_
      refine J.aI0 X dX11_init_29 (fun v29 h29 => ?_)
      refine J.pu (fun _ _ _ _ k => lv_goto (tgt := 34) X.1.1 X.1.2.1 dX11_init_30 (by decide) k) ?_
      refine J.putIF (k := 1) (ci := 14) X hnm in_X17 (show jCl[14]? = some (RX17, TX17, 2) from rfl) tyX17_ok (fun a ha b hb h => Or.inl (nmX17 a ha b hb h)) (by decide) q1838 (fun _ h => h) rfl rfl rfl dX11_init_34 (fun S34 h34 => ?_)
      exact J.vret (vr := fun t : Unit × jH => jrV t.1) (fin := Prod.snd) (t := t) X hr (by rfl) (by rfl) dX11_init_37
  unfold X11_init_X17_b
  refine J.pu (fun _ _ _ _ k => lv_aload_n X.1.1 X.1.2.1 dX11_init_0 rfl (lv_at hl 0 rfl) k) ?_
  refine J.objI (a := this) X q1836 hl.1 dX11_init_1 (Nat.le_of_ble_eq_true rfl) (Nat.le_of_ble_eq_true rfl) ?_
  refine J.pu (fun _ _ _ _ k => lv_aload_n X.1.1 X.1.2.1 dX11_init_4 rfl (lv_at hl 0 rfl) k) ?_
  refine J.pu (fun _ _ _ _ k => W.rload_n X.1.1 X.1.2.1 dX11_init_5 rfl (lv_at hl 1 rfl) k) ?_
  refine J.len X dX11_init_6 (fun v6 h6 => ?_)
  refine J.br (fun _ _ _ _ ka kb => lv_if_le (tgt := 16) X.1.1 X.1.2.1 dX11_init_7 (by decide) ka kb) (fun c7 => ?_) (fun c7 => ?_)
  · refine J.pu (fun _ _ _ _ k => lv_iconst (v := (-1)) X.1.1 X.1.2.1 dX11_init_16 (by decide) k) ?_
    exact j17 (-1) σ ls (lv_sub hl [0, 1] rfl)
  · refine J.pu (fun _ _ _ _ k => W.rload_n X.1.1 X.1.2.1 dX11_init_10 rfl (lv_at hl 1 rfl) k) ?_
    refine J.pu (fun _ _ _ _ k => lv_iconst (v := 0) X.1.1 X.1.2.1 dX11_init_11 (by decide) k) ?_
    refine J.aI0 X dX11_init_12 (fun v12 h12 => ?_)
    refine J.pu (fun _ _ _ _ k => lv_goto (tgt := 17) X.1.1 X.1.2.1 dX11_init_13 (by decide) k) ?_
    exact j17 v12 σ ls (lv_sub hl [0, 1] rfl)
noncomputable def X11_first_X12 (G : jG) (n : Nat) (σ : jH) (this : Nat) : Option (Int32) :=
  (gI σ (some this) 9 0).bind fun v1 => some v1
set_option maxHeartbeats 4000000 in
set_option maxRecDepth 100000 in
theorem ct_X11_first_X12 (l : Launch) (G : jG) (n : Nat) (σ : jH) (this : Nat) : jCt l G yX11_first (ws_ yX11_first cX11_first 1 (some .int)) 0 0 jrI [.ref this] σ (jrd σ (X11_first_X12 G n σ this)) := by
  refine jCt.rd (lv := [(0, .ref this)]) (plainFor_of_name (by decide)) (Nat.le_of_ble_eq_true rfl) rfl ?_
  intro t p e s m args below meth c ls X hr hnm hl
  have X : jCx p c cX11_first 1 s m args RX11 G meth := X
  unfold X11_first_X12
  refine J.pu (fun _ _ _ _ k => lv_aload_n X.1.1 X.1.2.1 dX11_first_0 rfl (lv_at hl 0 rfl) k) ?_
  refine J.getI (k := 0) (ci := 9) X in_X12 (show jCl[9]? = some (RX12, TX12, 2) from rfl) (by decide) q1837 (fun _ h => h) dX11_first_1 (fun v1 h1 => ?_)
  exact J.iret (vr := jrI) (fin := fun _ : Int32 => σ) (t := t) X hr (by rfl) (by rfl) dX11_first_4
noncomputable def X11_first_X13 (G : jG) (n : Nat) (σ : jH) (this : Nat) : Option (Int32) :=
  (gI σ (some this) 10 0).bind fun v1 => some v1
set_option maxHeartbeats 4000000 in
set_option maxRecDepth 100000 in
theorem ct_X11_first_X13 (l : Launch) (G : jG) (n : Nat) (σ : jH) (this : Nat) : jCt l G yX11_first (ws_ yX11_first cX11_first 1 (some .int)) 0 0 jrI [.ref this] σ (jrd σ (X11_first_X13 G n σ this)) := by
  refine jCt.rd (lv := [(0, .ref this)]) (plainFor_of_name (by decide)) (Nat.le_of_ble_eq_true rfl) rfl ?_
  intro t p e s m args below meth c ls X hr hnm hl
  have X : jCx p c cX11_first 1 s m args RX11 G meth := X
  unfold X11_first_X13
  refine J.pu (fun _ _ _ _ k => lv_aload_n X.1.1 X.1.2.1 dX11_first_0 rfl (lv_at hl 0 rfl) k) ?_
  refine J.getI (k := 0) (ci := 10) X in_X13 (show jCl[10]? = some (RX13, TX13, 2) from rfl) (by decide) q1837 (fun _ h => h) dX11_first_1 (fun v1 h1 => ?_)
  exact J.iret (vr := jrI) (fin := fun _ : Int32 => σ) (t := t) X hr (by rfl) (by rfl) dX11_first_4
noncomputable def X11_first_X14 (G : jG) (n : Nat) (σ : jH) (this : Nat) : Option (Int32) :=
  (gI σ (some this) 11 0).bind fun v1 => some v1
set_option maxHeartbeats 4000000 in
set_option maxRecDepth 100000 in
theorem ct_X11_first_X14 (l : Launch) (G : jG) (n : Nat) (σ : jH) (this : Nat) : jCt l G yX11_first (ws_ yX11_first cX11_first 1 (some .int)) 0 0 jrI [.ref this] σ (jrd σ (X11_first_X14 G n σ this)) := by
  refine jCt.rd (lv := [(0, .ref this)]) (plainFor_of_name (by decide)) (Nat.le_of_ble_eq_true rfl) rfl ?_
  intro t p e s m args below meth c ls X hr hnm hl
  have X : jCx p c cX11_first 1 s m args RX11 G meth := X
  unfold X11_first_X14
  refine J.pu (fun _ _ _ _ k => lv_aload_n X.1.1 X.1.2.1 dX11_first_0 rfl (lv_at hl 0 rfl) k) ?_
  refine J.getI (k := 0) (ci := 11) X in_X14 (show jCl[11]? = some (RX14, TX14, 2) from rfl) (by decide) q1837 (fun _ h => h) dX11_first_1 (fun v1 h1 => ?_)
  exact J.iret (vr := jrI) (fin := fun _ : Int32 => σ) (t := t) X hr (by rfl) (by rfl) dX11_first_4
noncomputable def X11_first_X15 (G : jG) (n : Nat) (σ : jH) (this : Nat) : Option (Int32) :=
  (gI σ (some this) 12 0).bind fun v1 => some v1
set_option maxHeartbeats 4000000 in
set_option maxRecDepth 100000 in
theorem ct_X11_first_X15 (l : Launch) (G : jG) (n : Nat) (σ : jH) (this : Nat) : jCt l G yX11_first (ws_ yX11_first cX11_first 1 (some .int)) 0 0 jrI [.ref this] σ (jrd σ (X11_first_X15 G n σ this)) := by
  refine jCt.rd (lv := [(0, .ref this)]) (plainFor_of_name (by decide)) (Nat.le_of_ble_eq_true rfl) rfl ?_
  intro t p e s m args below meth c ls X hr hnm hl
  have X : jCx p c cX11_first 1 s m args RX11 G meth := X
  unfold X11_first_X15
  refine J.pu (fun _ _ _ _ k => lv_aload_n X.1.1 X.1.2.1 dX11_first_0 rfl (lv_at hl 0 rfl) k) ?_
  refine J.getI (k := 0) (ci := 12) X in_X15 (show jCl[12]? = some (RX15, TX15, 2) from rfl) (by decide) q1837 (fun _ h => h) dX11_first_1 (fun v1 h1 => ?_)
  exact J.iret (vr := jrI) (fin := fun _ : Int32 => σ) (t := t) X hr (by rfl) (by rfl) dX11_first_4
noncomputable def X11_first_X16 (G : jG) (n : Nat) (σ : jH) (this : Nat) : Option (Int32) :=
  (gI σ (some this) 13 0).bind fun v1 => some v1
set_option maxHeartbeats 4000000 in
set_option maxRecDepth 100000 in
theorem ct_X11_first_X16 (l : Launch) (G : jG) (n : Nat) (σ : jH) (this : Nat) : jCt l G yX11_first (ws_ yX11_first cX11_first 1 (some .int)) 0 0 jrI [.ref this] σ (jrd σ (X11_first_X16 G n σ this)) := by
  refine jCt.rd (lv := [(0, .ref this)]) (plainFor_of_name (by decide)) (Nat.le_of_ble_eq_true rfl) rfl ?_
  intro t p e s m args below meth c ls X hr hnm hl
  have X : jCx p c cX11_first 1 s m args RX11 G meth := X
  unfold X11_first_X16
  refine J.pu (fun _ _ _ _ k => lv_aload_n X.1.1 X.1.2.1 dX11_first_0 rfl (lv_at hl 0 rfl) k) ?_
  refine J.getI (k := 0) (ci := 13) X in_X16 (show jCl[13]? = some (RX16, TX16, 2) from rfl) (by decide) q1837 (fun _ h => h) dX11_first_1 (fun v1 h1 => ?_)
  exact J.iret (vr := jrI) (fin := fun _ : Int32 => σ) (t := t) X hr (by rfl) (by rfl) dX11_first_4
noncomputable def X11_first_X17 (G : jG) (n : Nat) (σ : jH) (this : Nat) : Option (Int32) :=
  (gI σ (some this) 14 0).bind fun v1 => some v1
set_option maxHeartbeats 4000000 in
set_option maxRecDepth 100000 in
theorem ct_X11_first_X17 (l : Launch) (G : jG) (n : Nat) (σ : jH) (this : Nat) : jCt l G yX11_first (ws_ yX11_first cX11_first 1 (some .int)) 0 0 jrI [.ref this] σ (jrd σ (X11_first_X17 G n σ this)) := by
  refine jCt.rd (lv := [(0, .ref this)]) (plainFor_of_name (by decide)) (Nat.le_of_ble_eq_true rfl) rfl ?_
  intro t p e s m args below meth c ls X hr hnm hl
  have X : jCx p c cX11_first 1 s m args RX11 G meth := X
  unfold X11_first_X17
  refine J.pu (fun _ _ _ _ k => lv_aload_n X.1.1 X.1.2.1 dX11_first_0 rfl (lv_at hl 0 rfl) k) ?_
  refine J.getI (k := 0) (ci := 14) X in_X17 (show jCl[14]? = some (RX17, TX17, 2) from rfl) (by decide) q1837 (fun _ h => h) dX11_first_1 (fun v1 h1 => ?_)
  exact J.iret (vr := jrI) (fin := fun _ : Int32 => σ) (t := t) X hr (by rfl) (by rfl) dX11_first_4
noncomputable def X11_second_X12 (G : jG) (n : Nat) (σ : jH) (this : Nat) : Option (Int32) :=
  (gI σ (some this) 9 1).bind fun v1 => some v1
set_option maxHeartbeats 4000000 in
set_option maxRecDepth 100000 in
theorem ct_X11_second_X12 (l : Launch) (G : jG) (n : Nat) (σ : jH) (this : Nat) : jCt l G yX11_second (ws_ yX11_second cX11_second 1 (some .int)) 0 0 jrI [.ref this] σ (jrd σ (X11_second_X12 G n σ this)) := by
  refine jCt.rd (lv := [(0, .ref this)]) (plainFor_of_name (by decide)) (Nat.le_of_ble_eq_true rfl) rfl ?_
  intro t p e s m args below meth c ls X hr hnm hl
  have X : jCx p c cX11_second 1 s m args RX11 G meth := X
  unfold X11_second_X12
  refine J.pu (fun _ _ _ _ k => lv_aload_n X.1.1 X.1.2.1 dX11_second_0 rfl (lv_at hl 0 rfl) k) ?_
  refine J.getI (k := 1) (ci := 9) X in_X12 (show jCl[9]? = some (RX12, TX12, 2) from rfl) (by decide) q1838 (fun _ h => h) dX11_second_1 (fun v1 h1 => ?_)
  exact J.iret (vr := jrI) (fin := fun _ : Int32 => σ) (t := t) X hr (by rfl) (by rfl) dX11_second_4
noncomputable def X11_second_X13 (G : jG) (n : Nat) (σ : jH) (this : Nat) : Option (Int32) :=
  (gI σ (some this) 10 1).bind fun v1 => some v1
set_option maxHeartbeats 4000000 in
set_option maxRecDepth 100000 in
theorem ct_X11_second_X13 (l : Launch) (G : jG) (n : Nat) (σ : jH) (this : Nat) : jCt l G yX11_second (ws_ yX11_second cX11_second 1 (some .int)) 0 0 jrI [.ref this] σ (jrd σ (X11_second_X13 G n σ this)) := by
  refine jCt.rd (lv := [(0, .ref this)]) (plainFor_of_name (by decide)) (Nat.le_of_ble_eq_true rfl) rfl ?_
  intro t p e s m args below meth c ls X hr hnm hl
  have X : jCx p c cX11_second 1 s m args RX11 G meth := X
  unfold X11_second_X13
  refine J.pu (fun _ _ _ _ k => lv_aload_n X.1.1 X.1.2.1 dX11_second_0 rfl (lv_at hl 0 rfl) k) ?_
  refine J.getI (k := 1) (ci := 10) X in_X13 (show jCl[10]? = some (RX13, TX13, 2) from rfl) (by decide) q1838 (fun _ h => h) dX11_second_1 (fun v1 h1 => ?_)
  exact J.iret (vr := jrI) (fin := fun _ : Int32 => σ) (t := t) X hr (by rfl) (by rfl) dX11_second_4
noncomputable def X11_second_X14 (G : jG) (n : Nat) (σ : jH) (this : Nat) : Option (Int32) :=
  (gI σ (some this) 11 1).bind fun v1 => some v1
set_option maxHeartbeats 4000000 in
set_option maxRecDepth 100000 in
theorem ct_X11_second_X14 (l : Launch) (G : jG) (n : Nat) (σ : jH) (this : Nat) : jCt l G yX11_second (ws_ yX11_second cX11_second 1 (some .int)) 0 0 jrI [.ref this] σ (jrd σ (X11_second_X14 G n σ this)) := by
  refine jCt.rd (lv := [(0, .ref this)]) (plainFor_of_name (by decide)) (Nat.le_of_ble_eq_true rfl) rfl ?_
  intro t p e s m args below meth c ls X hr hnm hl
  have X : jCx p c cX11_second 1 s m args RX11 G meth := X
  unfold X11_second_X14
  refine J.pu (fun _ _ _ _ k => lv_aload_n X.1.1 X.1.2.1 dX11_second_0 rfl (lv_at hl 0 rfl) k) ?_
  refine J.getI (k := 1) (ci := 11) X in_X14 (show jCl[11]? = some (RX14, TX14, 2) from rfl) (by decide) q1838 (fun _ h => h) dX11_second_1 (fun v1 h1 => ?_)
  exact J.iret (vr := jrI) (fin := fun _ : Int32 => σ) (t := t) X hr (by rfl) (by rfl) dX11_second_4
noncomputable def X11_second_X15 (G : jG) (n : Nat) (σ : jH) (this : Nat) : Option (Int32) :=
  (gI σ (some this) 12 1).bind fun v1 => some v1
set_option maxHeartbeats 4000000 in
set_option maxRecDepth 100000 in
theorem ct_X11_second_X15 (l : Launch) (G : jG) (n : Nat) (σ : jH) (this : Nat) : jCt l G yX11_second (ws_ yX11_second cX11_second 1 (some .int)) 0 0 jrI [.ref this] σ (jrd σ (X11_second_X15 G n σ this)) := by
  refine jCt.rd (lv := [(0, .ref this)]) (plainFor_of_name (by decide)) (Nat.le_of_ble_eq_true rfl) rfl ?_
  intro t p e s m args below meth c ls X hr hnm hl
  have X : jCx p c cX11_second 1 s m args RX11 G meth := X
  unfold X11_second_X15
  refine J.pu (fun _ _ _ _ k => lv_aload_n X.1.1 X.1.2.1 dX11_second_0 rfl (lv_at hl 0 rfl) k) ?_
  refine J.getI (k := 1) (ci := 12) X in_X15 (show jCl[12]? = some (RX15, TX15, 2) from rfl) (by decide) q1838 (fun _ h => h) dX11_second_1 (fun v1 h1 => ?_)
  exact J.iret (vr := jrI) (fin := fun _ : Int32 => σ) (t := t) X hr (by rfl) (by rfl) dX11_second_4
noncomputable def X11_second_X16 (G : jG) (n : Nat) (σ : jH) (this : Nat) : Option (Int32) :=
  (gI σ (some this) 13 1).bind fun v1 => some v1
set_option maxHeartbeats 4000000 in
set_option maxRecDepth 100000 in
theorem ct_X11_second_X16 (l : Launch) (G : jG) (n : Nat) (σ : jH) (this : Nat) : jCt l G yX11_second (ws_ yX11_second cX11_second 1 (some .int)) 0 0 jrI [.ref this] σ (jrd σ (X11_second_X16 G n σ this)) := by
  refine jCt.rd (lv := [(0, .ref this)]) (plainFor_of_name (by decide)) (Nat.le_of_ble_eq_true rfl) rfl ?_
  intro t p e s m args below meth c ls X hr hnm hl
  have X : jCx p c cX11_second 1 s m args RX11 G meth := X
  unfold X11_second_X16
  refine J.pu (fun _ _ _ _ k => lv_aload_n X.1.1 X.1.2.1 dX11_second_0 rfl (lv_at hl 0 rfl) k) ?_
  refine J.getI (k := 1) (ci := 13) X in_X16 (show jCl[13]? = some (RX16, TX16, 2) from rfl) (by decide) q1838 (fun _ h => h) dX11_second_1 (fun v1 h1 => ?_)
  exact J.iret (vr := jrI) (fin := fun _ : Int32 => σ) (t := t) X hr (by rfl) (by rfl) dX11_second_4
noncomputable def X11_second_X17 (G : jG) (n : Nat) (σ : jH) (this : Nat) : Option (Int32) :=
  (gI σ (some this) 14 1).bind fun v1 => some v1
set_option maxHeartbeats 4000000 in
set_option maxRecDepth 100000 in
theorem ct_X11_second_X17 (l : Launch) (G : jG) (n : Nat) (σ : jH) (this : Nat) : jCt l G yX11_second (ws_ yX11_second cX11_second 1 (some .int)) 0 0 jrI [.ref this] σ (jrd σ (X11_second_X17 G n σ this)) := by
  refine jCt.rd (lv := [(0, .ref this)]) (plainFor_of_name (by decide)) (Nat.le_of_ble_eq_true rfl) rfl ?_
  intro t p e s m args below meth c ls X hr hnm hl
  have X : jCx p c cX11_second 1 s m args RX11 G meth := X
  unfold X11_second_X17
  refine J.pu (fun _ _ _ _ k => lv_aload_n X.1.1 X.1.2.1 dX11_second_0 rfl (lv_at hl 0 rfl) k) ?_
  refine J.getI (k := 1) (ci := 14) X in_X17 (show jCl[14]? = some (RX17, TX17, 2) from rfl) (by decide) q1838 (fun _ h => h) dX11_second_1 (fun v1 h1 => ?_)
  exact J.iret (vr := jrI) (fin := fun _ : Int32 => σ) (t := t) X hr (by rfl) (by rfl) dX11_second_4
noncomputable def X12_init_b (G : jG) (n : Nat) (σ : jH) (this : Nat) (a1 : Option Nat) : Option (Unit × jH) :=
  bd (X11_init_X12 G n σ this a1) fun v2 S2 => some ((), S2)
noncomputable def X12_init (G : jG) (n : Nat) (σ : jH) (this : Nat) (a1 : Option Nat) : Option (Unit × jH) := jck σ (X12_init_b G n σ this a1)
set_option maxHeartbeats 4000000 in
set_option maxRecDepth 100000 in
theorem ct_X12_init (l : Launch) (G : jG) (n : Nat) (σ : jH) (this : Nat) (a1 : Option Nat) : jCt l G yX12_init (ws_ yX12_init cX12_init 2 none) 2 51 jrV [.ref this, va_rf a1] σ (X12_init G n σ this a1) := by
  refine jCt.wr (lv := [(0, .ref this), (1, va_rf a1)]) (plainFor_of_name (by decide)) (by simp [lg_sl, va_rf_cat, jcI, jcA, jcJ, jcD, jcF]) (by simp [lv_args, va_rf_cat, jcI, jcA, jcJ, jcD, jcF]) ?_
  intro t p e s m args below meth c ls X hr hnm hl
  have X : jCx p c cX12_init 2 s m args RX12 G meth := X
  unfold X12_init_b
  refine J.pu (fun _ _ _ _ k => lv_aload_n X.1.1 X.1.2.1 dX12_init_0 rfl (lv_at hl 0 rfl) k) ?_
  refine J.pu (fun _ _ _ _ k => W.rload_n X.1.1 X.1.2.1 dX12_init_1 rfl (lv_at hl 1 rfl) k) ?_
  refine J.bd' (fun v2 S2 h2 => ?_)
  refine J.cI (a := this) (As := [va_rf a1]) (rest := []) (s2 := []) X ⟨rfl, rfl⟩ (ct_X11_init_X12 l G n σ this a1) h2 (fun _ _ => jcwI 1 X.1.2.2.2.2 q1833 q1834 q183 q1835 rfl rfl rfl (by decide +kernel) ⟨(Nat.le_of_ble_eq_true rfl), (Nat.le_of_ble_eq_true rfl)⟩) rfl hl.1 rfl rfl (Nat.le_of_ble_eq_true rfl) dX12_init_2 ?_
  exact J.vret (vr := fun t : Unit × jH => jrV t.1) (fin := Prod.snd) (t := t) X hr (by rfl) (by rfl) dX12_init_5
noncomputable def X13_init_b (G : jG) (n : Nat) (σ : jH) (this : Nat) (a1 : Option Nat) : Option (Unit × jH) :=
  bd (X11_init_X13 G n σ this a1) fun v2 S2 => some ((), S2)
noncomputable def X13_init (G : jG) (n : Nat) (σ : jH) (this : Nat) (a1 : Option Nat) : Option (Unit × jH) := jck σ (X13_init_b G n σ this a1)
set_option maxHeartbeats 4000000 in
set_option maxRecDepth 100000 in
theorem ct_X13_init (l : Launch) (G : jG) (n : Nat) (σ : jH) (this : Nat) (a1 : Option Nat) : jCt l G yX13_init (ws_ yX13_init cX13_init 2 none) 2 51 jrV [.ref this, va_rf a1] σ (X13_init G n σ this a1) := by
  refine jCt.wr (lv := [(0, .ref this), (1, va_rf a1)]) (plainFor_of_name (by decide)) (by simp [lg_sl, va_rf_cat, jcI, jcA, jcJ, jcD, jcF]) (by simp [lv_args, va_rf_cat, jcI, jcA, jcJ, jcD, jcF]) ?_
  intro t p e s m args below meth c ls X hr hnm hl
  have X : jCx p c cX13_init 2 s m args RX13 G meth := X
  unfold X13_init_b
  refine J.pu (fun _ _ _ _ k => lv_aload_n X.1.1 X.1.2.1 dX13_init_0 rfl (lv_at hl 0 rfl) k) ?_
  refine J.pu (fun _ _ _ _ k => W.rload_n X.1.1 X.1.2.1 dX13_init_1 rfl (lv_at hl 1 rfl) k) ?_
  refine J.bd' (fun v2 S2 h2 => ?_)
  refine J.cI (a := this) (As := [va_rf a1]) (rest := []) (s2 := []) X ⟨rfl, rfl⟩ (ct_X11_init_X13 l G n σ this a1) h2 (fun _ _ => jcwI 1 X.1.2.2.2.2 q1849 q1834 q183 q1835 rfl rfl rfl (by decide +kernel) ⟨(Nat.le_of_ble_eq_true rfl), (Nat.le_of_ble_eq_true rfl)⟩) rfl hl.1 rfl rfl (Nat.le_of_ble_eq_true rfl) dX13_init_2 ?_
  exact J.vret (vr := fun t : Unit × jH => jrV t.1) (fin := Prod.snd) (t := t) X hr (by rfl) (by rfl) dX13_init_5
noncomputable def X14_init_b (G : jG) (n : Nat) (σ : jH) (this : Nat) (a1 : Option Nat) : Option (Unit × jH) :=
  bd (X11_init_X14 G n σ this a1) fun v2 S2 => some ((), S2)
noncomputable def X14_init (G : jG) (n : Nat) (σ : jH) (this : Nat) (a1 : Option Nat) : Option (Unit × jH) := jck σ (X14_init_b G n σ this a1)
set_option maxHeartbeats 4000000 in
set_option maxRecDepth 100000 in
theorem ct_X14_init (l : Launch) (G : jG) (n : Nat) (σ : jH) (this : Nat) (a1 : Option Nat) : jCt l G yX14_init (ws_ yX14_init cX14_init 2 none) 2 51 jrV [.ref this, va_rf a1] σ (X14_init G n σ this a1) := by
  refine jCt.wr (lv := [(0, .ref this), (1, va_rf a1)]) (plainFor_of_name (by decide)) (by simp [lg_sl, va_rf_cat, jcI, jcA, jcJ, jcD, jcF]) (by simp [lv_args, va_rf_cat, jcI, jcA, jcJ, jcD, jcF]) ?_
  intro t p e s m args below meth c ls X hr hnm hl
  have X : jCx p c cX14_init 2 s m args RX14 G meth := X
  unfold X14_init_b
  refine J.pu (fun _ _ _ _ k => lv_aload_n X.1.1 X.1.2.1 dX14_init_0 rfl (lv_at hl 0 rfl) k) ?_
  refine J.pu (fun _ _ _ _ k => W.rload_n X.1.1 X.1.2.1 dX14_init_1 rfl (lv_at hl 1 rfl) k) ?_
  refine J.bd' (fun v2 S2 h2 => ?_)
  refine J.cI (a := this) (As := [va_rf a1]) (rest := []) (s2 := []) X ⟨rfl, rfl⟩ (ct_X11_init_X14 l G n σ this a1) h2 (fun _ _ => jcwI 1 X.1.2.2.2.2 q1858 q1834 q183 q1835 rfl rfl rfl (by decide +kernel) ⟨(Nat.le_of_ble_eq_true rfl), (Nat.le_of_ble_eq_true rfl)⟩) rfl hl.1 rfl rfl (Nat.le_of_ble_eq_true rfl) dX14_init_2 ?_
  exact J.vret (vr := fun t : Unit × jH => jrV t.1) (fin := Prod.snd) (t := t) X hr (by rfl) (by rfl) dX14_init_5
noncomputable def X15_init_b (G : jG) (n : Nat) (σ : jH) (this : Nat) (a1 : Option Nat) : Option (Unit × jH) :=
  bd (X11_init_X15 G n σ this a1) fun v2 S2 => some ((), S2)
noncomputable def X15_init (G : jG) (n : Nat) (σ : jH) (this : Nat) (a1 : Option Nat) : Option (Unit × jH) := jck σ (X15_init_b G n σ this a1)
set_option maxHeartbeats 4000000 in
set_option maxRecDepth 100000 in
theorem ct_X15_init (l : Launch) (G : jG) (n : Nat) (σ : jH) (this : Nat) (a1 : Option Nat) : jCt l G yX15_init (ws_ yX15_init cX15_init 2 none) 2 51 jrV [.ref this, va_rf a1] σ (X15_init G n σ this a1) := by
  refine jCt.wr (lv := [(0, .ref this), (1, va_rf a1)]) (plainFor_of_name (by decide)) (by simp [lg_sl, va_rf_cat, jcI, jcA, jcJ, jcD, jcF]) (by simp [lv_args, va_rf_cat, jcI, jcA, jcJ, jcD, jcF]) ?_
  intro t p e s m args below meth c ls X hr hnm hl
  have X : jCx p c cX15_init 2 s m args RX15 G meth := X
  unfold X15_init_b
  refine J.pu (fun _ _ _ _ k => lv_aload_n X.1.1 X.1.2.1 dX15_init_0 rfl (lv_at hl 0 rfl) k) ?_
  refine J.pu (fun _ _ _ _ k => W.rload_n X.1.1 X.1.2.1 dX15_init_1 rfl (lv_at hl 1 rfl) k) ?_
  refine J.bd' (fun v2 S2 h2 => ?_)
  refine J.cI (a := this) (As := [va_rf a1]) (rest := []) (s2 := []) X ⟨rfl, rfl⟩ (ct_X11_init_X15 l G n σ this a1) h2 (fun _ _ => jcwI 1 X.1.2.2.2.2 q1867 q1834 q183 q1835 rfl rfl rfl (by decide +kernel) ⟨(Nat.le_of_ble_eq_true rfl), (Nat.le_of_ble_eq_true rfl)⟩) rfl hl.1 rfl rfl (Nat.le_of_ble_eq_true rfl) dX15_init_2 ?_
  exact J.vret (vr := fun t : Unit × jH => jrV t.1) (fin := Prod.snd) (t := t) X hr (by rfl) (by rfl) dX15_init_5
noncomputable def X16_init_b (G : jG) (n : Nat) (σ : jH) (this : Nat) (a1 : Option Nat) : Option (Unit × jH) :=
  bd (X11_init_X16 G n σ this a1) fun v2 S2 => some ((), S2)
noncomputable def X16_init (G : jG) (n : Nat) (σ : jH) (this : Nat) (a1 : Option Nat) : Option (Unit × jH) := jck σ (X16_init_b G n σ this a1)
set_option maxHeartbeats 4000000 in
set_option maxRecDepth 100000 in
theorem ct_X16_init (l : Launch) (G : jG) (n : Nat) (σ : jH) (this : Nat) (a1 : Option Nat) : jCt l G yX16_init (ws_ yX16_init cX16_init 2 none) 2 51 jrV [.ref this, va_rf a1] σ (X16_init G n σ this a1) := by
  refine jCt.wr (lv := [(0, .ref this), (1, va_rf a1)]) (plainFor_of_name (by decide)) (by simp [lg_sl, va_rf_cat, jcI, jcA, jcJ, jcD, jcF]) (by simp [lv_args, va_rf_cat, jcI, jcA, jcJ, jcD, jcF]) ?_
  intro t p e s m args below meth c ls X hr hnm hl
  have X : jCx p c cX16_init 2 s m args RX16 G meth := X
  unfold X16_init_b
  refine J.pu (fun _ _ _ _ k => lv_aload_n X.1.1 X.1.2.1 dX16_init_0 rfl (lv_at hl 0 rfl) k) ?_
  refine J.pu (fun _ _ _ _ k => W.rload_n X.1.1 X.1.2.1 dX16_init_1 rfl (lv_at hl 1 rfl) k) ?_
  refine J.bd' (fun v2 S2 h2 => ?_)
  refine J.cI (a := this) (As := [va_rf a1]) (rest := []) (s2 := []) X ⟨rfl, rfl⟩ (ct_X11_init_X16 l G n σ this a1) h2 (fun _ _ => jcwI 1 X.1.2.2.2.2 q1876 q1834 q183 q1835 rfl rfl rfl (by decide +kernel) ⟨(Nat.le_of_ble_eq_true rfl), (Nat.le_of_ble_eq_true rfl)⟩) rfl hl.1 rfl rfl (Nat.le_of_ble_eq_true rfl) dX16_init_2 ?_
  exact J.vret (vr := fun t : Unit × jH => jrV t.1) (fin := Prod.snd) (t := t) X hr (by rfl) (by rfl) dX16_init_5
