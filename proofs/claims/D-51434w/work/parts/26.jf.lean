/-! fine walks of the JDK, printed by wip gen/jdk.py -/
set_option maxRecDepth 100000
noncomputable def f_J0_init_J2 (G : jG) (n : Nat) (σ : jH) (this : Nat) : Option (Unit) :=
  some ()
set_option maxHeartbeats 4000000 in
set_option maxRecDepth 100000 in
theorem ct_f_J0_init_J2 (l : Launch) (G : jG) (n : Nat) (σ : jH) (this : Nat) : jCt l G yJ0_init (ws_ yJ0_init cJ0_init 1 none) 1 30 jrV [.ref this] σ (jrd σ (f_J0_init_J2 G n σ this)) := by
  refine jCt.rd (lv := [(0, .ref this)]) (plainFor_of_name (by decide)) (Nat.le_of_ble_eq_true rfl) rfl ?_
  intro t p e s m args below meth c ls X hr hnm hl
  have X : jCx p c cJ0_init 1 s m args RJ0 G meth := X
  unfold f_J0_init_J2
  refine J.pu (fun _ _ _ _ k => lv_aload_n X.1.1 X.1.2.1 dJ0_init_0 rfl (lv_at hl 0 rfl) k) ?_
  refine J.objI (a := this) X q221 hl.1 dJ0_init_1 (Nat.le_of_ble_eq_true rfl) (Nat.le_of_ble_eq_true rfl) ?_
  exact J.vret (vr := jrV) (fin := fun _ : Unit => σ) (t := t) X hr (by rfl) (by rfl) dJ0_init_4
noncomputable def f_J0_init_J19 (G : jG) (n : Nat) (σ : jH) (this : Nat) : Option (Unit) :=
  some ()
set_option maxHeartbeats 4000000 in
set_option maxRecDepth 100000 in
theorem ct_f_J0_init_J19 (l : Launch) (G : jG) (n : Nat) (σ : jH) (this : Nat) : jCt l G yJ0_init (ws_ yJ0_init cJ0_init 1 none) 1 30 jrV [.ref this] σ (jrd σ (f_J0_init_J19 G n σ this)) := by
  refine jCt.rd (lv := [(0, .ref this)]) (plainFor_of_name (by decide)) (Nat.le_of_ble_eq_true rfl) rfl ?_
  intro t p e s m args below meth c ls X hr hnm hl
  have X : jCx p c cJ0_init 1 s m args RJ0 G meth := X
  unfold f_J0_init_J19
  refine J.pu (fun _ _ _ _ k => lv_aload_n X.1.1 X.1.2.1 dJ0_init_0 rfl (lv_at hl 0 rfl) k) ?_
  refine J.objI (a := this) X q221 hl.1 dJ0_init_1 (Nat.le_of_ble_eq_true rfl) (Nat.le_of_ble_eq_true rfl) ?_
  exact J.vret (vr := jrV) (fin := fun _ : Unit => σ) (t := t) X hr (by rfl) (by rfl) dJ0_init_4
noncomputable def f_J0_init_J20 (G : jG) (n : Nat) (σ : jH) (this : Nat) : Option (Unit) :=
  some ()
set_option maxHeartbeats 4000000 in
set_option maxRecDepth 100000 in
theorem ct_f_J0_init_J20 (l : Launch) (G : jG) (n : Nat) (σ : jH) (this : Nat) : jCt l G yJ0_init (ws_ yJ0_init cJ0_init 1 none) 1 30 jrV [.ref this] σ (jrd σ (f_J0_init_J20 G n σ this)) := by
  refine jCt.rd (lv := [(0, .ref this)]) (plainFor_of_name (by decide)) (Nat.le_of_ble_eq_true rfl) rfl ?_
  intro t p e s m args below meth c ls X hr hnm hl
  have X : jCx p c cJ0_init 1 s m args RJ0 G meth := X
  unfold f_J0_init_J20
  refine J.pu (fun _ _ _ _ k => lv_aload_n X.1.1 X.1.2.1 dJ0_init_0 rfl (lv_at hl 0 rfl) k) ?_
  refine J.objI (a := this) X q221 hl.1 dJ0_init_1 (Nat.le_of_ble_eq_true rfl) (Nat.le_of_ble_eq_true rfl) ?_
  exact J.vret (vr := jrV) (fin := fun _ : Unit => σ) (t := t) X hr (by rfl) (by rfl) dJ0_init_4
noncomputable def f_J1_init_J2_b (G : jG) (n : Nat) (σ : jH) (this : Nat) : Option (Unit × jH) :=
  (f_J0_init_J2 G n σ this).bind fun v1 => (pI G σ (some this) 15 0 0).bind fun S6 => some ((), S6)
noncomputable def f_J1_init_J2 (G : jG) (n : Nat) (σ : jH) (this : Nat) : Option (Unit × jH) := jck σ (f_J1_init_J2_b G n σ this)
set_option maxHeartbeats 4000000 in
set_option maxRecDepth 100000 in
theorem ct_f_J1_init_J2 (l : Launch) (G : jG) (n : Nat) (σ : jH) (this : Nat) : jCt l G yJ1_init (ws_ yJ1_init cJ1_init 1 none) 2 50 jrV [.ref this] σ (f_J1_init_J2 G n σ this) := by
  refine jCt.wr (lv := [(0, .ref this)]) (plainFor_of_name (by decide)) (Nat.le_of_ble_eq_true rfl) rfl ?_
  intro t p e s m args below meth c ls X hr hnm hl
  have X : jCx p c cJ1_init 1 s m args RJ1 G meth := X
  unfold f_J1_init_J2_b
  refine J.pu (fun _ _ _ _ k => lv_aload_n X.1.1 X.1.2.1 dJ1_init_0 rfl (lv_at hl 0 rfl) k) ?_
  refine J.bind (fun v1 h1 => ?_)
  refine J.cI (a := this) (As := []) (rest := []) (s2 := []) X ⟨rfl, rfl⟩ (ct_f_J0_init_J2 l G n σ this) (jrd_of h1) (fun _ _ => jcwI 0 X.1.2.2.2.2 q218 q219 q140 q220 rfl rfl rfl (by decide +kernel) ⟨(Nat.le_of_ble_eq_true rfl), (Nat.le_of_ble_eq_true rfl)⟩) rfl hl.1 rfl rfl (Nat.le_of_ble_eq_true rfl) dJ1_init_1 ?_
  refine J.pu (fun _ _ _ _ k => lv_aload_n X.1.1 X.1.2.1 dJ1_init_4 rfl (lv_at hl 0 rfl) k) ?_
  refine J.pu (fun _ _ _ _ k => lv_iconst (v := 0) X.1.1 X.1.2.1 dJ1_init_5 (by decide) k) ?_
  refine J.putI (k := 0) (ci := 15) X in_J2 (show jCl[15]? = some (RJ2, TJ2, 3) from rfl) tyJ2_ok (fun a ha b hb h => Or.inl (nmJ2 a ha b hb h)) (by decide) q550 (fun _ h => h) rfl rfl dJ1_init_6 (fun S6 h6 => ?_)
  exact J.vret (vr := fun t : Unit × jH => jrV t.1) (fin := Prod.snd) (t := t) X hr (by rfl) (by rfl) dJ1_init_9
noncomputable def f_J1_init_J19_b (G : jG) (n : Nat) (σ : jH) (this : Nat) : Option (Unit × jH) :=
  (f_J0_init_J19 G n σ this).bind fun v1 => (pI G σ (some this) 16 0 0).bind fun S6 => some ((), S6)
noncomputable def f_J1_init_J19 (G : jG) (n : Nat) (σ : jH) (this : Nat) : Option (Unit × jH) := jck σ (f_J1_init_J19_b G n σ this)
set_option maxHeartbeats 4000000 in
set_option maxRecDepth 100000 in
theorem ct_f_J1_init_J19 (l : Launch) (G : jG) (n : Nat) (σ : jH) (this : Nat) : jCt l G yJ1_init (ws_ yJ1_init cJ1_init 1 none) 2 50 jrV [.ref this] σ (f_J1_init_J19 G n σ this) := by
  refine jCt.wr (lv := [(0, .ref this)]) (plainFor_of_name (by decide)) (Nat.le_of_ble_eq_true rfl) rfl ?_
  intro t p e s m args below meth c ls X hr hnm hl
  have X : jCx p c cJ1_init 1 s m args RJ1 G meth := X
  unfold f_J1_init_J19_b
  refine J.pu (fun _ _ _ _ k => lv_aload_n X.1.1 X.1.2.1 dJ1_init_0 rfl (lv_at hl 0 rfl) k) ?_
  refine J.bind (fun v1 h1 => ?_)
  refine J.cI (a := this) (As := []) (rest := []) (s2 := []) X ⟨rfl, rfl⟩ (ct_f_J0_init_J19 l G n σ this) (jrd_of h1) (fun _ _ => jcwI 0 X.1.2.2.2.2 q218 q219 q140 q220 rfl rfl rfl (by decide +kernel) ⟨(Nat.le_of_ble_eq_true rfl), (Nat.le_of_ble_eq_true rfl)⟩) rfl hl.1 rfl rfl (Nat.le_of_ble_eq_true rfl) dJ1_init_1 ?_
  refine J.pu (fun _ _ _ _ k => lv_aload_n X.1.1 X.1.2.1 dJ1_init_4 rfl (lv_at hl 0 rfl) k) ?_
  refine J.pu (fun _ _ _ _ k => lv_iconst (v := 0) X.1.1 X.1.2.1 dJ1_init_5 (by decide) k) ?_
  refine J.putI (k := 0) (ci := 16) X in_J19 (show jCl[16]? = some (RJ19, TJ19, 4) from rfl) tyJ19_ok (fun a ha b hb h => Or.inl (nmJ19 a ha b hb h)) (by decide) q550 (fun _ h => h) rfl rfl dJ1_init_6 (fun S6 h6 => ?_)
  exact J.vret (vr := fun t : Unit × jH => jrV t.1) (fin := Prod.snd) (t := t) X hr (by rfl) (by rfl) dJ1_init_9
noncomputable def f_J11_newLength (G : jG) (n : Nat) (σ : jH) (a0 : Int32) (a1 : Int32) (a2 : Int32) : Option (Int32) :=
  (J12_max n a1 a2).bind fun v3 => if (a0 + v3) ≤ 0 then (none) else (if 2147483639 < (a0 + v3) then (none) else (some (a0 + v3)))
set_option maxHeartbeats 4000000 in
set_option maxRecDepth 100000 in
theorem ct_f_J11_newLength (l : Launch) (G : jG) (n : Nat) (σ : jH) (a0 : Int32) (a1 : Int32) (a2 : Int32) : jCt l G yJ11_newLength (ws_ yJ11_newLength cJ11_newLength 4 (some .int)) 1 21 jrI [.int a0, .int a1, .int a2] σ (jrd σ (f_J11_newLength G n σ a0 a1 a2)) := by
  refine jCt.rd (lv := [(0, .int a0), (1, .int a1), (2, .int a2)]) (plainFor_of_name (by decide)) (Nat.le_of_ble_eq_true rfl) rfl ?_
  intro t p e s m args below meth c ls X hr hnm hl
  have X : jCx p c cJ11_newLength 4 s m args RJ11 G meth := X
  unfold f_J11_newLength
  refine J.pu (fun _ _ _ _ k => lv_iload_n X.1.1 X.1.2.1 dJ11_newLength_0 rfl (lv_at hl 0 rfl) k) ?_
  refine J.pu (fun _ _ _ _ k => lv_iload_n X.1.1 X.1.2.1 dJ11_newLength_1 rfl (lv_at hl 1 rfl) k) ?_
  refine J.pu (fun _ _ _ _ k => lv_iload_n X.1.1 X.1.2.1 dJ11_newLength_2 rfl (lv_at hl 2 rfl) k) ?_
  refine J.bind (fun v3 h3 => ?_)
  refine J.cS (As := [.int a1, .int a2]) (rest := [.int a0]) (s2 := [.int v3, .int a0]) X ⟨rfl, rfl⟩ (ct_J12_max l G σ n a1 a2) (jrd_of h3) (fun _ _ => va_cwS 2 X.1.2.2.2.2 (lw_S q328 q329 q152 q330) rfl rfl rfl (by decide +kernel) ⟨(Nat.le_of_ble_eq_true rfl), (Nat.le_of_ble_eq_true rfl)⟩) rfl hl.1 rfl rfl (Nat.le_of_ble_eq_true rfl) dJ11_newLength_3 ?_
  refine J.pu (fun _ _ _ _ k => lv_iadd X.1.1 X.1.2.1 dJ11_newLength_6 k) ?_
  refine J.istore_n (i := 3) (lv' := [(3, .int (a0 + v3)), (0, .int a0), (1, .int a1), (2, .int a2)]) X.1.1 X.1.2.1 dJ11_newLength_7 rfl hl (by decide) (by first | rfl | simp [va_rf_cat, jcI, jcA, jcJ, jcD, jcF]) (fun ls hl => ?_)
  refine J.pu (fun _ _ _ _ k => lv_iconst (v := 0) X.1.1 X.1.2.1 dJ11_newLength_8 (by decide) k) ?_
  refine J.pu (fun _ _ _ _ k => lv_iload_n X.1.1 X.1.2.1 dJ11_newLength_9 rfl (lv_at hl 0 rfl) k) ?_
  refine J.br (fun _ _ _ _ ka kb => lv_icmp_ge (tgt := 21) X.1.1 X.1.2.1 dJ11_newLength_10 (by decide) ka kb) (fun c10 => ?_) (fun c10 => ?_)
  · refine J.pu (fun _ _ _ _ k => lv_iload_n X.1.1 X.1.2.1 dJ11_newLength_21 rfl (lv_at hl 1 rfl) k) ?_
    refine J.pu (fun _ _ _ _ k => lv_iload_n X.1.1 X.1.2.1 dJ11_newLength_22 rfl (lv_at hl 2 rfl) k) ?_
    exact J.nil_
  · refine J.pu (fun _ _ _ _ k => lv_iload_n X.1.1 X.1.2.1 dJ11_newLength_13 rfl (lv_at hl 0 rfl) k) ?_
    refine J.pu (fun _ _ _ _ k => lv_ldc (v := 2147483639) X.1.1 X.1.2.1 X.1.2.2.2.1 (X.1.2.2.2.2 _ q331) dJ11_newLength_14 k) ?_
    refine J.br (fun _ _ _ _ ka kb => lv_icmp_gt (tgt := 21) X.1.1 X.1.2.1 dJ11_newLength_16 (by decide) ka kb) (fun c16 => ?_) (fun c16 => ?_)
    · refine J.pu (fun _ _ _ _ k => lv_iload_n X.1.1 X.1.2.1 dJ11_newLength_21 rfl (lv_at hl 1 rfl) k) ?_
      refine J.pu (fun _ _ _ _ k => lv_iload_n X.1.1 X.1.2.1 dJ11_newLength_22 rfl (lv_at hl 2 rfl) k) ?_
      exact J.nil_
    · refine J.pu (fun _ _ _ _ k => lv_iload_n X.1.1 X.1.2.1 dJ11_newLength_19 rfl (lv_at hl 0 rfl) k) ?_
      exact J.iret (vr := jrI) (fin := fun _ : Int32 => σ) (t := t) X hr (by rfl) (by rfl) dJ11_newLength_20
noncomputable def f_J11_signedHashCode_h8 (G : jG) (n : Nat) (σ : jH) (a0 : Int32) (a1 : Option Nat) (a2 : Int32) (a3 : Int32) (x4_8 : Int32) (rec8 : Int32 × Int32 → Option (Int32)) (q8 : Int32 × Int32) : Option (Int32) :=
  let x0_8 := q8.1; let x5_8 := q8.2; if x4_8 ≤ x5_8 then (some x0_8) else ((aI σ a1 1 x5_8).bind fun v22 => rec8 (((31 * x0_8) + (v22 &&& 255)), (x5_8 + 1)))
noncomputable def f_J11_signedHashCode (G : jG) (n : Nat) (σ : jH) (a0 : Int32) (a1 : Option Nat) (a2 : Int32) (a3 : Int32) : Option (Int32) :=
  jloop (f_J11_signedHashCode_h8 G n σ a0 a1 a2 a3 (a2 + a3)) n (a0, a2)
set_option maxHeartbeats 4000000 in
set_option maxRecDepth 100000 in
theorem ct_f_J11_signedHashCode (l : Launch) (G : jG) (n : Nat) (σ : jH) (a0 : Int32) (a1 : Option Nat) (a2 : Int32) (a3 : Int32) : jCt l G yJ11_signedHashCode (ws_ yJ11_signedHashCode cJ11_signedHashCode 6 (some .int)) 0 0 jrI [.int a0, va_rf a1, .int a2, .int a3] σ (jrd σ (f_J11_signedHashCode G n σ a0 a1 a2 a3)) := by
  refine jCt.rd (lv := [(0, .int a0), (1, va_rf a1), (2, .int a2), (3, .int a3)]) (plainFor_of_name (by decide)) (by simp [lg_sl, va_rf_cat, jcI, jcA, jcJ, jcD, jcF]) (by simp [lv_args, va_rf_cat, jcI, jcA, jcJ, jcD, jcF]) ?_
  intro t p e s m args below meth c ls X hr hnm hl
  have X : jCx p c cJ11_signedHashCode 6 s m args RJ11 G meth := X
  have L8 : ∀ (x4_8 : Int32) (n8 : Nat) (x0_8 : Int32) (x5_8 : Int32) (ls : Array Slot), lv_has ls 6 [(1, va_rf a1), (4, .int x4_8), (0, .int x0_8), (5, .int x5_8)] → jGo l G 0 0 σ (fun _ : Int32 => σ) jrI t p e s m args below meth c (jloop (f_J11_signedHashCode_h8 G n σ a0 a1 a2 a3 x4_8) n8 (x0_8, x5_8)) σ (F0 m 8 ls []) := by
    intro x4_8
    intro n8
    induction n8 with
    | zero => intro x0_8 x5_8 ls hl; exact J.nil_
    | succ n8 ih8 =>
      intro x0_8 x5_8 ls hl
      refine J.eq (jloop_s _ _ _) ?_
      dsimp only [f_J11_signedHashCode_h8]
      refine J.pu (fun _ _ _ _ k => lv_iload X.1.1 X.1.2.1 dJ11_signedHashCode_8 (lv_at hl 3 rfl) k) ?_
      refine J.pu (fun _ _ _ _ k => lv_iload X.1.1 X.1.2.1 dJ11_signedHashCode_10 (lv_at hl 1 rfl) k) ?_
      refine J.br (fun _ _ _ _ ka kb => lv_icmp_ge (tgt := 35) X.1.1 X.1.2.1 dJ11_signedHashCode_12 (by decide) ka kb) (fun c12 => ?_) (fun c12 => ?_)
      · refine J.pu (fun _ _ _ _ k => lv_iload_n X.1.1 X.1.2.1 dJ11_signedHashCode_35 rfl (lv_at hl 2 rfl) k) ?_
        exact J.iret (vr := jrI) (fin := fun _ : Int32 => σ) (t := t) X hr (by rfl) (by rfl) dJ11_signedHashCode_36
      · refine J.pu (fun _ _ _ _ k => lv_bipush (v := 31) X.1.1 X.1.2.1 dJ11_signedHashCode_15 (by decide) k) ?_
        refine J.pu (fun _ _ _ _ k => lv_iload_n X.1.1 X.1.2.1 dJ11_signedHashCode_17 rfl (lv_at hl 2 rfl) k) ?_
        refine J.pu (fun _ _ _ _ k => lv_imul X.1.1 X.1.2.1 dJ11_signedHashCode_18 k) ?_
        refine J.pu (fun _ _ _ _ k => W.rload_n X.1.1 X.1.2.1 dJ11_signedHashCode_19 rfl (lv_at hl 0 rfl) k) ?_
        refine J.pu (fun _ _ _ _ k => lv_iload X.1.1 X.1.2.1 dJ11_signedHashCode_20 (lv_at hl 3 rfl) k) ?_
        refine J.aI1 X dJ11_signedHashCode_22 (fun v22 h22 => ?_)
        refine J.pu (fun _ _ _ _ k => lv_sipush (v := 255) X.1.1 X.1.2.1 dJ11_signedHashCode_23 (by decide) k) ?_
        refine J.pu (fun _ _ _ _ k => lv_iand X.1.1 X.1.2.1 dJ11_signedHashCode_26 k) ?_
        refine J.pu (fun _ _ _ _ k => lv_iadd X.1.1 X.1.2.1 dJ11_signedHashCode_27 k) ?_
        refine J.istore_n (i := 0) (lv' := [(0, .int ((31 * x0_8) + (v22 &&& 255))), (1, va_rf a1), (4, .int x4_8), (5, .int x5_8)]) X.1.1 X.1.2.1 dJ11_signedHashCode_28 rfl hl (by decide) (by first | rfl | simp [va_rf_cat, jcI, jcA, jcJ, jcD, jcF]) (fun ls hl => ?_)
        refine J.iinc (k := 3) (lv' := [(5, .int (x5_8 + 1)), (0, .int ((31 * x0_8) + (v22 &&& 255))), (1, va_rf a1), (4, .int x4_8)]) (w := (x5_8 + 1)) X.1.1 X.1.2.1 dJ11_signedHashCode_29 hl rfl rfl (by decide) (by first | rfl | simp [va_rf_cat, jcI, jcA, jcJ, jcD, jcF]) (fun ls hl => ?_)
        refine J.pu (fun _ _ _ _ k => lv_goto (tgt := 8) X.1.1 X.1.2.1 dJ11_signedHashCode_32 (by decide) k) ?_
        exact ih8 ((31 * x0_8) + (v22 &&& 255)) (x5_8 + 1) ls (lv_sub hl [2, 3, 1, 0] rfl)
  unfold f_J11_signedHashCode
  refine J.pu (fun _ _ _ _ k => lv_iload_n X.1.1 X.1.2.1 dJ11_signedHashCode_0 rfl (lv_at hl 2 rfl) k) ?_
  refine J.pu (fun _ _ _ _ k => lv_iload_n X.1.1 X.1.2.1 dJ11_signedHashCode_1 rfl (lv_at hl 3 rfl) k) ?_
  refine J.pu (fun _ _ _ _ k => lv_iadd X.1.1 X.1.2.1 dJ11_signedHashCode_2 k) ?_
  refine J.istore (lv' := [(4, .int (a2 + a3)), (0, .int a0), (1, va_rf a1), (2, .int a2), (3, .int a3)]) X.1.1 X.1.2.1 dJ11_signedHashCode_3 hl (by decide) (by first | rfl | simp [va_rf_cat, jcI, jcA, jcJ, jcD, jcF]) (fun ls hl => ?_)
  refine J.pu (fun _ _ _ _ k => lv_iload_n X.1.1 X.1.2.1 dJ11_signedHashCode_5 rfl (lv_at hl 3 rfl) k) ?_
  refine J.istore (lv' := [(5, .int a2), (4, .int (a2 + a3)), (0, .int a0), (1, va_rf a1), (2, .int a2), (3, .int a3)]) X.1.1 X.1.2.1 dJ11_signedHashCode_6 hl (by decide) (by first | rfl | simp [va_rf_cat, jcI, jcA, jcJ, jcD, jcF]) (fun ls hl => ?_)
  exact L8 (a2 + a3) n a0 a2 ls (lv_sub hl [3, 1, 2, 0] rfl)
noncomputable def f_J13_copyOf_b (G : jG) (n : Nat) (σ : jH) (a0 : Option Nat) (a1 : Int32) : Option ((Option Nat) × jH) :=
  (aLen' σ a0).bind fun v2 => if a1 = v2 then (none) else (bd (nI' σ 1 a1) fun v15 S15 => (aLen' S15 a0).bind fun v23 => (J12_min n v23 a1).bind fun v25 => (acB G S15 a0 0 (some v15) 0 v25).bind fun S28 => some ((some v15), S28))
noncomputable def f_J13_copyOf (G : jG) (n : Nat) (σ : jH) (a0 : Option Nat) (a1 : Int32) : Option ((Option Nat) × jH) := jck σ (f_J13_copyOf_b G n σ a0 a1)
set_option maxHeartbeats 4000000 in
set_option maxRecDepth 100000 in
theorem ct_f_J13_copyOf (l : Launch) (G : jG) (n : Nat) (σ : jH) (a0 : Option Nat) (a1 : Int32) : jCt l G yJ13_copyOf (ws_ yJ13_copyOf cJ13_copyOf 3 (some (.array .byte))) 1 400 jrR [va_rf a0, .int a1] σ (f_J13_copyOf G n σ a0 a1) := by
  refine jCt.wr (lv := [(0, va_rf a0), (1, .int a1)]) (plainFor_of_name (by decide)) (by simp [lg_sl, va_rf_cat, jcI, jcA, jcJ, jcD, jcF]) (by simp [lv_args, va_rf_cat, jcI, jcA, jcJ, jcD, jcF]) ?_
  intro t p e s m args below meth c ls X hr hnm hl
  have X : jCx p c cJ13_copyOf 3 s m args RJ13 G meth := X
  unfold f_J13_copyOf_b
  refine J.pu (fun _ _ _ _ k => lv_iload_n X.1.1 X.1.2.1 dJ13_copyOf_0 rfl (lv_at hl 1 rfl) k) ?_
  refine J.pu (fun _ _ _ _ k => W.rload_n X.1.1 X.1.2.1 dJ13_copyOf_1 rfl (lv_at hl 0 rfl) k) ?_
  refine J.len X dJ13_copyOf_2 (fun v2 h2 => ?_)
  refine J.br (fun _ _ _ _ ka kb => lv_icmp_ne (tgt := 14) X.1.1 X.1.2.1 dJ13_copyOf_3 (by decide) kb ka) (fun c3 => ?_) (fun c3 => ?_)
  · refine J.pu (fun _ _ _ _ k => W.rload_n X.1.1 X.1.2.1 dJ13_copyOf_6 rfl (lv_at hl 0 rfl) k) ?_
    exact J.nil_
  · refine J.pu (fun _ _ _ _ k => lv_iload_n X.1.1 X.1.2.1 dJ13_copyOf_14 rfl (lv_at hl 1 rfl) k) ?_
    refine J.nI1 X ⟨rfl, rfl⟩ dJ13_copyOf_15 (fun v15 S15 h15 => ?_)
    refine J.astore_n (r := (some v15)) (i := 2) (lv' := [(2, va_rf (some v15)), (0, va_rf a0), (1, .int a1)]) X.1.1 X.1.2.1 dJ13_copyOf_17 rfl hl (by decide) (by first | rfl | simp [va_rf_cat, jcI, jcA, jcJ, jcD, jcF]) (fun ls hl => ?_)
    refine J.pu (fun _ _ _ _ k => W.rload_n X.1.1 X.1.2.1 dJ13_copyOf_18 rfl (lv_at hl 1 rfl) k) ?_
    refine J.pu (fun _ _ _ _ k => lv_iconst (v := 0) X.1.1 X.1.2.1 dJ13_copyOf_19 (by decide) k) ?_
    refine J.pu (fun _ _ _ _ k => W.rload_n X.1.1 X.1.2.1 dJ13_copyOf_20 rfl (lv_at hl 0 rfl) k) ?_
    refine J.pu (fun _ _ _ _ k => lv_iconst (v := 0) X.1.1 X.1.2.1 dJ13_copyOf_21 (by decide) k) ?_
    refine J.pu (fun _ _ _ _ k => W.rload_n X.1.1 X.1.2.1 dJ13_copyOf_22 rfl (lv_at hl 1 rfl) k) ?_
    refine J.len X dJ13_copyOf_23 (fun v23 h23 => ?_)
    refine J.pu (fun _ _ _ _ k => lv_iload_n X.1.1 X.1.2.1 dJ13_copyOf_24 rfl (lv_at hl 2 rfl) k) ?_
    refine J.bind (fun v25 h25 => ?_)
    refine J.cS (As := [.int v23, .int a1]) (rest := [.int 0, va_rf (some v15), .int 0, va_rf a0]) (s2 := [.int v25, .int 0, va_rf (some v15), .int 0, va_rf a0]) X ⟨rfl, rfl⟩ (ct_J12_min l G S15 n v23 a1) (jrd_of h25) (fun _ _ => va_cwS 2 X.1.2.2.2.2 (lw_S q346 q347 q152 q348) rfl rfl rfl (by decide +kernel) ⟨(Nat.le_of_ble_eq_true rfl), (Nat.le_of_ble_eq_true rfl)⟩) rfl hl.1 rfl rfl (by simp [va_rf_cat, jcI, jcA, jcJ, jcD, jcF]) dJ13_copyOf_25 ?_
    refine J.acB (rest := []) X q349 hl.1 (Nat.le_of_ble_eq_true rfl) (Nat.le_trans (m := 400) (show 0 + (nativeFrameWords "java/lang/System" "arraycopy" 5 + 11) ≤ 400 by decide +kernel) (Nat.le_of_ble_eq_true rfl)) dJ13_copyOf_28 (fun S28 h28 => ?_)
    refine J.pu (fun _ _ _ _ k => W.rload_n X.1.1 X.1.2.1 dJ13_copyOf_31 rfl (lv_at hl 0 rfl) k) ?_
    exact J.aret (vr := fun t : (Option Nat) × jH => jrR t.1) (fin := Prod.snd) (t := t) X hr (Or.inr ⟨_, rfl⟩) (by rfl) (by rfl) dJ13_copyOf_32
noncomputable def f_J13_checkLength (G : jG) (n : Nat) (σ : jH) (a0 : Int32) (a1 : Int32) : Option (Unit) :=
  if a0 ≤ a1 then (some ()) else (none)
set_option maxHeartbeats 4000000 in
set_option maxRecDepth 100000 in
theorem ct_f_J13_checkLength (l : Launch) (G : jG) (n : Nat) (σ : jH) (a0 : Int32) (a1 : Int32) : jCt l G yJ13_checkLength (ws_ yJ13_checkLength cJ13_checkLength 2 none) 0 0 jrV [.int a0, .int a1] σ (jrd σ (f_J13_checkLength G n σ a0 a1)) := by
  refine jCt.rd (lv := [(0, .int a0), (1, .int a1)]) (plainFor_of_name (by decide)) (Nat.le_of_ble_eq_true rfl) rfl ?_
  intro t p e s m args below meth c ls X hr hnm hl
  have X : jCx p c cJ13_checkLength 2 s m args RJ13 G meth := X
  unfold f_J13_checkLength
  refine J.pu (fun _ _ _ _ k => lv_iload_n X.1.1 X.1.2.1 dJ13_checkLength_0 rfl (lv_at hl 1 rfl) k) ?_
  refine J.pu (fun _ _ _ _ k => lv_iload_n X.1.1 X.1.2.1 dJ13_checkLength_1 rfl (lv_at hl 0 rfl) k) ?_
  refine J.br (fun _ _ _ _ ka kb => lv_icmp_ge (tgt := 37) X.1.1 X.1.2.1 dJ13_checkLength_2 (by decide) ka kb) (fun c2 => ?_) (fun c2 => ?_)
  · exact J.vret (vr := jrV) (fin := fun _ : Unit => σ) (t := t) X hr (by rfl) (by rfl) dJ13_checkLength_37
  · exact J.nil_
noncomputable def f_J13_copyOf_3_b (G : jG) (n : Nat) (σ : jH) (a0 : Option Nat) (a1 : Int32) (a2 : Option Nat) : Option ((Option Nat) × jH) :=
  if a2 = (G.2.2.2 109) then (bd (nR σ a1) fun v7 S7 => (aLen' S7 a0).bind fun v30 => (J12_min n v30 a1).bind fun v32 => (acR G S7 a0 0 (some v7) 0 v32).bind fun S35 => some ((some v7), S35)) else (none)
noncomputable def f_J13_copyOf_3 (G : jG) (n : Nat) (σ : jH) (a0 : Option Nat) (a1 : Int32) (a2 : Option Nat) : Option ((Option Nat) × jH) := jck σ (f_J13_copyOf_3_b G n σ a0 a1 a2)
set_option maxHeartbeats 4000000 in
set_option maxRecDepth 100000 in
theorem ct_f_J13_copyOf_3 (l : Launch) (G : jG) (n : Nat) (σ : jH) (a0 : Option Nat) (a1 : Int32) (a2 : Option Nat) : jCt l G yJ13_copyOf_3 (ws_ yJ13_copyOf_3 cJ13_copyOf_3 4 (some (.array (.object "java/lang/Object")))) 1 400 jrR [va_rf a0, .int a1, va_rf a2] σ (f_J13_copyOf_3 G n σ a0 a1 a2) := by
  refine jCt.wr (lv := [(0, va_rf a0), (1, .int a1), (2, va_rf a2)]) (plainFor_of_name (by decide)) (by simp [lg_sl, va_rf_cat, jcI, jcA, jcJ, jcD, jcF]) (by simp [lv_args, va_rf_cat, jcI, jcA, jcJ, jcD, jcF]) ?_
  intro t p e s m args below meth c ls X hr hnm hl
  have X : jCx p c cJ13_copyOf_3 4 s m args RJ13 G meth := X
  unfold f_J13_copyOf_3_b
  refine J.pu (fun _ _ _ _ k => W.rload_n X.1.1 X.1.2.1 dJ13_copyOf_3_0 rfl (lv_at hl 2 rfl) k) ?_
  refine J.ldcM X q644 dJ13_copyOf_3_1 ?_
  refine J.br (fun _ _ _ _ ka kb => lv_acmp_ne (tgt := 13) X.1.1 X.1.2.1 dJ13_copyOf_3_3 (by decide) kb ka) (fun c3 => ?_) (fun c3 => ?_)
  · refine J.pu (fun _ _ _ _ k => lv_iload_n X.1.1 X.1.2.1 dJ13_copyOf_3_6 rfl (lv_at hl 1 rfl) k) ?_
    refine J.nR' X ⟨rfl, rfl⟩ q645 dJ13_copyOf_3_7 (fun v7 S7 h7 => ?_)
    refine J.pu (fun _ _ _ _ k => lv_goto (tgt := 24) X.1.1 X.1.2.1 dJ13_copyOf_3_10 (by decide) k) ?_
    refine J.astore_n (r := (some v7)) (i := 3) (lv' := [(3, va_rf (some v7)), (0, va_rf a0), (1, .int a1), (2, va_rf a2)]) X.1.1 X.1.2.1 dJ13_copyOf_3_24 rfl hl (by decide) (by first | rfl | simp [va_rf_cat, jcI, jcA, jcJ, jcD, jcF]) (fun ls hl => ?_)
    refine J.pu (fun _ _ _ _ k => W.rload_n X.1.1 X.1.2.1 dJ13_copyOf_3_25 rfl (lv_at hl 1 rfl) k) ?_
    refine J.pu (fun _ _ _ _ k => lv_iconst (v := 0) X.1.1 X.1.2.1 dJ13_copyOf_3_26 (by decide) k) ?_
    refine J.pu (fun _ _ _ _ k => W.rload_n X.1.1 X.1.2.1 dJ13_copyOf_3_27 rfl (lv_at hl 0 rfl) k) ?_
    refine J.pu (fun _ _ _ _ k => lv_iconst (v := 0) X.1.1 X.1.2.1 dJ13_copyOf_3_28 (by decide) k) ?_
    refine J.pu (fun _ _ _ _ k => W.rload_n X.1.1 X.1.2.1 dJ13_copyOf_3_29 rfl (lv_at hl 1 rfl) k) ?_
    refine J.len X dJ13_copyOf_3_30 (fun v30 h30 => ?_)
    refine J.pu (fun _ _ _ _ k => lv_iload_n X.1.1 X.1.2.1 dJ13_copyOf_3_31 rfl (lv_at hl 2 rfl) k) ?_
    refine J.bind (fun v32 h32 => ?_)
    refine J.cS (As := [.int v30, .int a1]) (rest := [.int 0, va_rf (some v7), .int 0, va_rf a0]) (s2 := [.int v32, .int 0, va_rf (some v7), .int 0, va_rf a0]) X ⟨rfl, rfl⟩ (ct_J12_min l G S7 n v30 a1) (jrd_of h32) (fun _ _ => va_cwS 2 X.1.2.2.2.2 (lw_S q346 q347 q152 q348) rfl rfl rfl (by decide +kernel) ⟨(Nat.le_of_ble_eq_true rfl), (Nat.le_of_ble_eq_true rfl)⟩) rfl hl.1 rfl rfl (by simp [va_rf_cat, jcI, jcA, jcJ, jcD, jcF]) dJ13_copyOf_3_32 ?_
    refine J.acR (rest := []) X q349 hl.1 (Nat.le_of_ble_eq_true rfl) (Nat.le_trans (m := 400) (show 0 + (nativeFrameWords "java/lang/System" "arraycopy" 5 + 11) ≤ 400 by decide +kernel) (Nat.le_of_ble_eq_true rfl)) dJ13_copyOf_3_35 (fun S35 h35 => ?_)
    refine J.pu (fun _ _ _ _ k => W.rload_n X.1.1 X.1.2.1 dJ13_copyOf_3_38 rfl (lv_at hl 0 rfl) k) ?_
    exact J.aret (vr := fun t : (Option Nat) × jH => jrR t.1) (fin := Prod.snd) (t := t) X hr (Or.inr ⟨_, rfl⟩) (by rfl) (by rfl) dJ13_copyOf_3_39
  · refine J.pu (fun _ _ _ _ k => W.rload_n X.1.1 X.1.2.1 dJ13_copyOf_3_13 rfl (lv_at hl 2 rfl) k) ?_
    exact J.nil_
noncomputable def f_J13_rangeCheck (G : jG) (n : Nat) (σ : jH) (a0 : Int32) (a1 : Int32) (a2 : Int32) : Option (Unit) :=
  if a1 ≤ a2 then (if 0 ≤ a1 then (if a2 ≤ a0 then (some ()) else (none)) else (none)) else (none)
set_option maxHeartbeats 4000000 in
set_option maxRecDepth 100000 in
theorem ct_f_J13_rangeCheck (l : Launch) (G : jG) (n : Nat) (σ : jH) (a0 : Int32) (a1 : Int32) (a2 : Int32) : jCt l G yJ13_rangeCheck (ws_ yJ13_rangeCheck cJ13_rangeCheck 3 none) 0 0 jrV [.int a0, .int a1, .int a2] σ (jrd σ (f_J13_rangeCheck G n σ a0 a1 a2)) := by
  refine jCt.rd (lv := [(0, .int a0), (1, .int a1), (2, .int a2)]) (plainFor_of_name (by decide)) (Nat.le_of_ble_eq_true rfl) rfl ?_
  intro t p e s m args below meth c ls X hr hnm hl
  have X : jCx p c cJ13_rangeCheck 3 s m args RJ13 G meth := X
  unfold f_J13_rangeCheck
  refine J.pu (fun _ _ _ _ k => lv_iload_n X.1.1 X.1.2.1 dJ13_rangeCheck_0 rfl (lv_at hl 1 rfl) k) ?_
  refine J.pu (fun _ _ _ _ k => lv_iload_n X.1.1 X.1.2.1 dJ13_rangeCheck_1 rfl (lv_at hl 2 rfl) k) ?_
  refine J.br (fun _ _ _ _ ka kb => lv_icmp_le (tgt := 46) X.1.1 X.1.2.1 dJ13_rangeCheck_2 (by decide) ka kb) (fun c2 => ?_) (fun c2 => ?_)
  · refine J.pu (fun _ _ _ _ k => lv_iload_n X.1.1 X.1.2.1 dJ13_rangeCheck_46 rfl (lv_at hl 1 rfl) k) ?_
    refine J.br (fun _ _ _ _ ka kb => lv_if_ge (tgt := 59) X.1.1 X.1.2.1 dJ13_rangeCheck_47 (by decide) ka kb) (fun c47 => ?_) (fun c47 => ?_)
    · refine J.pu (fun _ _ _ _ k => lv_iload_n X.1.1 X.1.2.1 dJ13_rangeCheck_59 rfl (lv_at hl 2 rfl) k) ?_
      refine J.pu (fun _ _ _ _ k => lv_iload_n X.1.1 X.1.2.1 dJ13_rangeCheck_60 rfl (lv_at hl 0 rfl) k) ?_
      refine J.br (fun _ _ _ _ ka kb => lv_icmp_le (tgt := 73) X.1.1 X.1.2.1 dJ13_rangeCheck_61 (by decide) ka kb) (fun c61 => ?_) (fun c61 => ?_)
      · exact J.vret (vr := jrV) (fin := fun _ : Unit => σ) (t := t) X hr (by rfl) (by rfl) dJ13_rangeCheck_73
      · exact J.nil_
    · exact J.nil_
  · exact J.nil_
noncomputable def f_J14_checkIndex_j9 (G : jG) (n : Nat) (σ : jH) (a0 : Int32) (a1 : Int32) (a2 : Option Nat) : Option (Int32) :=
  none
noncomputable def f_J14_checkIndex (G : jG) (n : Nat) (σ : jH) (a0 : Int32) (a1 : Int32) (a2 : Option Nat) : Option (Int32) :=
  if a0 < 0 then (f_J14_checkIndex_j9 G n σ a0 a1 a2) else (if a0 < a1 then (some a0) else (f_J14_checkIndex_j9 G n σ a0 a1 a2))
set_option maxHeartbeats 4000000 in
set_option maxRecDepth 100000 in
theorem ct_f_J14_checkIndex (l : Launch) (G : jG) (n : Nat) (σ : jH) (a0 : Int32) (a1 : Int32) (a2 : Option Nat) : jCt l G yJ14_checkIndex (ws_ yJ14_checkIndex cJ14_checkIndex 3 (some .int)) 0 0 jrI [.int a0, .int a1, va_rf a2] σ (jrd σ (f_J14_checkIndex G n σ a0 a1 a2)) := by
  refine jCt.rd (lv := [(0, .int a0), (1, .int a1), (2, va_rf a2)]) (plainFor_of_name (by decide)) (by simp [lg_sl, va_rf_cat, jcI, jcA, jcJ, jcD, jcF]) (by simp [lv_args, va_rf_cat, jcI, jcA, jcJ, jcD, jcF]) ?_
  intro t p e s m args below meth c ls X hr hnm hl
  have X : jCx p c cJ14_checkIndex 3 s m args RJ14 G meth := X
  have j9 : ∀ (ls : Array Slot), lv_has ls 3 [(0, .int a0), (1, .int a1), (2, va_rf a2)] → jGo l G 0 0 σ (fun _ : Int32 => σ) jrI t p e s m args below meth c (f_J14_checkIndex_j9 G n σ a0 a1 a2) σ (F0 m 9 ls []) := by
    intro ls hl
    unfold f_J14_checkIndex_j9
    refine J.pu (fun _ _ _ _ k => W.rload_n X.1.1 X.1.2.1 dJ14_checkIndex_9 rfl (lv_at hl 2 rfl) k) ?_
    refine J.pu (fun _ _ _ _ k => lv_iload_n X.1.1 X.1.2.1 dJ14_checkIndex_10 rfl (lv_at hl 0 rfl) k) ?_
    refine J.pu (fun _ _ _ _ k => lv_iload_n X.1.1 X.1.2.1 dJ14_checkIndex_11 rfl (lv_at hl 1 rfl) k) ?_
    exact J.nil_
  unfold f_J14_checkIndex
  refine J.pu (fun _ _ _ _ k => lv_iload_n X.1.1 X.1.2.1 dJ14_checkIndex_0 rfl (lv_at hl 0 rfl) k) ?_
  refine J.br (fun _ _ _ _ ka kb => lv_if_lt (tgt := 9) X.1.1 X.1.2.1 dJ14_checkIndex_1 (by decide) ka kb) (fun c1 => ?_) (fun c1 => ?_)
  · exact j9  ls (lv_sub hl [0, 1, 2] rfl)
  · refine J.pu (fun _ _ _ _ k => lv_iload_n X.1.1 X.1.2.1 dJ14_checkIndex_4 rfl (lv_at hl 0 rfl) k) ?_
    refine J.pu (fun _ _ _ _ k => lv_iload_n X.1.1 X.1.2.1 dJ14_checkIndex_5 rfl (lv_at hl 1 rfl) k) ?_
    refine J.br (fun _ _ _ _ ka kb => lv_icmp_lt (tgt := 16) X.1.1 X.1.2.1 dJ14_checkIndex_6 (by decide) ka kb) (fun c6 => ?_) (fun c6 => ?_)
    · refine J.pu (fun _ _ _ _ k => lv_iload_n X.1.1 X.1.2.1 dJ14_checkIndex_16 rfl (lv_at hl 0 rfl) k) ?_
      exact J.iret (vr := jrI) (fin := fun _ : Int32 => σ) (t := t) X hr (by rfl) (by rfl) dJ14_checkIndex_17
    · exact j9  ls (lv_sub hl [0, 1, 2] rfl)
noncomputable def f_J15_canEncode (G : jG) (n : Nat) (σ : jH) (a0 : Int32) : Option (Int32) :=
  if 255 < a0 then (some 0) else (some 1)
set_option maxHeartbeats 4000000 in
set_option maxRecDepth 100000 in
theorem ct_f_J15_canEncode (l : Launch) (G : jG) (n : Nat) (σ : jH) (a0 : Int32) : jCt l G yJ15_canEncode (ws_ yJ15_canEncode cJ15_canEncode 1 (some .boolean)) 0 0 jrI [.int a0] σ (jrd σ (f_J15_canEncode G n σ a0)) := by
  refine jCt.rd (lv := [(0, .int a0)]) (plainFor_of_name (by decide)) (Nat.le_of_ble_eq_true rfl) rfl ?_
  intro t p e s m args below meth c ls X hr hnm hl
  have X : jCx p c cJ15_canEncode 1 s m args RJ15 G meth := X
  unfold f_J15_canEncode
  refine J.pu (fun _ _ _ _ k => lv_iload_n X.1.1 X.1.2.1 dJ15_canEncode_0 rfl (lv_at hl 0 rfl) k) ?_
  refine J.pu (fun _ _ _ _ k => lv_sipush (v := 255) X.1.1 X.1.2.1 dJ15_canEncode_1 (by decide) k) ?_
  refine J.br (fun _ _ _ _ ka kb => lv_icmp_gt (tgt := 11) X.1.1 X.1.2.1 dJ15_canEncode_4 (by decide) ka kb) (fun c4 => ?_) (fun c4 => ?_)
  · refine J.pu (fun _ _ _ _ k => lv_iconst (v := 0) X.1.1 X.1.2.1 dJ15_canEncode_11 (by decide) k) ?_
    exact J.zret (vr := jrI) (fin := fun _ : Int32 => σ) (t := t) X hr (by decide) (by rfl) (by rfl) dJ15_canEncode_12
  · refine J.pu (fun _ _ _ _ k => lv_iconst (v := 1) X.1.1 X.1.2.1 dJ15_canEncode_7 (by decide) k) ?_
    refine J.pu (fun _ _ _ _ k => lv_goto (tgt := 12) X.1.1 X.1.2.1 dJ15_canEncode_8 (by decide) k) ?_
    exact J.zret (vr := jrI) (fin := fun _ : Int32 => σ) (t := t) X hr (by decide) (by rfl) (by rfl) dJ15_canEncode_12
noncomputable def f_J15_equals_h9 (G : jG) (n : Nat) (σ : jH) (a0 : Option Nat) (a1 : Option Nat) (rec9 : Int32 → Option (Int32)) (q9 : Int32) : Option (Int32) :=
  let x2_9 := q9; (aLen' σ a0).bind fun v11 => if v11 ≤ x2_9 then (some 1) else ((aI σ a0 1 x2_9).bind fun v17 => (aI σ a1 1 x2_9).bind fun v20 => if v17 = v20 then (rec9 (x2_9 + 1)) else (some 0))
noncomputable def f_J15_equals (G : jG) (n : Nat) (σ : jH) (a0 : Option Nat) (a1 : Option Nat) : Option (Int32) :=
  (aLen' σ a0).bind fun v1 => (aLen' σ a1).bind fun v3 => if v1 = v3 then (jloop (f_J15_equals_h9 G n σ a0 a1) n 0) else (some 0)
set_option maxHeartbeats 4000000 in
set_option maxRecDepth 100000 in
theorem ct_f_J15_equals (l : Launch) (G : jG) (n : Nat) (σ : jH) (a0 : Option Nat) (a1 : Option Nat) : jCt l G yJ15_equals (ws_ yJ15_equals cJ15_equals 3 (some .boolean)) 0 0 jrI [va_rf a0, va_rf a1] σ (jrd σ (f_J15_equals G n σ a0 a1)) := by
  refine jCt.rd (lv := [(0, va_rf a0), (1, va_rf a1)]) (plainFor_of_name (by decide)) (by simp [lg_sl, va_rf_cat, jcI, jcA, jcJ, jcD, jcF]) (by simp [lv_args, va_rf_cat, jcI, jcA, jcJ, jcD, jcF]) ?_
  intro t p e s m args below meth c ls X hr hnm hl
  have X : jCx p c cJ15_equals 3 s m args RJ15 G meth := X
  have L9 : ∀ (n9 : Nat) (x2_9 : Int32) (ls : Array Slot), lv_has ls 3 [(0, va_rf a0), (1, va_rf a1), (2, .int x2_9)] → jGo l G 0 0 σ (fun _ : Int32 => σ) jrI t p e s m args below meth c (jloop (f_J15_equals_h9 G n σ a0 a1) n9 x2_9) σ (F0 m 9 ls []) := by
    intro n9
    induction n9 with
    | zero => intro x2_9 ls hl; exact J.nil_
    | succ n9 ih9 =>
      intro x2_9 ls hl
      refine J.eq (jloop_s _ _ _) ?_
      dsimp only [f_J15_equals_h9]
      refine J.pu (fun _ _ _ _ k => lv_iload_n X.1.1 X.1.2.1 dJ15_equals_9 rfl (lv_at hl 2 rfl) k) ?_
      refine J.pu (fun _ _ _ _ k => W.rload_n X.1.1 X.1.2.1 dJ15_equals_10 rfl (lv_at hl 0 rfl) k) ?_
      refine J.len X dJ15_equals_11 (fun v11 h11 => ?_)
      refine J.br (fun _ _ _ _ ka kb => lv_icmp_ge (tgt := 32) X.1.1 X.1.2.1 dJ15_equals_12 (by decide) ka kb) (fun c12 => ?_) (fun c12 => ?_)
      · refine J.pu (fun _ _ _ _ k => lv_iconst (v := 1) X.1.1 X.1.2.1 dJ15_equals_32 (by decide) k) ?_
        exact J.zret (vr := jrI) (fin := fun _ : Int32 => σ) (t := t) X hr (by decide) (by rfl) (by rfl) dJ15_equals_33
      · refine J.pu (fun _ _ _ _ k => W.rload_n X.1.1 X.1.2.1 dJ15_equals_15 rfl (lv_at hl 0 rfl) k) ?_
        refine J.pu (fun _ _ _ _ k => lv_iload_n X.1.1 X.1.2.1 dJ15_equals_16 rfl (lv_at hl 2 rfl) k) ?_
        refine J.aI1 X dJ15_equals_17 (fun v17 h17 => ?_)
        refine J.pu (fun _ _ _ _ k => W.rload_n X.1.1 X.1.2.1 dJ15_equals_18 rfl (lv_at hl 1 rfl) k) ?_
        refine J.pu (fun _ _ _ _ k => lv_iload_n X.1.1 X.1.2.1 dJ15_equals_19 rfl (lv_at hl 2 rfl) k) ?_
        refine J.aI1 X dJ15_equals_20 (fun v20 h20 => ?_)
        refine J.br (fun _ _ _ _ ka kb => lv_icmp_eq (tgt := 26) X.1.1 X.1.2.1 dJ15_equals_21 (by decide) ka kb) (fun c21 => ?_) (fun c21 => ?_)
        · refine J.iinc (k := 2) (lv' := [(2, .int (x2_9 + 1)), (0, va_rf a0), (1, va_rf a1)]) (w := (x2_9 + 1)) X.1.1 X.1.2.1 dJ15_equals_26 hl rfl rfl (by decide) (by first | rfl | simp [va_rf_cat, jcI, jcA, jcJ, jcD, jcF]) (fun ls hl => ?_)
          refine J.pu (fun _ _ _ _ k => lv_goto (tgt := 9) X.1.1 X.1.2.1 dJ15_equals_29 (by decide) k) ?_
          exact ih9 (x2_9 + 1) ls (lv_sub hl [1, 2, 0] rfl)
        · refine J.pu (fun _ _ _ _ k => lv_iconst (v := 0) X.1.1 X.1.2.1 dJ15_equals_24 (by decide) k) ?_
          exact J.zret (vr := jrI) (fin := fun _ : Int32 => σ) (t := t) X hr (by decide) (by rfl) (by rfl) dJ15_equals_25
  unfold f_J15_equals
  refine J.pu (fun _ _ _ _ k => W.rload_n X.1.1 X.1.2.1 dJ15_equals_0 rfl (lv_at hl 0 rfl) k) ?_
  refine J.len X dJ15_equals_1 (fun v1 h1 => ?_)
  refine J.pu (fun _ _ _ _ k => W.rload_n X.1.1 X.1.2.1 dJ15_equals_2 rfl (lv_at hl 1 rfl) k) ?_
  refine J.len X dJ15_equals_3 (fun v3 h3 => ?_)
  refine J.br (fun _ _ _ _ ka kb => lv_icmp_ne (tgt := 34) X.1.1 X.1.2.1 dJ15_equals_4 (by decide) kb ka) (fun c4 => ?_) (fun c4 => ?_)
  · refine J.pu (fun _ _ _ _ k => lv_iconst (v := 0) X.1.1 X.1.2.1 dJ15_equals_7 (by decide) k) ?_
    refine J.istore_n (i := 2) (lv' := [(2, .int 0), (0, va_rf a0), (1, va_rf a1)]) X.1.1 X.1.2.1 dJ15_equals_8 rfl hl (by decide) (by first | rfl | simp [va_rf_cat, jcI, jcA, jcJ, jcD, jcF]) (fun ls hl => ?_)
    exact L9 n 0 ls (lv_sub hl [1, 2, 0] rfl)
  · refine J.pu (fun _ _ _ _ k => lv_iconst (v := 0) X.1.1 X.1.2.1 dJ15_equals_34 (by decide) k) ?_
    exact J.zret (vr := jrI) (fin := fun _ : Int32 => σ) (t := t) X hr (by decide) (by rfl) (by rfl) dJ15_equals_35
noncomputable def f_J16_stringSize_h16 (G : jG) (n : Nat) (σ : jH) (a0 : Int32) (x0_16 : Int32) (x1_16 : Int32) (rec16 : Int32 × Int32 → Option (Int32)) (q16 : Int32 × Int32) : Option (Int32) :=
  let x2_16 := q16.1; let x3_16 := q16.2; if 10 ≤ x3_16 then (some (10 + x1_16)) else (if x0_16 ≤ x2_16 then (rec16 ((10 * x2_16), (x3_16 + 1))) else (some (x3_16 + x1_16)))
noncomputable def f_J16_stringSize_j11 (G : jG) (n : Nat) (σ : jH) (a0 : Int32) (x0_11 : Int32) (x1_11 : Int32) : Option (Int32) :=
  jloop (f_J16_stringSize_h16 G n σ a0 x0_11 x1_11) n ((-10), 1)
noncomputable def f_J16_stringSize (G : jG) (n : Nat) (σ : jH) (a0 : Int32) : Option (Int32) :=
  if a0 < 0 then (f_J16_stringSize_j11 G n σ a0 a0 1) else (f_J16_stringSize_j11 G n σ a0 (-a0) 0)
set_option maxHeartbeats 4000000 in
set_option maxRecDepth 100000 in
theorem ct_f_J16_stringSize (l : Launch) (G : jG) (n : Nat) (σ : jH) (a0 : Int32) : jCt l G yJ16_stringSize (ws_ yJ16_stringSize cJ16_stringSize 4 (some .int)) 0 0 jrI [.int a0] σ (jrd σ (f_J16_stringSize G n σ a0)) := by
  refine jCt.rd (lv := [(0, .int a0)]) (plainFor_of_name (by decide)) (Nat.le_of_ble_eq_true rfl) rfl ?_
  intro t p e s m args below meth c ls X hr hnm hl
  have X : jCx p c cJ16_stringSize 4 s m args RJ16 G meth := X
  have L16 : ∀ (x0_16 : Int32) (x1_16 : Int32) (n16 : Nat) (x2_16 : Int32) (x3_16 : Int32) (ls : Array Slot), lv_has ls 4 [(0, .int x0_16), (1, .int x1_16), (2, .int x2_16), (3, .int x3_16)] → jGo l G 0 0 σ (fun _ : Int32 => σ) jrI t p e s m args below meth c (jloop (f_J16_stringSize_h16 G n σ a0 x0_16 x1_16) n16 (x2_16, x3_16)) σ (F0 m 16 ls []) := by
    intro x0_16 x1_16
    intro n16
    induction n16 with
    | zero => intro x2_16 x3_16 ls hl; exact J.nil_
    | succ n16 ih16 =>
      intro x2_16 x3_16 ls hl
      refine J.eq (jloop_s _ _ _) ?_
      dsimp only [f_J16_stringSize_h16]
      refine J.pu (fun _ _ _ _ k => lv_iload_n X.1.1 X.1.2.1 dJ16_stringSize_16 rfl (lv_at hl 3 rfl) k) ?_
      refine J.pu (fun _ _ _ _ k => lv_bipush (v := 10) X.1.1 X.1.2.1 dJ16_stringSize_17 (by decide) k) ?_
      refine J.br (fun _ _ _ _ ka kb => lv_icmp_ge (tgt := 42) X.1.1 X.1.2.1 dJ16_stringSize_19 (by decide) ka kb) (fun c19 => ?_) (fun c19 => ?_)
      · refine J.pu (fun _ _ _ _ k => lv_bipush (v := 10) X.1.1 X.1.2.1 dJ16_stringSize_42 (by decide) k) ?_
        refine J.pu (fun _ _ _ _ k => lv_iload_n X.1.1 X.1.2.1 dJ16_stringSize_44 rfl (lv_at hl 1 rfl) k) ?_
        refine J.pu (fun _ _ _ _ k => lv_iadd X.1.1 X.1.2.1 dJ16_stringSize_45 k) ?_
        exact J.iret (vr := jrI) (fin := fun _ : Int32 => σ) (t := t) X hr (by rfl) (by rfl) dJ16_stringSize_46
      · refine J.pu (fun _ _ _ _ k => lv_iload_n X.1.1 X.1.2.1 dJ16_stringSize_22 rfl (lv_at hl 0 rfl) k) ?_
        refine J.pu (fun _ _ _ _ k => lv_iload_n X.1.1 X.1.2.1 dJ16_stringSize_23 rfl (lv_at hl 2 rfl) k) ?_
        refine J.br (fun _ _ _ _ ka kb => lv_icmp_le (tgt := 31) X.1.1 X.1.2.1 dJ16_stringSize_24 (by decide) ka kb) (fun c24 => ?_) (fun c24 => ?_)
        · refine J.pu (fun _ _ _ _ k => lv_bipush (v := 10) X.1.1 X.1.2.1 dJ16_stringSize_31 (by decide) k) ?_
          refine J.pu (fun _ _ _ _ k => lv_iload_n X.1.1 X.1.2.1 dJ16_stringSize_33 rfl (lv_at hl 2 rfl) k) ?_
          refine J.pu (fun _ _ _ _ k => lv_imul X.1.1 X.1.2.1 dJ16_stringSize_34 k) ?_
          refine J.istore_n (i := 2) (lv' := [(2, .int (10 * x2_16)), (0, .int x0_16), (1, .int x1_16), (3, .int x3_16)]) X.1.1 X.1.2.1 dJ16_stringSize_35 rfl hl (by decide) (by first | rfl | simp [va_rf_cat, jcI, jcA, jcJ, jcD, jcF]) (fun ls hl => ?_)
          refine J.iinc (k := 3) (lv' := [(3, .int (x3_16 + 1)), (2, .int (10 * x2_16)), (0, .int x0_16), (1, .int x1_16)]) (w := (x3_16 + 1)) X.1.1 X.1.2.1 dJ16_stringSize_36 hl rfl rfl (by decide) (by first | rfl | simp [va_rf_cat, jcI, jcA, jcJ, jcD, jcF]) (fun ls hl => ?_)
          refine J.pu (fun _ _ _ _ k => lv_goto (tgt := 16) X.1.1 X.1.2.1 dJ16_stringSize_39 (by decide) k) ?_
          exact ih16 (10 * x2_16) (x3_16 + 1) ls (lv_sub hl [2, 3, 1, 0] rfl)
        · refine J.pu (fun _ _ _ _ k => lv_iload_n X.1.1 X.1.2.1 dJ16_stringSize_27 rfl (lv_at hl 3 rfl) k) ?_
          refine J.pu (fun _ _ _ _ k => lv_iload_n X.1.1 X.1.2.1 dJ16_stringSize_28 rfl (lv_at hl 1 rfl) k) ?_
          refine J.pu (fun _ _ _ _ k => lv_iadd X.1.1 X.1.2.1 dJ16_stringSize_29 k) ?_
          exact J.iret (vr := jrI) (fin := fun _ : Int32 => σ) (t := t) X hr (by rfl) (by rfl) dJ16_stringSize_30
  have j11 : ∀ (x0_11 : Int32) (x1_11 : Int32) (ls : Array Slot), lv_has ls 4 [(0, .int x0_11), (1, .int x1_11)] → jGo l G 0 0 σ (fun _ : Int32 => σ) jrI t p e s m args below meth c (f_J16_stringSize_j11 G n σ a0 x0_11 x1_11) σ (F0 m 11 ls []) := by
    intro x0_11 x1_11 ls hl
    unfold f_J16_stringSize_j11
    refine J.pu (fun _ _ _ _ k => lv_bipush (v := (-10)) X.1.1 X.1.2.1 dJ16_stringSize_11 (by decide) k) ?_
    refine J.istore_n (i := 2) (lv' := [(2, .int (-10)), (0, .int x0_11), (1, .int x1_11)]) X.1.1 X.1.2.1 dJ16_stringSize_13 rfl hl (by decide) (by first | rfl | simp [va_rf_cat, jcI, jcA, jcJ, jcD, jcF]) (fun ls hl => ?_)
    refine J.pu (fun _ _ _ _ k => lv_iconst (v := 1) X.1.1 X.1.2.1 dJ16_stringSize_14 (by decide) k) ?_
    refine J.istore_n (i := 3) (lv' := [(3, .int 1), (2, .int (-10)), (0, .int x0_11), (1, .int x1_11)]) X.1.1 X.1.2.1 dJ16_stringSize_15 rfl hl (by decide) (by first | rfl | simp [va_rf_cat, jcI, jcA, jcJ, jcD, jcF]) (fun ls hl => ?_)
    exact L16 x0_11 x1_11 n (-10) 1 ls (lv_sub hl [2, 3, 1, 0] rfl)
  unfold f_J16_stringSize
  refine J.pu (fun _ _ _ _ k => lv_iconst (v := 1) X.1.1 X.1.2.1 dJ16_stringSize_0 (by decide) k) ?_
  refine J.istore_n (i := 1) (lv' := [(1, .int 1), (0, .int a0)]) X.1.1 X.1.2.1 dJ16_stringSize_1 rfl hl (by decide) (by first | rfl | simp [va_rf_cat, jcI, jcA, jcJ, jcD, jcF]) (fun ls hl => ?_)
  refine J.pu (fun _ _ _ _ k => lv_iload_n X.1.1 X.1.2.1 dJ16_stringSize_2 rfl (lv_at hl 1 rfl) k) ?_
  refine J.br (fun _ _ _ _ ka kb => lv_if_lt (tgt := 11) X.1.1 X.1.2.1 dJ16_stringSize_3 (by decide) ka kb) (fun c3 => ?_) (fun c3 => ?_)
  · exact j11 a0 1 ls (lv_sub hl [1, 0] rfl)
  · refine J.pu (fun _ _ _ _ k => lv_iconst (v := 0) X.1.1 X.1.2.1 dJ16_stringSize_6 (by decide) k) ?_
    refine J.istore_n (i := 1) (lv' := [(1, .int 0), (0, .int a0)]) X.1.1 X.1.2.1 dJ16_stringSize_7 rfl hl (by decide) (by first | rfl | simp [va_rf_cat, jcI, jcA, jcJ, jcD, jcF]) (fun ls hl => ?_)
    refine J.pu (fun _ _ _ _ k => lv_iload_n X.1.1 X.1.2.1 dJ16_stringSize_8 rfl (lv_at hl 1 rfl) k) ?_
    refine J.pu (fun _ _ _ _ k => lv_ineg X.1.1 X.1.2.1 dJ16_stringSize_9 k) ?_
    refine J.istore_n (i := 0) (lv' := [(0, .int (-a0)), (1, .int 0)]) X.1.1 X.1.2.1 dJ16_stringSize_10 rfl hl (by decide) (by first | rfl | simp [va_rf_cat, jcI, jcA, jcJ, jcD, jcF]) (fun ls hl => ?_)
    exact j11 (-a0) 0 ls (lv_sub hl [0, 1] rfl)
noncomputable def f_J16_getChars_j104 (G : jG) (n : Nat) (a0 : Int32) (a1 : Int32) (a2 : Option Nat) (x5_104 : Int32) (x6_104 : Int32) (B104 : jH) : Option (Int32 × jH) :=
  if x6_104 = 0 then (some (x5_104, B104)) else ((sI G B104 a2 1 (x5_104 + (-1)) 45).bind fun S117 => some ((x5_104 + (-1)), S117))
noncomputable def f_J16_getChars_h22 (G : jG) (n : Nat) (a0 : Int32) (a1 : Int32) (a2 : Option Nat) (x6_22 : Int32) (rec22 : Int32 × Int32 × jH → Option (Int32 × jH)) (q22 : Int32 × Int32 × jH) : Option (Int32 × jH) :=
  let x0_22 := q22.1; let x5_22 := q22.2.1; let B22 := q22.2.2; if (-100) < x0_22 then ((aI B22 (G.2.2.2 100) 1 (-x0_22)).bind fun v83 => (sI G B22 a2 1 (x5_22 + (-1)) v83).bind fun S84 => if (-9) ≤ x0_22 then (f_J16_getChars_j104 G n a0 a1 a2 (x5_22 + (-1)) x6_22 S84) else ((aI S84 (G.2.2.2 101) 1 (-x0_22)).bind fun v102 => (sI G S84 a2 1 ((x5_22 + (-1)) + (-1)) v102).bind fun S103 => f_J16_getChars_j104 G n a0 a1 a2 ((x5_22 + (-1)) + (-1)) x6_22 S103)) else ((aI B22 (G.2.2.2 100) 1 (((x0_22 / 100) * 100) - x0_22)).bind fun v54 => (sI G B22 a2 1 (x5_22 + (-1)) v54).bind fun S55 => (aI S55 (G.2.2.2 101) 1 (((x0_22 / 100) * 100) - x0_22)).bind fun v67 => (sI G S55 a2 1 ((x5_22 + (-1)) + (-1)) v67).bind fun S68 => rec22 ((x0_22 / 100), ((x5_22 + (-1)) + (-1)), S68))
noncomputable def f_J16_getChars_j12 (G : jG) (n : Nat) (a0 : Int32) (a1 : Int32) (a2 : Option Nat) (x0_12 : Int32) (x5_12 : Int32) (s0_12 : Int32) (B12 : jH) : Option (Int32 × jH) :=
  if s0_12 = 0 then (jloop (f_J16_getChars_h22 G n a0 a1 a2 s0_12) n ((-x0_12), x5_12, B12)) else (jloop (f_J16_getChars_h22 G n a0 a1 a2 s0_12) n (x0_12, x5_12, B12))
noncomputable def f_J16_getChars_b (G : jG) (n : Nat) (σ : jH) (a0 : Int32) (a1 : Int32) (a2 : Option Nat) : Option (Int32 × jH) :=
  if 0 ≤ a0 then (f_J16_getChars_j12 G n a0 a1 a2 a0 a1 0 σ) else (f_J16_getChars_j12 G n a0 a1 a2 a0 a1 1 σ)
noncomputable def f_J16_getChars (G : jG) (n : Nat) (σ : jH) (a0 : Int32) (a1 : Int32) (a2 : Option Nat) : Option (Int32 × jH) := jck σ (f_J16_getChars_b G n σ a0 a1 a2)
set_option maxHeartbeats 4000000 in
set_option maxRecDepth 100000 in
theorem ct_f_J16_getChars (l : Launch) (G : jG) (n : Nat) (σ : jH) (a0 : Int32) (a1 : Int32) (a2 : Option Nat) : jCt l G yJ16_getChars (ws_ yJ16_getChars cJ16_getChars 7 (some .int)) 0 0 jrI [.int a0, .int a1, va_rf a2] σ (f_J16_getChars G n σ a0 a1 a2) := by
  refine jCt.wr (lv := [(0, .int a0), (1, .int a1), (2, va_rf a2)]) (plainFor_of_name (by decide)) (by simp [lg_sl, va_rf_cat, jcI, jcA, jcJ, jcD, jcF]) (by simp [lv_args, va_rf_cat, jcI, jcA, jcJ, jcD, jcF]) ?_
  intro t p e s m args below meth c ls X hr hnm hl
  have X : jCx p c cJ16_getChars 7 s m args RJ16 G meth := X
  have j104 : ∀ (x5_104 : Int32) (x6_104 : Int32) (B104 : jH) (ls : Array Slot), lv_has ls 7 [(2, va_rf a2), (5, .int x5_104), (6, .int x6_104)] → jGo l G 0 0 σ (Prod.snd : Int32 × jH → jH) (fun t => jrI t.1) t p e s m args below meth c (f_J16_getChars_j104 G n a0 a1 a2 x5_104 x6_104 B104) B104 (F0 m 104 ls []) := by
    intro x5_104 x6_104 B104 ls hl
    unfold f_J16_getChars_j104
    refine J.pu (fun _ _ _ _ k => lv_iload X.1.1 X.1.2.1 dJ16_getChars_104 (lv_at hl 2 rfl) k) ?_
    refine J.br (fun _ _ _ _ ka kb => lv_if_eq (tgt := 118) X.1.1 X.1.2.1 dJ16_getChars_106 (by decide) ka kb) (fun c106 => ?_) (fun c106 => ?_)
    · refine J.pu (fun _ _ _ _ k => lv_iload X.1.1 X.1.2.1 dJ16_getChars_118 (lv_at hl 1 rfl) k) ?_
      exact J.iret (vr := fun t : Int32 × jH => jrI t.1) (fin := Prod.snd) (t := t) X hr (by rfl) (by rfl) dJ16_getChars_120
    · refine J.pu (fun _ _ _ _ k => W.rload_n X.1.1 X.1.2.1 dJ16_getChars_109 rfl (lv_at hl 0 rfl) k) ?_
      refine J.iinc (k := 1) (lv' := [(5, .int (x5_104 + (-1))), (2, va_rf a2), (6, .int x6_104)]) (w := (x5_104 + (-1))) X.1.1 X.1.2.1 dJ16_getChars_110 hl rfl (by rw [show Int32.ofInt (-1) = ((-1) : Int32) from by decide]) (by decide) (by first | rfl | simp [va_rf_cat, jcI, jcA, jcJ, jcD, jcF]) (fun ls hl => ?_)
      refine J.pu (fun _ _ _ _ k => lv_iload X.1.1 X.1.2.1 dJ16_getChars_113 (lv_at hl 0 rfl) k) ?_
      refine J.pu (fun _ _ _ _ k => lv_bipush (v := 45) X.1.1 X.1.2.1 dJ16_getChars_115 (by decide) k) ?_
      refine J.sI1 X dJ16_getChars_117 (fun S117 h117 => ?_)
      refine J.pu (fun _ _ _ _ k => lv_iload X.1.1 X.1.2.1 dJ16_getChars_118 (lv_at hl 0 rfl) k) ?_
      exact J.iret (vr := fun t : Int32 × jH => jrI t.1) (fin := Prod.snd) (t := t) X hr (by rfl) (by rfl) dJ16_getChars_120
  have L22 : ∀ (x6_22 : Int32) (n22 : Nat) (x0_22 : Int32) (x5_22 : Int32) (B22 : jH) (ls : Array Slot), lv_has ls 7 [(2, va_rf a2), (6, .int x6_22), (0, .int x0_22), (5, .int x5_22)] → jGo l G 0 0 σ (Prod.snd : Int32 × jH → jH) (fun t => jrI t.1) t p e s m args below meth c (jloop (f_J16_getChars_h22 G n a0 a1 a2 x6_22) n22 (x0_22, x5_22, B22)) B22 (F0 m 22 ls []) := by
    intro x6_22
    intro n22
    induction n22 with
    | zero => intro x0_22 x5_22 B22 ls hl; exact J.nil_
    | succ n22 ih22 =>
      intro x0_22 x5_22 B22 ls hl
      refine J.eq (jloop_s _ _ _) ?_
      dsimp only [f_J16_getChars_h22]
      refine J.pu (fun _ _ _ _ k => lv_iload_n X.1.1 X.1.2.1 dJ16_getChars_22 rfl (lv_at hl 2 rfl) k) ?_
      refine J.pu (fun _ _ _ _ k => lv_bipush (v := (-100)) X.1.1 X.1.2.1 dJ16_getChars_23 (by decide) k) ?_
      refine J.br (fun _ _ _ _ ka kb => lv_icmp_gt (tgt := 72) X.1.1 X.1.2.1 dJ16_getChars_25 (by decide) ka kb) (fun c25 => ?_) (fun c25 => ?_)
      · refine J.pu (fun _ _ _ _ k => W.rload_n X.1.1 X.1.2.1 dJ16_getChars_72 rfl (lv_at hl 0 rfl) k) ?_
        refine J.iinc (k := 3) (lv' := [(5, .int (x5_22 + (-1))), (2, va_rf a2), (6, .int x6_22), (0, .int x0_22)]) (w := (x5_22 + (-1))) X.1.1 X.1.2.1 dJ16_getChars_73 hl rfl (by rw [show Int32.ofInt (-1) = ((-1) : Int32) from by decide]) (by decide) (by first | rfl | simp [va_rf_cat, jcI, jcA, jcJ, jcD, jcF]) (fun ls hl => ?_)
        refine J.pu (fun _ _ _ _ k => lv_iload X.1.1 X.1.2.1 dJ16_getChars_76 (lv_at hl 0 rfl) k) ?_
        refine J.getsR (i := 100) X (List.mem_of_getElem? (i := 0) rfl) q439 (fun _ h => h) dJ16_getChars_78 ?_
        refine J.pu (fun _ _ _ _ k => lv_iload_n X.1.1 X.1.2.1 dJ16_getChars_81 rfl (lv_at hl 3 rfl) k) ?_
        refine J.pu (fun _ _ _ _ k => lv_ineg X.1.1 X.1.2.1 dJ16_getChars_82 k) ?_
        refine J.aI1 X dJ16_getChars_83 (fun v83 h83 => ?_)
        refine J.sI1 X dJ16_getChars_84 (fun S84 h84 => ?_)
        refine J.pu (fun _ _ _ _ k => lv_iload_n X.1.1 X.1.2.1 dJ16_getChars_85 rfl (lv_at hl 3 rfl) k) ?_
        refine J.pu (fun _ _ _ _ k => lv_bipush (v := (-9)) X.1.1 X.1.2.1 dJ16_getChars_86 (by decide) k) ?_
        refine J.br (fun _ _ _ _ ka kb => lv_icmp_ge (tgt := 104) X.1.1 X.1.2.1 dJ16_getChars_88 (by decide) ka kb) (fun c88 => ?_) (fun c88 => ?_)
        · exact j104 (x5_22 + (-1)) x6_22 S84 ls (lv_sub hl [1, 0, 2] rfl)
        · refine J.pu (fun _ _ _ _ k => W.rload_n X.1.1 X.1.2.1 dJ16_getChars_91 rfl (lv_at hl 1 rfl) k) ?_
          refine J.iinc (k := 0) (lv' := [(5, .int ((x5_22 + (-1)) + (-1))), (2, va_rf a2), (6, .int x6_22), (0, .int x0_22)]) (w := ((x5_22 + (-1)) + (-1))) X.1.1 X.1.2.1 dJ16_getChars_92 hl rfl (by rw [show Int32.ofInt (-1) = ((-1) : Int32) from by decide]) (by decide) (by first | rfl | simp [va_rf_cat, jcI, jcA, jcJ, jcD, jcF]) (fun ls hl => ?_)
          refine J.pu (fun _ _ _ _ k => lv_iload X.1.1 X.1.2.1 dJ16_getChars_95 (lv_at hl 0 rfl) k) ?_
          refine J.getsR (i := 101) X (List.mem_of_getElem? (i := 1) rfl) q441 (fun _ h => h) dJ16_getChars_97 ?_
          refine J.pu (fun _ _ _ _ k => lv_iload_n X.1.1 X.1.2.1 dJ16_getChars_100 rfl (lv_at hl 3 rfl) k) ?_
          refine J.pu (fun _ _ _ _ k => lv_ineg X.1.1 X.1.2.1 dJ16_getChars_101 k) ?_
          refine J.aI1 X dJ16_getChars_102 (fun v102 h102 => ?_)
          refine J.sI1 X dJ16_getChars_103 (fun S103 h103 => ?_)
          exact j104 ((x5_22 + (-1)) + (-1)) x6_22 S103 ls (lv_sub hl [1, 0, 2] rfl)
      · refine J.pu (fun _ _ _ _ k => lv_iload_n X.1.1 X.1.2.1 dJ16_getChars_28 rfl (lv_at hl 2 rfl) k) ?_
        refine J.pu (fun _ _ _ _ k => lv_bipush (v := 100) X.1.1 X.1.2.1 dJ16_getChars_29 (by decide) k) ?_
        refine J.pu (fun _ _ _ _ k => lv_idiv X.1.1 X.1.2.1 dJ16_getChars_31 (by decide) k) ?_
        refine J.istore_n (i := 3) (lv' := [(3, .int (x0_22 / 100)), (2, va_rf a2), (6, .int x6_22), (0, .int x0_22), (5, .int x5_22)]) X.1.1 X.1.2.1 dJ16_getChars_32 rfl hl (by decide) (by first | rfl | simp [va_rf_cat, jcI, jcA, jcJ, jcD, jcF]) (fun ls hl => ?_)
        refine J.pu (fun _ _ _ _ k => lv_iload_n X.1.1 X.1.2.1 dJ16_getChars_33 rfl (lv_at hl 0 rfl) k) ?_
        refine J.pu (fun _ _ _ _ k => lv_bipush (v := 100) X.1.1 X.1.2.1 dJ16_getChars_34 (by decide) k) ?_
        refine J.pu (fun _ _ _ _ k => lv_imul X.1.1 X.1.2.1 dJ16_getChars_36 k) ?_
        refine J.pu (fun _ _ _ _ k => lv_iload_n X.1.1 X.1.2.1 dJ16_getChars_37 rfl (lv_at hl 3 rfl) k) ?_
        refine J.pu (fun _ _ _ _ k => lv_isub X.1.1 X.1.2.1 dJ16_getChars_38 k) ?_
        refine J.istore (lv' := [(4, .int (((x0_22 / 100) * 100) - x0_22)), (3, .int (x0_22 / 100)), (2, va_rf a2), (6, .int x6_22), (0, .int x0_22), (5, .int x5_22)]) X.1.1 X.1.2.1 dJ16_getChars_39 hl (by decide) (by first | rfl | simp [va_rf_cat, jcI, jcA, jcJ, jcD, jcF]) (fun ls hl => ?_)
        refine J.pu (fun _ _ _ _ k => lv_iload_n X.1.1 X.1.2.1 dJ16_getChars_41 rfl (lv_at hl 1 rfl) k) ?_
        refine J.istore_n (i := 0) (lv' := [(0, .int (x0_22 / 100)), (4, .int (((x0_22 / 100) * 100) - x0_22)), (3, .int (x0_22 / 100)), (2, va_rf a2), (6, .int x6_22), (5, .int x5_22)]) X.1.1 X.1.2.1 dJ16_getChars_42 rfl hl (by decide) (by first | rfl | simp [va_rf_cat, jcI, jcA, jcJ, jcD, jcF]) (fun ls hl => ?_)
        refine J.pu (fun _ _ _ _ k => W.rload_n X.1.1 X.1.2.1 dJ16_getChars_43 rfl (lv_at hl 3 rfl) k) ?_
        refine J.iinc (k := 5) (lv' := [(5, .int (x5_22 + (-1))), (0, .int (x0_22 / 100)), (4, .int (((x0_22 / 100) * 100) - x0_22)), (3, .int (x0_22 / 100)), (2, va_rf a2), (6, .int x6_22)]) (w := (x5_22 + (-1))) X.1.1 X.1.2.1 dJ16_getChars_44 hl rfl (by rw [show Int32.ofInt (-1) = ((-1) : Int32) from by decide]) (by decide) (by first | rfl | simp [va_rf_cat, jcI, jcA, jcJ, jcD, jcF]) (fun ls hl => ?_)
        refine J.pu (fun _ _ _ _ k => lv_iload X.1.1 X.1.2.1 dJ16_getChars_47 (lv_at hl 0 rfl) k) ?_
        refine J.getsR (i := 100) X (List.mem_of_getElem? (i := 0) rfl) q439 (fun _ h => h) dJ16_getChars_49 ?_
        refine J.pu (fun _ _ _ _ k => lv_iload X.1.1 X.1.2.1 dJ16_getChars_52 (lv_at hl 2 rfl) k) ?_
        refine J.aI1 X dJ16_getChars_54 (fun v54 h54 => ?_)
        refine J.sI1 X dJ16_getChars_55 (fun S55 h55 => ?_)
        refine J.pu (fun _ _ _ _ k => W.rload_n X.1.1 X.1.2.1 dJ16_getChars_56 rfl (lv_at hl 4 rfl) k) ?_
        refine J.iinc (k := 0) (lv' := [(5, .int ((x5_22 + (-1)) + (-1))), (0, .int (x0_22 / 100)), (4, .int (((x0_22 / 100) * 100) - x0_22)), (3, .int (x0_22 / 100)), (2, va_rf a2), (6, .int x6_22)]) (w := ((x5_22 + (-1)) + (-1))) X.1.1 X.1.2.1 dJ16_getChars_57 hl rfl (by rw [show Int32.ofInt (-1) = ((-1) : Int32) from by decide]) (by decide) (by first | rfl | simp [va_rf_cat, jcI, jcA, jcJ, jcD, jcF]) (fun ls hl => ?_)
        refine J.pu (fun _ _ _ _ k => lv_iload X.1.1 X.1.2.1 dJ16_getChars_60 (lv_at hl 0 rfl) k) ?_
        refine J.getsR (i := 101) X (List.mem_of_getElem? (i := 1) rfl) q441 (fun _ h => h) dJ16_getChars_62 ?_
        refine J.pu (fun _ _ _ _ k => lv_iload X.1.1 X.1.2.1 dJ16_getChars_65 (lv_at hl 2 rfl) k) ?_
        refine J.aI1 X dJ16_getChars_67 (fun v67 h67 => ?_)
        refine J.sI1 X dJ16_getChars_68 (fun S68 h68 => ?_)
        refine J.pu (fun _ _ _ _ k => lv_goto (tgt := 22) X.1.1 X.1.2.1 dJ16_getChars_69 (by decide) k) ?_
        exact ih22 (x0_22 / 100) ((x5_22 + (-1)) + (-1)) S68 ls (lv_sub hl [4, 5, 1, 0] rfl)
  have j12 : ∀ (x0_12 : Int32) (x5_12 : Int32) (s0_12 : Int32) (B12 : jH) (ls : Array Slot), lv_has ls 7 [(2, va_rf a2), (0, .int x0_12), (5, .int x5_12)] → jGo l G 0 0 σ (Prod.snd : Int32 × jH → jH) (fun t => jrI t.1) t p e s m args below meth c (f_J16_getChars_j12 G n a0 a1 a2 x0_12 x5_12 s0_12 B12) B12 (F0 m 12 ls [.int s0_12]) := by
    intro x0_12 x5_12 s0_12 B12 ls hl
    unfold f_J16_getChars_j12
    refine J.istore (lv' := [(6, .int s0_12), (2, va_rf a2), (0, .int x0_12), (5, .int x5_12)]) X.1.1 X.1.2.1 dJ16_getChars_12 hl (by decide) (by first | rfl | simp [va_rf_cat, jcI, jcA, jcJ, jcD, jcF]) (fun ls hl => ?_)
    refine J.pu (fun _ _ _ _ k => lv_iload X.1.1 X.1.2.1 dJ16_getChars_14 (lv_at hl 0 rfl) k) ?_
    refine J.br (fun _ _ _ _ ka kb => lv_if_ne (tgt := 22) X.1.1 X.1.2.1 dJ16_getChars_16 (by decide) kb ka) (fun c16 => ?_) (fun c16 => ?_)
    · refine J.pu (fun _ _ _ _ k => lv_iload_n X.1.1 X.1.2.1 dJ16_getChars_19 rfl (lv_at hl 2 rfl) k) ?_
      refine J.pu (fun _ _ _ _ k => lv_ineg X.1.1 X.1.2.1 dJ16_getChars_20 k) ?_
      refine J.istore_n (i := 0) (lv' := [(0, .int (-x0_12)), (6, .int s0_12), (2, va_rf a2), (5, .int x5_12)]) X.1.1 X.1.2.1 dJ16_getChars_21 rfl hl (by decide) (by first | rfl | simp [va_rf_cat, jcI, jcA, jcJ, jcD, jcF]) (fun ls hl => ?_)
      exact L22 s0_12 n (-x0_12) x5_12 B12 ls (lv_sub hl [2, 1, 0, 3] rfl)
    · exact L22 s0_12 n x0_12 x5_12 B12 ls (lv_sub hl [1, 0, 2, 3] rfl)
  unfold f_J16_getChars_b
  refine J.pu (fun _ _ _ _ k => lv_iload_n X.1.1 X.1.2.1 dJ16_getChars_0 rfl (lv_at hl 1 rfl) k) ?_
  refine J.istore (lv' := [(5, .int a1), (0, .int a0), (1, .int a1), (2, va_rf a2)]) X.1.1 X.1.2.1 dJ16_getChars_1 hl (by decide) (by first | rfl | simp [va_rf_cat, jcI, jcA, jcJ, jcD, jcF]) (fun ls hl => ?_)
  refine J.pu (fun _ _ _ _ k => lv_iload_n X.1.1 X.1.2.1 dJ16_getChars_3 rfl (lv_at hl 1 rfl) k) ?_
  refine J.br (fun _ _ _ _ ka kb => lv_if_ge (tgt := 11) X.1.1 X.1.2.1 dJ16_getChars_4 (by decide) ka kb) (fun c4 => ?_) (fun c4 => ?_)
  · refine J.pu (fun _ _ _ _ k => lv_iconst (v := 0) X.1.1 X.1.2.1 dJ16_getChars_11 (by decide) k) ?_
    exact j12 a0 a1 0 σ ls (lv_sub hl [3, 1, 0] rfl)
  · refine J.pu (fun _ _ _ _ k => lv_iconst (v := 1) X.1.1 X.1.2.1 dJ16_getChars_7 (by decide) k) ?_
    refine J.pu (fun _ _ _ _ k => lv_goto (tgt := 12) X.1.1 X.1.2.1 dJ16_getChars_8 (by decide) k) ?_
    exact j12 a0 a1 1 σ ls (lv_sub hl [3, 1, 0] rfl)
noncomputable def f_J17_init_b (G : jG) (n : Nat) (σ : jH) (this : Nat) (a1 : Option Nat) (a2 : Option Nat) (a3 : Option Nat) : Option (Unit × jH) :=
  (pR G σ (some this) 17 0 a2).bind fun S6 => (pR G S6 (some this) 17 1 a3).bind fun S11 => (pR G S11 (some this) 17 2 a1).bind fun S16 => some ((), S16)
noncomputable def f_J17_init (G : jG) (n : Nat) (σ : jH) (this : Nat) (a1 : Option Nat) (a2 : Option Nat) (a3 : Option Nat) : Option (Unit × jH) := jck σ (f_J17_init_b G n σ this a1 a2 a3)
set_option maxHeartbeats 4000000 in
set_option maxRecDepth 100000 in
theorem ct_f_J17_init (l : Launch) (G : jG) (n : Nat) (σ : jH) (this : Nat) (a1 : Option Nat) (a2 : Option Nat) (a3 : Option Nat) : jCt l G yJ17_init (ws_ yJ17_init cJ17_init 4 none) 1 30 jrV [.ref this, va_rf a1, va_rf a2, va_rf a3] σ (f_J17_init G n σ this a1 a2 a3) := by
  refine jCt.wr (lv := [(0, .ref this), (1, va_rf a1), (2, va_rf a2), (3, va_rf a3)]) (plainFor_of_name (by decide)) (by simp [lg_sl, va_rf_cat, jcI, jcA, jcJ, jcD, jcF]) (by simp [lv_args, va_rf_cat, jcI, jcA, jcJ, jcD, jcF]) ?_
  intro t p e s m args below meth c ls X hr hnm hl
  have X : jCx p c cJ17_init 4 s m args RJ17 G meth := X
  unfold f_J17_init_b
  refine J.pu (fun _ _ _ _ k => lv_aload_n X.1.1 X.1.2.1 dJ17_init_0 rfl (lv_at hl 0 rfl) k) ?_
  refine J.objI (a := this) X q662 hl.1 dJ17_init_1 (Nat.le_of_ble_eq_true rfl) (Nat.le_of_ble_eq_true rfl) ?_
  refine J.pu (fun _ _ _ _ k => lv_aload_n X.1.1 X.1.2.1 dJ17_init_4 rfl (lv_at hl 0 rfl) k) ?_
  refine J.pu (fun _ _ _ _ k => W.rload_n X.1.1 X.1.2.1 dJ17_init_5 rfl (lv_at hl 2 rfl) k) ?_
  refine J.putR (k := 0) (ci := 17) X in_J17 (show jCl[17]? = some (RJ17, TJ17, 3) from rfl) tyJ17_ok (fun a ha b hb h => Or.inl (nmJ17 a ha b hb h)) (by decide) q663 (fun _ h => h) rfl (Or.inl ⟨_, rfl⟩) dJ17_init_6 (fun S6 h6 => ?_)
  refine J.pu (fun _ _ _ _ k => lv_aload_n X.1.1 X.1.2.1 dJ17_init_9 rfl (lv_at hl 0 rfl) k) ?_
  refine J.pu (fun _ _ _ _ k => W.rload_n X.1.1 X.1.2.1 dJ17_init_10 rfl (lv_at hl 3 rfl) k) ?_
  refine J.putR (k := 1) (ci := 17) X in_J17 (show jCl[17]? = some (RJ17, TJ17, 3) from rfl) tyJ17_ok (fun a ha b hb h => Or.inl (nmJ17 a ha b hb h)) (by decide) q666 (fun _ h => h) rfl (Or.inl ⟨_, rfl⟩) dJ17_init_11 (fun S11 h11 => ?_)
  refine J.pu (fun _ _ _ _ k => lv_aload_n X.1.1 X.1.2.1 dJ17_init_14 rfl (lv_at hl 0 rfl) k) ?_
  refine J.pu (fun _ _ _ _ k => W.rload_n X.1.1 X.1.2.1 dJ17_init_15 rfl (lv_at hl 1 rfl) k) ?_
  refine J.putR (k := 2) (ci := 17) X in_J17 (show jCl[17]? = some (RJ17, TJ17, 3) from rfl) tyJ17_ok (fun a ha b hb h => Or.inl (nmJ17 a ha b hb h)) (by decide) q669 (fun _ h => h) rfl (Or.inl ⟨_, rfl⟩) dJ17_init_16 (fun S16 h16 => ?_)
  exact J.vret (vr := fun t : Unit × jH => jrV t.1) (fin := Prod.snd) (t := t) X hr (by rfl) (by rfl) dJ17_init_19
noncomputable def f_J18_init_J19_b (G : jG) (n : Nat) (σ : jH) (this : Nat) : Option (Unit × jH) :=
  bd (f_J1_init_J19 G n σ this) fun v1 S1 => some ((), S1)
noncomputable def f_J18_init_J19 (G : jG) (n : Nat) (σ : jH) (this : Nat) : Option (Unit × jH) := jck σ (f_J18_init_J19_b G n σ this)
set_option maxHeartbeats 4000000 in
set_option maxRecDepth 100000 in
theorem ct_f_J18_init_J19 (l : Launch) (G : jG) (n : Nat) (σ : jH) (this : Nat) : jCt l G yJ18_init (ws_ yJ18_init cJ18_init 1 none) 3 70 jrV [.ref this] σ (f_J18_init_J19 G n σ this) := by
  refine jCt.wr (lv := [(0, .ref this)]) (plainFor_of_name (by decide)) (Nat.le_of_ble_eq_true rfl) rfl ?_
  intro t p e s m args below meth c ls X hr hnm hl
  have X : jCx p c cJ18_init 1 s m args RJ18 G meth := X
  unfold f_J18_init_J19_b
  refine J.pu (fun _ _ _ _ k => lv_aload_n X.1.1 X.1.2.1 dJ18_init_0 rfl (lv_at hl 0 rfl) k) ?_
  refine J.bd' (fun v1 S1 h1 => ?_)
  refine J.cI (a := this) (As := []) (rest := []) (s2 := []) X ⟨rfl, rfl⟩ (ct_f_J1_init_J19 l G n σ this) h1 (fun _ _ => jcwI 0 X.1.2.2.2.2 q742 q216 q141 q217 rfl rfl rfl (by decide +kernel) ⟨(Nat.le_of_ble_eq_true rfl), (Nat.le_of_ble_eq_true rfl)⟩) rfl hl.1 rfl rfl (Nat.le_of_ble_eq_true rfl) dJ18_init_1 ?_
  exact J.vret (vr := fun t : Unit × jH => jrV t.1) (fin := Prod.snd) (t := t) X hr (by rfl) (by rfl) dJ18_init_4
noncomputable def f_J19_linkLast_j38 (G : jG) (n : Nat) (this : Nat) (a1 : Option Nat) (B38 : jH) : Option (Unit × jH) :=
  (gI B38 (some this) 16 1).bind fun v40 => (pI G B38 (some this) 16 1 (v40 + 1)).bind fun S45 => (gI S45 (some this) 16 0).bind fun v50 => (pI G S45 (some this) 16 0 (v50 + 1)).bind fun S55 => some ((), S55)
noncomputable def f_J19_linkLast_b (G : jG) (n : Nat) (σ : jH) (this : Nat) (a1 : Option Nat) : Option (Unit × jH) :=
  (gR σ (some this) 16 3).bind fun v1 => bd (nO σ 17 [.null, .null, .null] 3) fun v5 S5 => bd (f_J17_init G n S5 v5 v1 a1 none) fun v12 S12 => (pR G S12 (some this) 16 3 (some v5)).bind fun S18 => if v1 = none then ((pR G S18 (some this) 16 2 (some v5)).bind fun S27 => f_J19_linkLast_j38 G n this a1 S27) else ((pR G S18 v1 17 1 (some v5)).bind fun S35 => f_J19_linkLast_j38 G n this a1 S35)
noncomputable def f_J19_linkLast (G : jG) (n : Nat) (σ : jH) (this : Nat) (a1 : Option Nat) : Option (Unit × jH) := jck σ (f_J19_linkLast_b G n σ this a1)
set_option maxHeartbeats 4000000 in
set_option maxRecDepth 100000 in
theorem ct_f_J19_linkLast (l : Launch) (G : jG) (n : Nat) (σ : jH) (this : Nat) (a1 : Option Nat) : jCt l G yJ19_linkLast (ws_ yJ19_linkLast cJ19_linkLast 4 none) 2 53 jrV [.ref this, va_rf a1] σ (f_J19_linkLast G n σ this a1) := by
  refine jCt.wr (lv := [(0, .ref this), (1, va_rf a1)]) (plainFor_of_name (by decide)) (by simp [lg_sl, va_rf_cat, jcI, jcA, jcJ, jcD, jcF]) (by simp [lv_args, va_rf_cat, jcI, jcA, jcJ, jcD, jcF]) ?_
  intro t p e s m args below meth c ls X hr hnm hl
  have X : jCx p c cJ19_linkLast 4 s m args RJ19 G meth := X
  have j38 : ∀ (B38 : jH) (ls : Array Slot), lv_has ls 4 [(0, .ref this)] → jGo l G 2 53 σ (Prod.snd : Unit × jH → jH) (fun t => jrV t.1) t p e s m args below meth c (f_J19_linkLast_j38 G n this a1 B38) B38 (F0 m 38 ls []) := by
    intro B38 ls hl
    unfold f_J19_linkLast_j38
    refine J.pu (fun _ _ _ _ k => lv_aload_n X.1.1 X.1.2.1 dJ19_linkLast_38 rfl (lv_at hl 0 rfl) k) ?_
    refine J.pu (fun _ _ _ _ k => lv_dup X.1.1 X.1.2.1 dJ19_linkLast_39 rfl k) ?_
    refine J.getI (k := 1) (ci := 16) X in_J19 (show jCl[16]? = some (RJ19, TJ19, 4) from rfl) (by decide) q743 (fun _ h => h) dJ19_linkLast_40 (fun v40 h40 => ?_)
    refine J.pu (fun _ _ _ _ k => lv_iconst (v := 1) X.1.1 X.1.2.1 dJ19_linkLast_43 (by decide) k) ?_
    refine J.pu (fun _ _ _ _ k => lv_iadd X.1.1 X.1.2.1 dJ19_linkLast_44 k) ?_
    refine J.putI (k := 1) (ci := 16) X in_J19 (show jCl[16]? = some (RJ19, TJ19, 4) from rfl) tyJ19_ok (fun a ha b hb h => Or.inl (nmJ19 a ha b hb h)) (by decide) q743 (fun _ h => h) rfl rfl dJ19_linkLast_45 (fun S45 h45 => ?_)
    refine J.pu (fun _ _ _ _ k => lv_aload_n X.1.1 X.1.2.1 dJ19_linkLast_48 rfl (lv_at hl 0 rfl) k) ?_
    refine J.pu (fun _ _ _ _ k => lv_dup X.1.1 X.1.2.1 dJ19_linkLast_49 rfl k) ?_
    refine J.getI (k := 0) (ci := 16) X in_J19 (show jCl[16]? = some (RJ19, TJ19, 4) from rfl) (by decide) q556 (fun x h => u_same (X.1.2.2.2.2 _ q552) x h) dJ19_linkLast_50 (fun v50 h50 => ?_)
    refine J.pu (fun _ _ _ _ k => lv_iconst (v := 1) X.1.1 X.1.2.1 dJ19_linkLast_53 (by decide) k) ?_
    refine J.pu (fun _ _ _ _ k => lv_iadd X.1.1 X.1.2.1 dJ19_linkLast_54 k) ?_
    refine J.putI (k := 0) (ci := 16) X in_J19 (show jCl[16]? = some (RJ19, TJ19, 4) from rfl) tyJ19_ok (fun a ha b hb h => Or.inl (nmJ19 a ha b hb h)) (by decide) q556 (fun x h => u_same (X.1.2.2.2.2 _ q552) x h) rfl rfl dJ19_linkLast_55 (fun S55 h55 => ?_)
    exact J.vret (vr := fun t : Unit × jH => jrV t.1) (fin := Prod.snd) (t := t) X hr (by rfl) (by rfl) dJ19_linkLast_58
  unfold f_J19_linkLast_b
  refine J.pu (fun _ _ _ _ k => lv_aload_n X.1.1 X.1.2.1 dJ19_linkLast_0 rfl (lv_at hl 0 rfl) k) ?_
  refine J.getR (k := 3) (ci := 16) X in_J19 (show jCl[16]? = some (RJ19, TJ19, 4) from rfl) (by decide) q746 (fun _ h => h) dJ19_linkLast_1 (fun v1 h1 => ?_)
  refine J.astore_n (r := v1) (i := 2) (lv' := [(2, va_rf v1), (0, .ref this), (1, va_rf a1)]) X.1.1 X.1.2.1 dJ19_linkLast_4 rfl hl (by decide) (by first | rfl | simp [va_rf_cat, jcI, jcA, jcJ, jcD, jcF]) (fun ls hl => ?_)
  refine J.nO' (fs := [.null, .null, .null]) X ⟨rfl, rfl⟩ in_J17 (show jCl[17]? = some (RJ17, TJ17, 3) from rfl) tyJ17 tyJ17_ok q657 q658 q160 rfl dJ19_linkLast_5 (fun v5 S5 h5 => ?_)
  refine J.pu (fun _ _ _ _ k => lv_dup X.1.1 X.1.2.1 dJ19_linkLast_8 rfl k) ?_
  refine J.pu (fun _ _ _ _ k => W.rload_n X.1.1 X.1.2.1 dJ19_linkLast_9 rfl (lv_at hl 0 rfl) k) ?_
  refine J.pu (fun _ _ _ _ k => W.rload_n X.1.1 X.1.2.1 dJ19_linkLast_10 rfl (lv_at hl 2 rfl) k) ?_
  refine J.pu (fun _ _ _ _ k => lv_null X.1.1 X.1.2.1 dJ19_linkLast_11 k) ?_
  refine J.bd' (fun v12 S12 h12 => ?_)
  refine J.cI (a := v5) (As := [va_rf v1, va_rf a1, va_rf none]) (rest := [.ref v5]) (s2 := [.ref v5]) X ⟨rfl, rfl⟩ (ct_f_J17_init l G n S5 v5 v1 a1 none) h12 (fun _ _ => jcwI 3 X.1.2.2.2.2 q659 q660 q160 q661 rfl rfl rfl (by decide +kernel) ⟨(Nat.le_of_ble_eq_true rfl), (Nat.le_of_ble_eq_true rfl)⟩) rfl hl.1 rfl rfl (Nat.le_of_ble_eq_true rfl) dJ19_linkLast_12 ?_
  refine J.astore_n (r := (some v5)) (i := 3) (lv' := [(3, va_rf (some v5)), (2, va_rf v1), (0, .ref this), (1, va_rf a1)]) X.1.1 X.1.2.1 dJ19_linkLast_15 rfl hl (by decide) (by first | rfl | simp [va_rf_cat, jcI, jcA, jcJ, jcD, jcF]) (fun ls hl => ?_)
  refine J.pu (fun _ _ _ _ k => lv_aload_n X.1.1 X.1.2.1 dJ19_linkLast_16 rfl (lv_at hl 2 rfl) k) ?_
  refine J.pu (fun _ _ _ _ k => W.rload_n X.1.1 X.1.2.1 dJ19_linkLast_17 rfl (lv_at hl 0 rfl) k) ?_
  refine J.putR (k := 3) (ci := 16) X in_J19 (show jCl[16]? = some (RJ19, TJ19, 4) from rfl) tyJ19_ok (fun a ha b hb h => Or.inl (nmJ19 a ha b hb h)) (by decide) q746 (fun _ h => h) rfl (Or.inl ⟨_, rfl⟩) dJ19_linkLast_18 (fun S18 h18 => ?_)
  refine J.pu (fun _ _ _ _ k => W.rload_n X.1.1 X.1.2.1 dJ19_linkLast_21 rfl (lv_at hl 1 rfl) k) ?_
  refine J.br (fun _ _ _ _ ka kb => W.rnonnull (tgt := 33) X.1.1 X.1.2.1 dJ19_linkLast_22 (by decide) kb ka) (fun c22 => ?_) (fun c22 => ?_)
  · refine J.pu (fun _ _ _ _ k => lv_aload_n X.1.1 X.1.2.1 dJ19_linkLast_25 rfl (lv_at hl 2 rfl) k) ?_
    refine J.pu (fun _ _ _ _ k => W.rload_n X.1.1 X.1.2.1 dJ19_linkLast_26 rfl (lv_at hl 0 rfl) k) ?_
    refine J.putR (k := 2) (ci := 16) X in_J19 (show jCl[16]? = some (RJ19, TJ19, 4) from rfl) tyJ19_ok (fun a ha b hb h => Or.inl (nmJ19 a ha b hb h)) (by decide) q745 (fun _ h => h) rfl (Or.inl ⟨_, rfl⟩) dJ19_linkLast_27 (fun S27 h27 => ?_)
    refine J.pu (fun _ _ _ _ k => lv_goto (tgt := 38) X.1.1 X.1.2.1 dJ19_linkLast_30 (by decide) k) ?_
    exact j38 S27 ls (lv_sub hl [2] rfl)
  · refine J.pu (fun _ _ _ _ k => W.rload_n X.1.1 X.1.2.1 dJ19_linkLast_33 rfl (lv_at hl 1 rfl) k) ?_
    refine J.pu (fun _ _ _ _ k => W.rload_n X.1.1 X.1.2.1 dJ19_linkLast_34 rfl (lv_at hl 0 rfl) k) ?_
    refine J.putR (k := 1) (ci := 17) X in_J17 (show jCl[17]? = some (RJ17, TJ17, 3) from rfl) tyJ17_ok (fun a ha b hb h => Or.inl (nmJ17 a ha b hb h)) (by decide) q668 (fun _ h => h) rfl (Or.inl ⟨_, rfl⟩) dJ19_linkLast_35 (fun S35 h35 => ?_)
    exact j38 S35 ls (lv_sub hl [2] rfl)
noncomputable def f_J19_init_b (G : jG) (n : Nat) (σ : jH) (this : Nat) : Option (Unit × jH) :=
  bd (f_J18_init_J19 G n σ this) fun v1 S1 => (pI G S1 (some this) 16 1 0).bind fun S6 => some ((), S6)
noncomputable def f_J19_init (G : jG) (n : Nat) (σ : jH) (this : Nat) : Option (Unit × jH) := jck σ (f_J19_init_b G n σ this)
set_option maxHeartbeats 4000000 in
set_option maxRecDepth 100000 in
theorem ct_f_J19_init (l : Launch) (G : jG) (n : Nat) (σ : jH) (this : Nat) : jCt l G yJ19_init (ws_ yJ19_init cJ19_init 1 none) 4 90 jrV [.ref this] σ (f_J19_init G n σ this) := by
  refine jCt.wr (lv := [(0, .ref this)]) (plainFor_of_name (by decide)) (Nat.le_of_ble_eq_true rfl) rfl ?_
  intro t p e s m args below meth c ls X hr hnm hl
  have X : jCx p c cJ19_init 1 s m args RJ19 G meth := X
  unfold f_J19_init_b
  refine J.pu (fun _ _ _ _ k => lv_aload_n X.1.1 X.1.2.1 dJ19_init_0 rfl (lv_at hl 0 rfl) k) ?_
  refine J.bd' (fun v1 S1 h1 => ?_)
  refine J.cI (a := this) (As := []) (rest := []) (s2 := []) X ⟨rfl, rfl⟩ (ct_f_J18_init_J19 l G n σ this) h1 (fun _ _ => jcwI 0 X.1.2.2.2.2 q739 q740 q162 q741 rfl rfl rfl (by decide +kernel) ⟨(Nat.le_of_ble_eq_true rfl), (Nat.le_of_ble_eq_true rfl)⟩) rfl hl.1 rfl rfl (Nat.le_of_ble_eq_true rfl) dJ19_init_1 ?_
  refine J.pu (fun _ _ _ _ k => lv_aload_n X.1.1 X.1.2.1 dJ19_init_4 rfl (lv_at hl 0 rfl) k) ?_
  refine J.pu (fun _ _ _ _ k => lv_iconst (v := 0) X.1.1 X.1.2.1 dJ19_init_5 (by decide) k) ?_
  refine J.putI (k := 1) (ci := 16) X in_J19 (show jCl[16]? = some (RJ19, TJ19, 4) from rfl) tyJ19_ok (fun a ha b hb h => Or.inl (nmJ19 a ha b hb h)) (by decide) q743 (fun _ h => h) rfl rfl dJ19_init_6 (fun S6 h6 => ?_)
  exact J.vret (vr := fun t : Unit × jH => jrV t.1) (fin := Prod.snd) (t := t) X hr (by rfl) (by rfl) dJ19_init_9
noncomputable def f_J19_size (G : jG) (n : Nat) (σ : jH) (this : Nat) : Option (Int32) :=
  (gI σ (some this) 16 1).bind fun v1 => some v1
set_option maxHeartbeats 4000000 in
set_option maxRecDepth 100000 in
theorem ct_f_J19_size (l : Launch) (G : jG) (n : Nat) (σ : jH) (this : Nat) : jCt l G yJ19_size (ws_ yJ19_size cJ19_size 1 (some .int)) 0 0 jrI [.ref this] σ (jrd σ (f_J19_size G n σ this)) := by
  refine jCt.rd (lv := [(0, .ref this)]) (plainFor_of_name (by decide)) (Nat.le_of_ble_eq_true rfl) rfl ?_
  intro t p e s m args below meth c ls X hr hnm hl
  have X : jCx p c cJ19_size 1 s m args RJ19 G meth := X
  unfold f_J19_size
  refine J.pu (fun _ _ _ _ k => lv_aload_n X.1.1 X.1.2.1 dJ19_size_0 rfl (lv_at hl 0 rfl) k) ?_
  refine J.getI (k := 1) (ci := 16) X in_J19 (show jCl[16]? = some (RJ19, TJ19, 4) from rfl) (by decide) q743 (fun _ h => h) dJ19_size_1 (fun v1 h1 => ?_)
  exact J.iret (vr := jrI) (fin := fun _ : Int32 => σ) (t := t) X hr (by rfl) (by rfl) dJ19_size_4
noncomputable def f_J19_isElementIndex (G : jG) (n : Nat) (σ : jH) (this : Nat) (a1 : Int32) : Option (Int32) :=
  if a1 < 0 then (some 0) else ((gI σ (some this) 16 1).bind fun v6 => if v6 ≤ a1 then (some 0) else (some 1))
set_option maxHeartbeats 4000000 in
set_option maxRecDepth 100000 in
theorem ct_f_J19_isElementIndex (l : Launch) (G : jG) (n : Nat) (σ : jH) (this : Nat) (a1 : Int32) : jCt l G yJ19_isElementIndex (ws_ yJ19_isElementIndex cJ19_isElementIndex 2 (some .boolean)) 0 0 jrI [.ref this, .int a1] σ (jrd σ (f_J19_isElementIndex G n σ this a1)) := by
  refine jCt.rd (lv := [(0, .ref this), (1, .int a1)]) (plainFor_of_name (by decide)) (Nat.le_of_ble_eq_true rfl) rfl ?_
  intro t p e s m args below meth c ls X hr hnm hl
  have X : jCx p c cJ19_isElementIndex 2 s m args RJ19 G meth := X
  unfold f_J19_isElementIndex
  refine J.pu (fun _ _ _ _ k => lv_iload_n X.1.1 X.1.2.1 dJ19_isElementIndex_0 rfl (lv_at hl 1 rfl) k) ?_
  refine J.br (fun _ _ _ _ ka kb => lv_if_lt (tgt := 16) X.1.1 X.1.2.1 dJ19_isElementIndex_1 (by decide) ka kb) (fun c1 => ?_) (fun c1 => ?_)
  · refine J.pu (fun _ _ _ _ k => lv_iconst (v := 0) X.1.1 X.1.2.1 dJ19_isElementIndex_16 (by decide) k) ?_
    exact J.zret (vr := jrI) (fin := fun _ : Int32 => σ) (t := t) X hr (by decide) (by rfl) (by rfl) dJ19_isElementIndex_17
  · refine J.pu (fun _ _ _ _ k => lv_iload_n X.1.1 X.1.2.1 dJ19_isElementIndex_4 rfl (lv_at hl 1 rfl) k) ?_
    refine J.pu (fun _ _ _ _ k => lv_aload_n X.1.1 X.1.2.1 dJ19_isElementIndex_5 rfl (lv_at hl 0 rfl) k) ?_
    refine J.getI (k := 1) (ci := 16) X in_J19 (show jCl[16]? = some (RJ19, TJ19, 4) from rfl) (by decide) q743 (fun _ h => h) dJ19_isElementIndex_6 (fun v6 h6 => ?_)
    refine J.br (fun _ _ _ _ ka kb => lv_icmp_ge (tgt := 16) X.1.1 X.1.2.1 dJ19_isElementIndex_9 (by decide) ka kb) (fun c9 => ?_) (fun c9 => ?_)
    · refine J.pu (fun _ _ _ _ k => lv_iconst (v := 0) X.1.1 X.1.2.1 dJ19_isElementIndex_16 (by decide) k) ?_
      exact J.zret (vr := jrI) (fin := fun _ : Int32 => σ) (t := t) X hr (by decide) (by rfl) (by rfl) dJ19_isElementIndex_17
    · refine J.pu (fun _ _ _ _ k => lv_iconst (v := 1) X.1.1 X.1.2.1 dJ19_isElementIndex_12 (by decide) k) ?_
      refine J.pu (fun _ _ _ _ k => lv_goto (tgt := 17) X.1.1 X.1.2.1 dJ19_isElementIndex_13 (by decide) k) ?_
      exact J.zret (vr := jrI) (fin := fun _ : Int32 => σ) (t := t) X hr (by decide) (by rfl) (by rfl) dJ19_isElementIndex_17
noncomputable def f_J19_node_h47 (G : jG) (n : Nat) (σ : jH) (this : Nat) (a1 : Int32) (rec47 : (Option Nat) × Int32 → Option (Option Nat)) (q47 : (Option Nat) × Int32) : Option (Option Nat) :=
  let x2_47 := q47.1; let x3_47 := q47.2; if x3_47 ≤ a1 then (some x2_47) else ((gR σ x2_47 17 2).bind fun v53 => rec47 (v53, (x3_47 + (-1))))
noncomputable def f_J19_node_h17 (G : jG) (n : Nat) (σ : jH) (this : Nat) (a1 : Int32) (rec17 : (Option Nat) × Int32 → Option (Option Nat)) (q17 : (Option Nat) × Int32) : Option (Option Nat) :=
  let x2_17 := q17.1; let x3_17 := q17.2; if a1 ≤ x3_17 then (some x2_17) else ((gR σ x2_17 17 1).bind fun v23 => rec17 (v23, (x3_17 + 1)))
noncomputable def f_J19_node (G : jG) (n : Nat) (σ : jH) (this : Nat) (a1 : Int32) : Option (Option Nat) :=
  (gI σ (some this) 16 1).bind fun v2 => if (v2 >>> (1 &&& 31)) ≤ a1 then ((gR σ (some this) 16 3).bind fun v36 => (gI σ (some this) 16 1).bind fun v41 => jloop (f_J19_node_h47 G n σ this a1) n (v36, (v41 - 1))) else ((gR σ (some this) 16 2).bind fun v11 => jloop (f_J19_node_h17 G n σ this a1) n (v11, 0))
set_option maxHeartbeats 4000000 in
set_option maxRecDepth 100000 in
theorem ct_f_J19_node (l : Launch) (G : jG) (n : Nat) (σ : jH) (this : Nat) (a1 : Int32) : jCt l G yJ19_node (ws_ yJ19_node cJ19_node 4 (some (.object "java/util/LinkedList$Node"))) 0 0 jrR [.ref this, .int a1] σ (jrd σ (f_J19_node G n σ this a1)) := by
  refine jCt.rd (lv := [(0, .ref this), (1, .int a1)]) (plainFor_of_name (by decide)) (Nat.le_of_ble_eq_true rfl) rfl ?_
  intro t p e s m args below meth c ls X hr hnm hl
  have X : jCx p c cJ19_node 4 s m args RJ19 G meth := X
  have L47 : ∀ (n47 : Nat) (x2_47 : Option Nat) (x3_47 : Int32) (ls : Array Slot), lv_has ls 4 [(1, .int a1), (2, va_rf x2_47), (3, .int x3_47)] → jGo l G 0 0 σ (fun _ : Option Nat => σ) jrR t p e s m args below meth c (jloop (f_J19_node_h47 G n σ this a1) n47 (x2_47, x3_47)) σ (F0 m 47 ls []) := by
    intro n47
    induction n47 with
    | zero => intro x2_47 x3_47 ls hl; exact J.nil_
    | succ n47 ih47 =>
      intro x2_47 x3_47 ls hl
      refine J.eq (jloop_s _ _ _) ?_
      dsimp only [f_J19_node_h47]
      refine J.pu (fun _ _ _ _ k => lv_iload_n X.1.1 X.1.2.1 dJ19_node_47 rfl (lv_at hl 2 rfl) k) ?_
      refine J.pu (fun _ _ _ _ k => lv_iload_n X.1.1 X.1.2.1 dJ19_node_48 rfl (lv_at hl 0 rfl) k) ?_
      refine J.br (fun _ _ _ _ ka kb => lv_icmp_le (tgt := 63) X.1.1 X.1.2.1 dJ19_node_49 (by decide) ka kb) (fun c49 => ?_) (fun c49 => ?_)
      · refine J.pu (fun _ _ _ _ k => W.rload_n X.1.1 X.1.2.1 dJ19_node_63 rfl (lv_at hl 1 rfl) k) ?_
        exact J.aret (vr := jrR) (fin := fun _ : Option Nat => σ) (t := t) X hr (Or.inl ⟨_, rfl⟩) (by rfl) (by rfl) dJ19_node_64
      · refine J.pu (fun _ _ _ _ k => W.rload_n X.1.1 X.1.2.1 dJ19_node_52 rfl (lv_at hl 1 rfl) k) ?_
        refine J.getR (k := 2) (ci := 17) X in_J17 (show jCl[17]? = some (RJ17, TJ17, 3) from rfl) (by decide) q670 (fun _ h => h) dJ19_node_53 (fun v53 h53 => ?_)
        refine J.astore_n (r := v53) (i := 2) (lv' := [(2, va_rf v53), (1, .int a1), (3, .int x3_47)]) X.1.1 X.1.2.1 dJ19_node_56 rfl hl (by decide) (by first | rfl | simp [va_rf_cat, jcI, jcA, jcJ, jcD, jcF]) (fun ls hl => ?_)
        refine J.iinc (k := 2) (lv' := [(3, .int (x3_47 + (-1))), (2, va_rf v53), (1, .int a1)]) (w := (x3_47 + (-1))) X.1.1 X.1.2.1 dJ19_node_57 hl rfl (by rw [show Int32.ofInt (-1) = ((-1) : Int32) from by decide]) (by decide) (by first | rfl | simp [va_rf_cat, jcI, jcA, jcJ, jcD, jcF]) (fun ls hl => ?_)
        refine J.pu (fun _ _ _ _ k => lv_goto (tgt := 47) X.1.1 X.1.2.1 dJ19_node_60 (by decide) k) ?_
        exact ih47 v53 (x3_47 + (-1)) ls (lv_sub hl [2, 1, 0] rfl)
  have L17 : ∀ (n17 : Nat) (x2_17 : Option Nat) (x3_17 : Int32) (ls : Array Slot), lv_has ls 4 [(1, .int a1), (2, va_rf x2_17), (3, .int x3_17)] → jGo l G 0 0 σ (fun _ : Option Nat => σ) jrR t p e s m args below meth c (jloop (f_J19_node_h17 G n σ this a1) n17 (x2_17, x3_17)) σ (F0 m 17 ls []) := by
    intro n17
    induction n17 with
    | zero => intro x2_17 x3_17 ls hl; exact J.nil_
    | succ n17 ih17 =>
      intro x2_17 x3_17 ls hl
      refine J.eq (jloop_s _ _ _) ?_
      dsimp only [f_J19_node_h17]
      refine J.pu (fun _ _ _ _ k => lv_iload_n X.1.1 X.1.2.1 dJ19_node_17 rfl (lv_at hl 2 rfl) k) ?_
      refine J.pu (fun _ _ _ _ k => lv_iload_n X.1.1 X.1.2.1 dJ19_node_18 rfl (lv_at hl 0 rfl) k) ?_
      refine J.br (fun _ _ _ _ ka kb => lv_icmp_ge (tgt := 33) X.1.1 X.1.2.1 dJ19_node_19 (by decide) ka kb) (fun c19 => ?_) (fun c19 => ?_)
      · refine J.pu (fun _ _ _ _ k => W.rload_n X.1.1 X.1.2.1 dJ19_node_33 rfl (lv_at hl 1 rfl) k) ?_
        exact J.aret (vr := jrR) (fin := fun _ : Option Nat => σ) (t := t) X hr (Or.inl ⟨_, rfl⟩) (by rfl) (by rfl) dJ19_node_34
      · refine J.pu (fun _ _ _ _ k => W.rload_n X.1.1 X.1.2.1 dJ19_node_22 rfl (lv_at hl 1 rfl) k) ?_
        refine J.getR (k := 1) (ci := 17) X in_J17 (show jCl[17]? = some (RJ17, TJ17, 3) from rfl) (by decide) q668 (fun _ h => h) dJ19_node_23 (fun v23 h23 => ?_)
        refine J.astore_n (r := v23) (i := 2) (lv' := [(2, va_rf v23), (1, .int a1), (3, .int x3_17)]) X.1.1 X.1.2.1 dJ19_node_26 rfl hl (by decide) (by first | rfl | simp [va_rf_cat, jcI, jcA, jcJ, jcD, jcF]) (fun ls hl => ?_)
        refine J.iinc (k := 2) (lv' := [(3, .int (x3_17 + 1)), (2, va_rf v23), (1, .int a1)]) (w := (x3_17 + 1)) X.1.1 X.1.2.1 dJ19_node_27 hl rfl rfl (by decide) (by first | rfl | simp [va_rf_cat, jcI, jcA, jcJ, jcD, jcF]) (fun ls hl => ?_)
        refine J.pu (fun _ _ _ _ k => lv_goto (tgt := 17) X.1.1 X.1.2.1 dJ19_node_30 (by decide) k) ?_
        exact ih17 v23 (x3_17 + 1) ls (lv_sub hl [2, 1, 0] rfl)
  unfold f_J19_node
  refine J.pu (fun _ _ _ _ k => lv_iload_n X.1.1 X.1.2.1 dJ19_node_0 rfl (lv_at hl 1 rfl) k) ?_
  refine J.pu (fun _ _ _ _ k => lv_aload_n X.1.1 X.1.2.1 dJ19_node_1 rfl (lv_at hl 0 rfl) k) ?_
  refine J.getI (k := 1) (ci := 16) X in_J19 (show jCl[16]? = some (RJ19, TJ19, 4) from rfl) (by decide) q743 (fun _ h => h) dJ19_node_2 (fun v2 h2 => ?_)
  refine J.pu (fun _ _ _ _ k => lv_iconst (v := 1) X.1.1 X.1.2.1 dJ19_node_5 (by decide) k) ?_
  refine J.pu (fun _ _ _ _ k => lv_ishr X.1.1 X.1.2.1 dJ19_node_6 k) ?_
  refine J.br (fun _ _ _ _ ka kb => lv_icmp_ge (tgt := 35) X.1.1 X.1.2.1 dJ19_node_7 (by decide) ka kb) (fun c7 => ?_) (fun c7 => ?_)
  · refine J.pu (fun _ _ _ _ k => lv_aload_n X.1.1 X.1.2.1 dJ19_node_35 rfl (lv_at hl 0 rfl) k) ?_
    refine J.getR (k := 3) (ci := 16) X in_J19 (show jCl[16]? = some (RJ19, TJ19, 4) from rfl) (by decide) q746 (fun _ h => h) dJ19_node_36 (fun v36 h36 => ?_)
    refine J.astore_n (r := v36) (i := 2) (lv' := [(2, va_rf v36), (0, .ref this), (1, .int a1)]) X.1.1 X.1.2.1 dJ19_node_39 rfl hl (by decide) (by first | rfl | simp [va_rf_cat, jcI, jcA, jcJ, jcD, jcF]) (fun ls hl => ?_)
    refine J.pu (fun _ _ _ _ k => lv_aload_n X.1.1 X.1.2.1 dJ19_node_40 rfl (lv_at hl 1 rfl) k) ?_
    refine J.getI (k := 1) (ci := 16) X in_J19 (show jCl[16]? = some (RJ19, TJ19, 4) from rfl) (by decide) q743 (fun _ h => h) dJ19_node_41 (fun v41 h41 => ?_)
    refine J.pu (fun _ _ _ _ k => lv_iconst (v := 1) X.1.1 X.1.2.1 dJ19_node_44 (by decide) k) ?_
    refine J.pu (fun _ _ _ _ k => lv_isub X.1.1 X.1.2.1 dJ19_node_45 k) ?_
    refine J.istore_n (i := 3) (lv' := [(3, .int (v41 - 1)), (2, va_rf v36), (0, .ref this), (1, .int a1)]) X.1.1 X.1.2.1 dJ19_node_46 rfl hl (by decide) (by first | rfl | simp [va_rf_cat, jcI, jcA, jcJ, jcD, jcF]) (fun ls hl => ?_)
    exact L47 n v36 (v41 - 1) ls (lv_sub hl [3, 1, 0] rfl)
  · refine J.pu (fun _ _ _ _ k => lv_aload_n X.1.1 X.1.2.1 dJ19_node_10 rfl (lv_at hl 0 rfl) k) ?_
    refine J.getR (k := 2) (ci := 16) X in_J19 (show jCl[16]? = some (RJ19, TJ19, 4) from rfl) (by decide) q745 (fun _ h => h) dJ19_node_11 (fun v11 h11 => ?_)
    refine J.astore_n (r := v11) (i := 2) (lv' := [(2, va_rf v11), (0, .ref this), (1, .int a1)]) X.1.1 X.1.2.1 dJ19_node_14 rfl hl (by decide) (by first | rfl | simp [va_rf_cat, jcI, jcA, jcJ, jcD, jcF]) (fun ls hl => ?_)
    refine J.pu (fun _ _ _ _ k => lv_iconst (v := 0) X.1.1 X.1.2.1 dJ19_node_15 (by decide) k) ?_
    refine J.istore_n (i := 3) (lv' := [(3, .int 0), (2, va_rf v11), (0, .ref this), (1, .int a1)]) X.1.1 X.1.2.1 dJ19_node_16 rfl hl (by decide) (by first | rfl | simp [va_rf_cat, jcI, jcA, jcJ, jcD, jcF]) (fun ls hl => ?_)
    exact L17 n v11 0 ls (lv_sub hl [3, 1, 0] rfl)
noncomputable def f_J19_clear_h5 (G : jG) (n : Nat) (this : Nat) (rec5 : (Option Nat) × jH → Option (Unit × jH)) (q5 : (Option Nat) × jH) : Option (Unit × jH) :=
  let x1_5 := q5.1; let B5 := q5.2; if x1_5 = none then ((pR G B5 (some this) 16 3 none).bind fun S38 => (pR G S38 (some this) 16 2 none).bind fun S41 => (pI G S41 (some this) 16 1 0).bind fun S46 => (gI S46 (some this) 16 0).bind fun v51 => (pI G S46 (some this) 16 0 (v51 + 1)).bind fun S56 => some ((), S56)) else ((gR B5 x1_5 17 1).bind fun v10 => (pR G B5 x1_5 17 0 none).bind fun S16 => (pR G S16 x1_5 17 1 none).bind fun S21 => (pR G S21 x1_5 17 2 none).bind fun S26 => rec5 (v10, S26))
noncomputable def f_J19_clear_b (G : jG) (n : Nat) (σ : jH) (this : Nat) : Option (Unit × jH) :=
  (gR σ (some this) 16 2).bind fun v1 => jloop (f_J19_clear_h5 G n this) n (v1, σ)
noncomputable def f_J19_clear (G : jG) (n : Nat) (σ : jH) (this : Nat) : Option (Unit × jH) := jck σ (f_J19_clear_b G n σ this)
set_option maxHeartbeats 4000000 in
set_option maxRecDepth 100000 in
theorem ct_f_J19_clear (l : Launch) (G : jG) (n : Nat) (σ : jH) (this : Nat) : jCt l G yJ19_clear (ws_ yJ19_clear cJ19_clear 3 none) 0 0 jrV [.ref this] σ (f_J19_clear G n σ this) := by
  refine jCt.wr (lv := [(0, .ref this)]) (plainFor_of_name (by decide)) (Nat.le_of_ble_eq_true rfl) rfl ?_
  intro t p e s m args below meth c ls X hr hnm hl
  have X : jCx p c cJ19_clear 3 s m args RJ19 G meth := X
  have L5 : ∀ (n5 : Nat) (x1_5 : Option Nat) (B5 : jH) (ls : Array Slot), lv_has ls 3 [(0, .ref this), (1, va_rf x1_5)] → jGo l G 0 0 σ (Prod.snd : Unit × jH → jH) (fun t => jrV t.1) t p e s m args below meth c (jloop (f_J19_clear_h5 G n this) n5 (x1_5, B5)) B5 (F0 m 5 ls []) := by
    intro n5
    induction n5 with
    | zero => intro x1_5 B5 ls hl; exact J.nil_
    | succ n5 ih5 =>
      intro x1_5 B5 ls hl
      refine J.eq (jloop_s _ _ _) ?_
      dsimp only [f_J19_clear_h5]
      refine J.pu (fun _ _ _ _ k => W.rload_n X.1.1 X.1.2.1 dJ19_clear_5 rfl (lv_at hl 1 rfl) k) ?_
      refine J.br (fun _ _ _ _ ka kb => W.rnull (tgt := 34) X.1.1 X.1.2.1 dJ19_clear_6 (by decide) ka kb) (fun c6 => ?_) (fun c6 => ?_)
      · refine J.pu (fun _ _ _ _ k => lv_aload_n X.1.1 X.1.2.1 dJ19_clear_34 rfl (lv_at hl 0 rfl) k) ?_
        refine J.pu (fun _ _ _ _ k => lv_aload_n X.1.1 X.1.2.1 dJ19_clear_35 rfl (lv_at hl 0 rfl) k) ?_
        refine J.pu (fun _ _ _ _ k => lv_null X.1.1 X.1.2.1 dJ19_clear_36 k) ?_
        refine J.pu (fun _ _ _ _ k => lv_dup_x1 X.1.1 X.1.2.1 dJ19_clear_37 rfl rfl k) ?_
        refine J.putR (k := 3) (ci := 16) X in_J19 (show jCl[16]? = some (RJ19, TJ19, 4) from rfl) tyJ19_ok (fun a ha b hb h => Or.inl (nmJ19 a ha b hb h)) (by decide) q746 (fun _ h => h) rfl (Or.inl ⟨_, rfl⟩) dJ19_clear_38 (fun S38 h38 => ?_)
        refine J.putR (k := 2) (ci := 16) X in_J19 (show jCl[16]? = some (RJ19, TJ19, 4) from rfl) tyJ19_ok (fun a ha b hb h => Or.inl (nmJ19 a ha b hb h)) (by decide) q745 (fun _ h => h) rfl (Or.inl ⟨_, rfl⟩) dJ19_clear_41 (fun S41 h41 => ?_)
        refine J.pu (fun _ _ _ _ k => lv_aload_n X.1.1 X.1.2.1 dJ19_clear_44 rfl (lv_at hl 0 rfl) k) ?_
        refine J.pu (fun _ _ _ _ k => lv_iconst (v := 0) X.1.1 X.1.2.1 dJ19_clear_45 (by decide) k) ?_
        refine J.putI (k := 1) (ci := 16) X in_J19 (show jCl[16]? = some (RJ19, TJ19, 4) from rfl) tyJ19_ok (fun a ha b hb h => Or.inl (nmJ19 a ha b hb h)) (by decide) q743 (fun _ h => h) rfl rfl dJ19_clear_46 (fun S46 h46 => ?_)
        refine J.pu (fun _ _ _ _ k => lv_aload_n X.1.1 X.1.2.1 dJ19_clear_49 rfl (lv_at hl 0 rfl) k) ?_
        refine J.pu (fun _ _ _ _ k => lv_dup X.1.1 X.1.2.1 dJ19_clear_50 rfl k) ?_
        refine J.getI (k := 0) (ci := 16) X in_J19 (show jCl[16]? = some (RJ19, TJ19, 4) from rfl) (by decide) q556 (fun x h => u_same (X.1.2.2.2.2 _ q552) x h) dJ19_clear_51 (fun v51 h51 => ?_)
        refine J.pu (fun _ _ _ _ k => lv_iconst (v := 1) X.1.1 X.1.2.1 dJ19_clear_54 (by decide) k) ?_
        refine J.pu (fun _ _ _ _ k => lv_iadd X.1.1 X.1.2.1 dJ19_clear_55 k) ?_
        refine J.putI (k := 0) (ci := 16) X in_J19 (show jCl[16]? = some (RJ19, TJ19, 4) from rfl) tyJ19_ok (fun a ha b hb h => Or.inl (nmJ19 a ha b hb h)) (by decide) q556 (fun x h => u_same (X.1.2.2.2.2 _ q552) x h) rfl rfl dJ19_clear_56 (fun S56 h56 => ?_)
        exact J.vret (vr := fun t : Unit × jH => jrV t.1) (fin := Prod.snd) (t := t) X hr (by rfl) (by rfl) dJ19_clear_59
      · refine J.pu (fun _ _ _ _ k => W.rload_n X.1.1 X.1.2.1 dJ19_clear_9 rfl (lv_at hl 1 rfl) k) ?_
        refine J.getR (k := 1) (ci := 17) X in_J17 (show jCl[17]? = some (RJ17, TJ17, 3) from rfl) (by decide) q668 (fun _ h => h) dJ19_clear_10 (fun v10 h10 => ?_)
        refine J.astore_n (r := v10) (i := 2) (lv' := [(2, va_rf v10), (0, .ref this), (1, va_rf x1_5)]) X.1.1 X.1.2.1 dJ19_clear_13 rfl hl (by decide) (by first | rfl | simp [va_rf_cat, jcI, jcA, jcJ, jcD, jcF]) (fun ls hl => ?_)
        refine J.pu (fun _ _ _ _ k => W.rload_n X.1.1 X.1.2.1 dJ19_clear_14 rfl (lv_at hl 2 rfl) k) ?_
        refine J.pu (fun _ _ _ _ k => lv_null X.1.1 X.1.2.1 dJ19_clear_15 k) ?_
        refine J.putR (k := 0) (ci := 17) X in_J17 (show jCl[17]? = some (RJ17, TJ17, 3) from rfl) tyJ17_ok (fun a ha b hb h => Or.inl (nmJ17 a ha b hb h)) (by decide) q665 (fun _ h => h) rfl (Or.inl ⟨_, rfl⟩) dJ19_clear_16 (fun S16 h16 => ?_)
        refine J.pu (fun _ _ _ _ k => W.rload_n X.1.1 X.1.2.1 dJ19_clear_19 rfl (lv_at hl 2 rfl) k) ?_
        refine J.pu (fun _ _ _ _ k => lv_null X.1.1 X.1.2.1 dJ19_clear_20 k) ?_
        refine J.putR (k := 1) (ci := 17) X in_J17 (show jCl[17]? = some (RJ17, TJ17, 3) from rfl) tyJ17_ok (fun a ha b hb h => Or.inl (nmJ17 a ha b hb h)) (by decide) q668 (fun _ h => h) rfl (Or.inl ⟨_, rfl⟩) dJ19_clear_21 (fun S21 h21 => ?_)
        refine J.pu (fun _ _ _ _ k => W.rload_n X.1.1 X.1.2.1 dJ19_clear_24 rfl (lv_at hl 2 rfl) k) ?_
        refine J.pu (fun _ _ _ _ k => lv_null X.1.1 X.1.2.1 dJ19_clear_25 k) ?_
        refine J.putR (k := 2) (ci := 17) X in_J17 (show jCl[17]? = some (RJ17, TJ17, 3) from rfl) tyJ17_ok (fun a ha b hb h => Or.inl (nmJ17 a ha b hb h)) (by decide) q670 (fun _ h => h) rfl (Or.inl ⟨_, rfl⟩) dJ19_clear_26 (fun S26 h26 => ?_)
        refine J.pu (fun _ _ _ _ k => W.rload_n X.1.1 X.1.2.1 dJ19_clear_29 rfl (lv_at hl 0 rfl) k) ?_
        refine J.astore_n (r := v10) (i := 1) (lv' := [(1, va_rf v10), (2, va_rf v10), (0, .ref this)]) X.1.1 X.1.2.1 dJ19_clear_30 rfl hl (by decide) (by first | rfl | simp [va_rf_cat, jcI, jcA, jcJ, jcD, jcF]) (fun ls hl => ?_)
        refine J.pu (fun _ _ _ _ k => lv_goto (tgt := 5) X.1.1 X.1.2.1 dJ19_clear_31 (by decide) k) ?_
        exact ih5 v10 S26 ls (lv_sub hl [2, 0] rfl)
  unfold f_J19_clear_b
  refine J.pu (fun _ _ _ _ k => lv_aload_n X.1.1 X.1.2.1 dJ19_clear_0 rfl (lv_at hl 0 rfl) k) ?_
  refine J.getR (k := 2) (ci := 16) X in_J19 (show jCl[16]? = some (RJ19, TJ19, 4) from rfl) (by decide) q745 (fun _ h => h) dJ19_clear_1 (fun v1 h1 => ?_)
  refine J.astore_n (r := v1) (i := 1) (lv' := [(1, va_rf v1), (0, .ref this)]) X.1.1 X.1.2.1 dJ19_clear_4 rfl hl (by decide) (by first | rfl | simp [va_rf_cat, jcI, jcA, jcJ, jcD, jcF]) (fun ls hl => ?_)
  exact L5 n v1 σ ls (lv_sub hl [1, 0] rfl)
noncomputable def f_J19_isPositionIndex (G : jG) (n : Nat) (σ : jH) (this : Nat) (a1 : Int32) : Option (Int32) :=
  if a1 < 0 then (some 0) else ((gI σ (some this) 16 1).bind fun v6 => if v6 < a1 then (some 0) else (some 1))
set_option maxHeartbeats 4000000 in
set_option maxRecDepth 100000 in
theorem ct_f_J19_isPositionIndex (l : Launch) (G : jG) (n : Nat) (σ : jH) (this : Nat) (a1 : Int32) : jCt l G yJ19_isPositionIndex (ws_ yJ19_isPositionIndex cJ19_isPositionIndex 2 (some .boolean)) 0 0 jrI [.ref this, .int a1] σ (jrd σ (f_J19_isPositionIndex G n σ this a1)) := by
  refine jCt.rd (lv := [(0, .ref this), (1, .int a1)]) (plainFor_of_name (by decide)) (Nat.le_of_ble_eq_true rfl) rfl ?_
  intro t p e s m args below meth c ls X hr hnm hl
  have X : jCx p c cJ19_isPositionIndex 2 s m args RJ19 G meth := X
  unfold f_J19_isPositionIndex
  refine J.pu (fun _ _ _ _ k => lv_iload_n X.1.1 X.1.2.1 dJ19_isPositionIndex_0 rfl (lv_at hl 1 rfl) k) ?_
  refine J.br (fun _ _ _ _ ka kb => lv_if_lt (tgt := 16) X.1.1 X.1.2.1 dJ19_isPositionIndex_1 (by decide) ka kb) (fun c1 => ?_) (fun c1 => ?_)
  · refine J.pu (fun _ _ _ _ k => lv_iconst (v := 0) X.1.1 X.1.2.1 dJ19_isPositionIndex_16 (by decide) k) ?_
    exact J.zret (vr := jrI) (fin := fun _ : Int32 => σ) (t := t) X hr (by decide) (by rfl) (by rfl) dJ19_isPositionIndex_17
  · refine J.pu (fun _ _ _ _ k => lv_iload_n X.1.1 X.1.2.1 dJ19_isPositionIndex_4 rfl (lv_at hl 1 rfl) k) ?_
    refine J.pu (fun _ _ _ _ k => lv_aload_n X.1.1 X.1.2.1 dJ19_isPositionIndex_5 rfl (lv_at hl 0 rfl) k) ?_
    refine J.getI (k := 1) (ci := 16) X in_J19 (show jCl[16]? = some (RJ19, TJ19, 4) from rfl) (by decide) q743 (fun _ h => h) dJ19_isPositionIndex_6 (fun v6 h6 => ?_)
    refine J.br (fun _ _ _ _ ka kb => lv_icmp_gt (tgt := 16) X.1.1 X.1.2.1 dJ19_isPositionIndex_9 (by decide) ka kb) (fun c9 => ?_) (fun c9 => ?_)
    · refine J.pu (fun _ _ _ _ k => lv_iconst (v := 0) X.1.1 X.1.2.1 dJ19_isPositionIndex_16 (by decide) k) ?_
      exact J.zret (vr := jrI) (fin := fun _ : Int32 => σ) (t := t) X hr (by decide) (by rfl) (by rfl) dJ19_isPositionIndex_17
    · refine J.pu (fun _ _ _ _ k => lv_iconst (v := 1) X.1.1 X.1.2.1 dJ19_isPositionIndex_12 (by decide) k) ?_
      refine J.pu (fun _ _ _ _ k => lv_goto (tgt := 17) X.1.1 X.1.2.1 dJ19_isPositionIndex_13 (by decide) k) ?_
      exact J.zret (vr := jrI) (fin := fun _ : Int32 => σ) (t := t) X hr (by decide) (by rfl) (by rfl) dJ19_isPositionIndex_17
noncomputable def f_J2_init_b (G : jG) (n : Nat) (σ : jH) (this : Nat) (a1 : Int32) : Option (Unit × jH) :=
  bd (f_J1_init_J2 G n σ this) fun v1 S1 => if a1 ≤ 0 then (if a1 = 0 then ((pR G S1 (some this) 15 1 (G.2.2.2 105)).bind fun S27 => some ((), S27)) else (none)) else (bd (nR S1 a1) fun v10 S10 => (pR G S10 (some this) 15 1 (some v10)).bind fun S13 => some ((), S13))
noncomputable def f_J2_init (G : jG) (n : Nat) (σ : jH) (this : Nat) (a1 : Int32) : Option (Unit × jH) := jck σ (f_J2_init_b G n σ this a1)
set_option maxHeartbeats 4000000 in
set_option maxRecDepth 100000 in
theorem ct_f_J2_init (l : Launch) (G : jG) (n : Nat) (σ : jH) (this : Nat) (a1 : Int32) : jCt l G yJ2_init (ws_ yJ2_init cJ2_init 2 none) 3 70 jrV [.ref this, .int a1] σ (f_J2_init G n σ this a1) := by
  refine jCt.wr (lv := [(0, .ref this), (1, .int a1)]) (plainFor_of_name (by decide)) (Nat.le_of_ble_eq_true rfl) rfl ?_
  intro t p e s m args below meth c ls X hr hnm hl
  have X : jCx p c cJ2_init 2 s m args RJ2 G meth := X
  unfold f_J2_init_b
  refine J.pu (fun _ _ _ _ k => lv_aload_n X.1.1 X.1.2.1 dJ2_init_0 rfl (lv_at hl 0 rfl) k) ?_
  refine J.bd' (fun v1 S1 h1 => ?_)
  refine J.cI (a := this) (As := []) (rest := []) (s2 := []) X ⟨rfl, rfl⟩ (ct_f_J1_init_J2 l G n σ this) h1 (fun _ _ => jcwI 0 X.1.2.2.2.2 q215 q216 q141 q217 rfl rfl rfl (by decide +kernel) ⟨(Nat.le_of_ble_eq_true rfl), (Nat.le_of_ble_eq_true rfl)⟩) rfl hl.1 rfl rfl (Nat.le_of_ble_eq_true rfl) dJ2_init_1 ?_
  refine J.pu (fun _ _ _ _ k => lv_iload_n X.1.1 X.1.2.1 dJ2_init_4 rfl (lv_at hl 1 rfl) k) ?_
  refine J.br (fun _ _ _ _ ka kb => lv_if_le (tgt := 19) X.1.1 X.1.2.1 dJ2_init_5 (by decide) ka kb) (fun c5 => ?_) (fun c5 => ?_)
  · refine J.pu (fun _ _ _ _ k => lv_iload_n X.1.1 X.1.2.1 dJ2_init_19 rfl (lv_at hl 1 rfl) k) ?_
    refine J.br (fun _ _ _ _ ka kb => lv_if_ne (tgt := 33) X.1.1 X.1.2.1 dJ2_init_20 (by decide) kb ka) (fun c20 => ?_) (fun c20 => ?_)
    · refine J.pu (fun _ _ _ _ k => lv_aload_n X.1.1 X.1.2.1 dJ2_init_23 rfl (lv_at hl 0 rfl) k) ?_
      refine J.getsR (i := 105) X (List.mem_of_getElem? (i := 5) rfl) q224 (fun _ h => h) dJ2_init_24 ?_
      refine J.putR (k := 1) (ci := 15) X in_J2 (show jCl[15]? = some (RJ2, TJ2, 3) from rfl) tyJ2_ok (fun a ha b hb h => Or.inl (nmJ2 a ha b hb h)) (by decide) q546 (fun _ h => h) rfl (Or.inr ⟨_, rfl⟩) dJ2_init_27 (fun S27 h27 => ?_)
      refine J.pu (fun _ _ _ _ k => lv_goto (tgt := 60) X.1.1 X.1.2.1 dJ2_init_30 (by decide) k) ?_
      exact J.vret (vr := fun t : Unit × jH => jrV t.1) (fin := Prod.snd) (t := t) X hr (by rfl) (by rfl) dJ2_init_60
    · exact J.nil_
  · refine J.pu (fun _ _ _ _ k => lv_aload_n X.1.1 X.1.2.1 dJ2_init_8 rfl (lv_at hl 0 rfl) k) ?_
    refine J.pu (fun _ _ _ _ k => lv_iload_n X.1.1 X.1.2.1 dJ2_init_9 rfl (lv_at hl 1 rfl) k) ?_
    refine J.nR' X ⟨rfl, rfl⟩ q222 dJ2_init_10 (fun v10 S10 h10 => ?_)
    refine J.putR (k := 1) (ci := 15) X in_J2 (show jCl[15]? = some (RJ2, TJ2, 3) from rfl) tyJ2_ok (fun a ha b hb h => Or.inl (nmJ2 a ha b hb h)) (by decide) q546 (fun _ h => h) rfl (Or.inr ⟨_, rfl⟩) dJ2_init_13 (fun S13 h13 => ?_)
    refine J.pu (fun _ _ _ _ k => lv_goto (tgt := 60) X.1.1 X.1.2.1 dJ2_init_16 (by decide) k) ?_
    exact J.vret (vr := fun t : Unit × jH => jrV t.1) (fin := Prod.snd) (t := t) X hr (by rfl) (by rfl) dJ2_init_60
noncomputable def f_J2_init_2_b (G : jG) (n : Nat) (σ : jH) (this : Nat) : Option (Unit × jH) :=
  bd (f_J1_init_J2 G n σ this) fun v1 S1 => (pR G S1 (some this) 15 1 (G.2.2.2 104)).bind fun S8 => some ((), S8)
noncomputable def f_J2_init_2 (G : jG) (n : Nat) (σ : jH) (this : Nat) : Option (Unit × jH) := jck σ (f_J2_init_2_b G n σ this)
set_option maxHeartbeats 4000000 in
set_option maxRecDepth 100000 in
theorem ct_f_J2_init_2 (l : Launch) (G : jG) (n : Nat) (σ : jH) (this : Nat) : jCt l G yJ2_init_2 (ws_ yJ2_init_2 cJ2_init_2 1 none) 3 70 jrV [.ref this] σ (f_J2_init_2 G n σ this) := by
  refine jCt.wr (lv := [(0, .ref this)]) (plainFor_of_name (by decide)) (Nat.le_of_ble_eq_true rfl) rfl ?_
  intro t p e s m args below meth c ls X hr hnm hl
  have X : jCx p c cJ2_init_2 1 s m args RJ2 G meth := X
  unfold f_J2_init_2_b
  refine J.pu (fun _ _ _ _ k => lv_aload_n X.1.1 X.1.2.1 dJ2_init_2_0 rfl (lv_at hl 0 rfl) k) ?_
  refine J.bd' (fun v1 S1 h1 => ?_)
  refine J.cI (a := this) (As := []) (rest := []) (s2 := []) X ⟨rfl, rfl⟩ (ct_f_J1_init_J2 l G n σ this) h1 (fun _ _ => jcwI 0 X.1.2.2.2.2 q215 q216 q141 q217 rfl rfl rfl (by decide +kernel) ⟨(Nat.le_of_ble_eq_true rfl), (Nat.le_of_ble_eq_true rfl)⟩) rfl hl.1 rfl rfl (Nat.le_of_ble_eq_true rfl) dJ2_init_2_1 ?_
  refine J.pu (fun _ _ _ _ k => lv_aload_n X.1.1 X.1.2.1 dJ2_init_2_4 rfl (lv_at hl 0 rfl) k) ?_
  refine J.getsR (i := 104) X (List.mem_of_getElem? (i := 4) rfl) q575 (fun _ h => h) dJ2_init_2_5 ?_
  refine J.putR (k := 1) (ci := 15) X in_J2 (show jCl[15]? = some (RJ2, TJ2, 3) from rfl) tyJ2_ok (fun a ha b hb h => Or.inl (nmJ2 a ha b hb h)) (by decide) q546 (fun _ h => h) rfl (Or.inr ⟨_, rfl⟩) dJ2_init_2_8 (fun S8 h8 => ?_)
  exact J.vret (vr := fun t : Unit × jH => jrV t.1) (fin := Prod.snd) (t := t) X hr (by rfl) (by rfl) dJ2_init_2_11
noncomputable def f_J2_size (G : jG) (n : Nat) (σ : jH) (this : Nat) : Option (Int32) :=
  (gI σ (some this) 15 2).bind fun v1 => some v1
set_option maxHeartbeats 4000000 in
set_option maxRecDepth 100000 in
theorem ct_f_J2_size (l : Launch) (G : jG) (n : Nat) (σ : jH) (this : Nat) : jCt l G yJ2_size (ws_ yJ2_size cJ2_size 1 (some .int)) 0 0 jrI [.ref this] σ (jrd σ (f_J2_size G n σ this)) := by
  refine jCt.rd (lv := [(0, .ref this)]) (plainFor_of_name (by decide)) (Nat.le_of_ble_eq_true rfl) rfl ?_
  intro t p e s m args below meth c ls X hr hnm hl
  have X : jCx p c cJ2_size 1 s m args RJ2 G meth := X
  unfold f_J2_size
  refine J.pu (fun _ _ _ _ k => lv_aload_n X.1.1 X.1.2.1 dJ2_size_0 rfl (lv_at hl 0 rfl) k) ?_
  refine J.getI (k := 2) (ci := 15) X in_J2 (show jCl[15]? = some (RJ2, TJ2, 3) from rfl) (by decide) q549 (fun _ h => h) dJ2_size_1 (fun v1 h1 => ?_)
  exact J.iret (vr := jrI) (fin := fun _ : Int32 => σ) (t := t) X hr (by rfl) (by rfl) dJ2_size_4
noncomputable def f_J2_elementData (G : jG) (n : Nat) (σ : jH) (this : Nat) (a1 : Int32) : Option (Option Nat) :=
  (gR σ (some this) 15 1).bind fun v1 => (aR σ v1 a1).bind fun v5 => some v5
set_option maxHeartbeats 4000000 in
set_option maxRecDepth 100000 in
theorem ct_f_J2_elementData (l : Launch) (G : jG) (n : Nat) (σ : jH) (this : Nat) (a1 : Int32) : jCt l G yJ2_elementData (ws_ yJ2_elementData cJ2_elementData 2 (some (.object "java/lang/Object"))) 0 0 jrR [.ref this, .int a1] σ (jrd σ (f_J2_elementData G n σ this a1)) := by
  refine jCt.rd (lv := [(0, .ref this), (1, .int a1)]) (plainFor_of_name (by decide)) (Nat.le_of_ble_eq_true rfl) rfl ?_
  intro t p e s m args below meth c ls X hr hnm hl
  have X : jCx p c cJ2_elementData 2 s m args RJ2 G meth := X
  unfold f_J2_elementData
  refine J.pu (fun _ _ _ _ k => lv_aload_n X.1.1 X.1.2.1 dJ2_elementData_0 rfl (lv_at hl 0 rfl) k) ?_
  refine J.getR (k := 1) (ci := 15) X in_J2 (show jCl[15]? = some (RJ2, TJ2, 3) from rfl) (by decide) q546 (fun _ h => h) dJ2_elementData_1 (fun v1 h1 => ?_)
  refine J.pu (fun _ _ _ _ k => lv_iload_n X.1.1 X.1.2.1 dJ2_elementData_4 rfl (lv_at hl 1 rfl) k) ?_
  refine J.aR' X dJ2_elementData_5 (fun v5 h5 => ?_)
  exact J.aret (vr := jrR) (fin := fun _ : Option Nat => σ) (t := t) X hr (Or.inl ⟨_, rfl⟩) (by rfl) (by rfl) dJ2_elementData_6
noncomputable def f_J2_fastRemove_j34 (G : jG) (n : Nat) (this : Nat) (a1 : Option Nat) (a2 : Int32) (x3_34 : Int32) (B34 : jH) : Option (Unit × jH) :=
  (pI G B34 (some this) 15 2 x3_34).bind fun S38 => (sR G S38 a1 x3_34 none).bind fun S42 => some ((), S42)
noncomputable def f_J2_fastRemove_b (G : jG) (n : Nat) (σ : jH) (this : Nat) (a1 : Option Nat) (a2 : Int32) : Option (Unit × jH) :=
  (gI σ (some this) 15 0).bind fun v2 => (pI G σ (some this) 15 0 (v2 + 1)).bind fun S7 => (gI S7 (some this) 15 2).bind fun v11 => if (v11 - 1) ≤ a2 then (f_J2_fastRemove_j34 G n this a1 a2 (v11 - 1) S7) else ((acR G S7 a1 (a2 + 1) a1 a2 ((v11 - 1) - a2)).bind fun S31 => f_J2_fastRemove_j34 G n this a1 a2 (v11 - 1) S31)
noncomputable def f_J2_fastRemove (G : jG) (n : Nat) (σ : jH) (this : Nat) (a1 : Option Nat) (a2 : Int32) : Option (Unit × jH) := jck σ (f_J2_fastRemove_b G n σ this a1 a2)
set_option maxHeartbeats 4000000 in
set_option maxRecDepth 100000 in
theorem ct_f_J2_fastRemove (l : Launch) (G : jG) (n : Nat) (σ : jH) (this : Nat) (a1 : Option Nat) (a2 : Int32) : jCt l G yJ2_fastRemove (ws_ yJ2_fastRemove cJ2_fastRemove 4 none) 1 400 jrV [.ref this, va_rf a1, .int a2] σ (f_J2_fastRemove G n σ this a1 a2) := by
  refine jCt.wr (lv := [(0, .ref this), (1, va_rf a1), (2, .int a2)]) (plainFor_of_name (by decide)) (by simp [lg_sl, va_rf_cat, jcI, jcA, jcJ, jcD, jcF]) (by simp [lv_args, va_rf_cat, jcI, jcA, jcJ, jcD, jcF]) ?_
  intro t p e s m args below meth c ls X hr hnm hl
  have X : jCx p c cJ2_fastRemove 4 s m args RJ2 G meth := X
  have j34 : ∀ (x3_34 : Int32) (B34 : jH) (ls : Array Slot), lv_has ls 4 [(0, .ref this), (1, va_rf a1), (3, .int x3_34)] → jGo l G 1 400 σ (Prod.snd : Unit × jH → jH) (fun t => jrV t.1) t p e s m args below meth c (f_J2_fastRemove_j34 G n this a1 a2 x3_34 B34) B34 (F0 m 34 ls []) := by
    intro x3_34 B34 ls hl
    unfold f_J2_fastRemove_j34
    refine J.pu (fun _ _ _ _ k => W.rload_n X.1.1 X.1.2.1 dJ2_fastRemove_34 rfl (lv_at hl 1 rfl) k) ?_
    refine J.pu (fun _ _ _ _ k => lv_aload_n X.1.1 X.1.2.1 dJ2_fastRemove_35 rfl (lv_at hl 0 rfl) k) ?_
    refine J.pu (fun _ _ _ _ k => lv_iload_n X.1.1 X.1.2.1 dJ2_fastRemove_36 rfl (lv_at hl 2 rfl) k) ?_
    refine J.pu (fun _ _ _ _ k => lv_dup_x1 X.1.1 X.1.2.1 dJ2_fastRemove_37 rfl rfl k) ?_
    refine J.putI (k := 2) (ci := 15) X in_J2 (show jCl[15]? = some (RJ2, TJ2, 3) from rfl) tyJ2_ok (fun a ha b hb h => Or.inl (nmJ2 a ha b hb h)) (by decide) q549 (fun _ h => h) rfl rfl dJ2_fastRemove_38 (fun S38 h38 => ?_)
    refine J.pu (fun _ _ _ _ k => lv_null X.1.1 X.1.2.1 dJ2_fastRemove_41 k) ?_
    refine J.sR' X dJ2_fastRemove_42 (fun S42 h42 => ?_)
    exact J.vret (vr := fun t : Unit × jH => jrV t.1) (fin := Prod.snd) (t := t) X hr (by rfl) (by rfl) dJ2_fastRemove_43
  unfold f_J2_fastRemove_b
  refine J.pu (fun _ _ _ _ k => lv_aload_n X.1.1 X.1.2.1 dJ2_fastRemove_0 rfl (lv_at hl 0 rfl) k) ?_
  refine J.pu (fun _ _ _ _ k => lv_dup X.1.1 X.1.2.1 dJ2_fastRemove_1 rfl k) ?_
  refine J.getI (k := 0) (ci := 15) X in_J2 (show jCl[15]? = some (RJ2, TJ2, 3) from rfl) (by decide) q557 (fun x h => u_same (X.1.2.2.2.2 _ q554) x h) dJ2_fastRemove_2 (fun v2 h2 => ?_)
  refine J.pu (fun _ _ _ _ k => lv_iconst (v := 1) X.1.1 X.1.2.1 dJ2_fastRemove_5 (by decide) k) ?_
  refine J.pu (fun _ _ _ _ k => lv_iadd X.1.1 X.1.2.1 dJ2_fastRemove_6 k) ?_
  refine J.putI (k := 0) (ci := 15) X in_J2 (show jCl[15]? = some (RJ2, TJ2, 3) from rfl) tyJ2_ok (fun a ha b hb h => Or.inl (nmJ2 a ha b hb h)) (by decide) q557 (fun x h => u_same (X.1.2.2.2.2 _ q554) x h) rfl rfl dJ2_fastRemove_7 (fun S7 h7 => ?_)
  refine J.pu (fun _ _ _ _ k => lv_aload_n X.1.1 X.1.2.1 dJ2_fastRemove_10 rfl (lv_at hl 0 rfl) k) ?_
  refine J.getI (k := 2) (ci := 15) X in_J2 (show jCl[15]? = some (RJ2, TJ2, 3) from rfl) (by decide) q549 (fun _ h => h) dJ2_fastRemove_11 (fun v11 h11 => ?_)
  refine J.pu (fun _ _ _ _ k => lv_iconst (v := 1) X.1.1 X.1.2.1 dJ2_fastRemove_14 (by decide) k) ?_
  refine J.pu (fun _ _ _ _ k => lv_isub X.1.1 X.1.2.1 dJ2_fastRemove_15 k) ?_
  refine J.pu (fun _ _ _ _ k => lv_dup X.1.1 X.1.2.1 dJ2_fastRemove_16 rfl k) ?_
  refine J.istore_n (i := 3) (lv' := [(3, .int (v11 - 1)), (0, .ref this), (1, va_rf a1), (2, .int a2)]) X.1.1 X.1.2.1 dJ2_fastRemove_17 rfl hl (by decide) (by first | rfl | simp [va_rf_cat, jcI, jcA, jcJ, jcD, jcF]) (fun ls hl => ?_)
  refine J.pu (fun _ _ _ _ k => lv_iload_n X.1.1 X.1.2.1 dJ2_fastRemove_18 rfl (lv_at hl 3 rfl) k) ?_
  refine J.br (fun _ _ _ _ ka kb => lv_icmp_le (tgt := 34) X.1.1 X.1.2.1 dJ2_fastRemove_19 (by decide) ka kb) (fun c19 => ?_) (fun c19 => ?_)
  · exact j34 (v11 - 1) S7 ls (lv_sub hl [1, 2, 0] rfl)
  · refine J.pu (fun _ _ _ _ k => W.rload_n X.1.1 X.1.2.1 dJ2_fastRemove_22 rfl (lv_at hl 2 rfl) k) ?_
    refine J.pu (fun _ _ _ _ k => lv_iload_n X.1.1 X.1.2.1 dJ2_fastRemove_23 rfl (lv_at hl 3 rfl) k) ?_
    refine J.pu (fun _ _ _ _ k => lv_iconst (v := 1) X.1.1 X.1.2.1 dJ2_fastRemove_24 (by decide) k) ?_
    refine J.pu (fun _ _ _ _ k => lv_iadd X.1.1 X.1.2.1 dJ2_fastRemove_25 k) ?_
    refine J.pu (fun _ _ _ _ k => W.rload_n X.1.1 X.1.2.1 dJ2_fastRemove_26 rfl (lv_at hl 2 rfl) k) ?_
    refine J.pu (fun _ _ _ _ k => lv_iload_n X.1.1 X.1.2.1 dJ2_fastRemove_27 rfl (lv_at hl 3 rfl) k) ?_
    refine J.pu (fun _ _ _ _ k => lv_iload_n X.1.1 X.1.2.1 dJ2_fastRemove_28 rfl (lv_at hl 0 rfl) k) ?_
    refine J.pu (fun _ _ _ _ k => lv_iload_n X.1.1 X.1.2.1 dJ2_fastRemove_29 rfl (lv_at hl 3 rfl) k) ?_
    refine J.pu (fun _ _ _ _ k => lv_isub X.1.1 X.1.2.1 dJ2_fastRemove_30 k) ?_
    refine J.acR (rest := []) X q932 hl.1 (Nat.le_of_ble_eq_true rfl) (Nat.le_trans (m := 400) (show 0 + (nativeFrameWords "java/lang/System" "arraycopy" 5 + 11) ≤ 400 by decide +kernel) (Nat.le_of_ble_eq_true rfl)) dJ2_fastRemove_31 (fun S31 h31 => ?_)
    exact j34 (v11 - 1) S31 ls (lv_sub hl [1, 2, 0] rfl)
noncomputable def f_J2_rangeCheckForAdd (G : jG) (n : Nat) (σ : jH) (this : Nat) (a1 : Int32) : Option (Unit) :=
  (gI σ (some this) 15 2).bind fun v2 => if v2 < a1 then (none) else (if 0 ≤ a1 then (some ()) else (none))
set_option maxHeartbeats 4000000 in
set_option maxRecDepth 100000 in
theorem ct_f_J2_rangeCheckForAdd (l : Launch) (G : jG) (n : Nat) (σ : jH) (this : Nat) (a1 : Int32) : jCt l G yJ2_rangeCheckForAdd (ws_ yJ2_rangeCheckForAdd cJ2_rangeCheckForAdd 2 none) 0 0 jrV [.ref this, .int a1] σ (jrd σ (f_J2_rangeCheckForAdd G n σ this a1)) := by
  refine jCt.rd (lv := [(0, .ref this), (1, .int a1)]) (plainFor_of_name (by decide)) (Nat.le_of_ble_eq_true rfl) rfl ?_
  intro t p e s m args below meth c ls X hr hnm hl
  have X : jCx p c cJ2_rangeCheckForAdd 2 s m args RJ2 G meth := X
  unfold f_J2_rangeCheckForAdd
  refine J.pu (fun _ _ _ _ k => lv_iload_n X.1.1 X.1.2.1 dJ2_rangeCheckForAdd_0 rfl (lv_at hl 1 rfl) k) ?_
  refine J.pu (fun _ _ _ _ k => lv_aload_n X.1.1 X.1.2.1 dJ2_rangeCheckForAdd_1 rfl (lv_at hl 0 rfl) k) ?_
  refine J.getI (k := 2) (ci := 15) X in_J2 (show jCl[15]? = some (RJ2, TJ2, 3) from rfl) (by decide) q549 (fun _ h => h) dJ2_rangeCheckForAdd_2 (fun v2 h2 => ?_)
  refine J.br (fun _ _ _ _ ka kb => lv_icmp_gt (tgt := 12) X.1.1 X.1.2.1 dJ2_rangeCheckForAdd_5 (by decide) ka kb) (fun c5 => ?_) (fun c5 => ?_)
  · exact J.nil_
  · refine J.pu (fun _ _ _ _ k => lv_iload_n X.1.1 X.1.2.1 dJ2_rangeCheckForAdd_8 rfl (lv_at hl 1 rfl) k) ?_
    refine J.br (fun _ _ _ _ ka kb => lv_if_ge (tgt := 25) X.1.1 X.1.2.1 dJ2_rangeCheckForAdd_9 (by decide) ka kb) (fun c9 => ?_) (fun c9 => ?_)
    · exact J.vret (vr := jrV) (fin := fun _ : Unit => σ) (t := t) X hr (by rfl) (by rfl) dJ2_rangeCheckForAdd_25
    · exact J.nil_
noncomputable def f_J2_isEmpty (G : jG) (n : Nat) (σ : jH) (this : Nat) : Option (Int32) :=
  (gI σ (some this) 15 2).bind fun v1 => if v1 = 0 then (some 1) else (some 0)
set_option maxHeartbeats 4000000 in
set_option maxRecDepth 100000 in
theorem ct_f_J2_isEmpty (l : Launch) (G : jG) (n : Nat) (σ : jH) (this : Nat) : jCt l G yJ2_isEmpty (ws_ yJ2_isEmpty cJ2_isEmpty 1 (some .boolean)) 0 0 jrI [.ref this] σ (jrd σ (f_J2_isEmpty G n σ this)) := by
  refine jCt.rd (lv := [(0, .ref this)]) (plainFor_of_name (by decide)) (Nat.le_of_ble_eq_true rfl) rfl ?_
  intro t p e s m args below meth c ls X hr hnm hl
  have X : jCx p c cJ2_isEmpty 1 s m args RJ2 G meth := X
  unfold f_J2_isEmpty
  refine J.pu (fun _ _ _ _ k => lv_aload_n X.1.1 X.1.2.1 dJ2_isEmpty_0 rfl (lv_at hl 0 rfl) k) ?_
  refine J.getI (k := 2) (ci := 15) X in_J2 (show jCl[15]? = some (RJ2, TJ2, 3) from rfl) (by decide) q549 (fun _ h => h) dJ2_isEmpty_1 (fun v1 h1 => ?_)
  refine J.br (fun _ _ _ _ ka kb => lv_if_ne (tgt := 11) X.1.1 X.1.2.1 dJ2_isEmpty_4 (by decide) kb ka) (fun c4 => ?_) (fun c4 => ?_)
  · refine J.pu (fun _ _ _ _ k => lv_iconst (v := 1) X.1.1 X.1.2.1 dJ2_isEmpty_7 (by decide) k) ?_
    refine J.pu (fun _ _ _ _ k => lv_goto (tgt := 12) X.1.1 X.1.2.1 dJ2_isEmpty_8 (by decide) k) ?_
    exact J.zret (vr := jrI) (fin := fun _ : Int32 => σ) (t := t) X hr (by decide) (by rfl) (by rfl) dJ2_isEmpty_12
  · refine J.pu (fun _ _ _ _ k => lv_iconst (v := 0) X.1.1 X.1.2.1 dJ2_isEmpty_11 (by decide) k) ?_
    exact J.zret (vr := jrI) (fin := fun _ : Int32 => σ) (t := t) X hr (by decide) (by rfl) (by rfl) dJ2_isEmpty_12
noncomputable def f_J20_init_b (G : jG) (n : Nat) (σ : jH) (this : Nat) : Option (Unit × jH) :=
  (f_J0_init_J20 G n σ this).bind fun v1 => bd (nR σ 17) fun v7 S7 => (pR G S7 (some this) 18 0 (some v7)).bind fun S10 => some ((), S10)
noncomputable def f_J20_init (G : jG) (n : Nat) (σ : jH) (this : Nat) : Option (Unit × jH) := jck σ (f_J20_init_b G n σ this)
set_option maxHeartbeats 4000000 in
set_option maxRecDepth 100000 in
theorem ct_f_J20_init (l : Launch) (G : jG) (n : Nat) (σ : jH) (this : Nat) : jCt l G yJ20_init (ws_ yJ20_init cJ20_init 1 none) 2 50 jrV [.ref this] σ (f_J20_init G n σ this) := by
  refine jCt.wr (lv := [(0, .ref this)]) (plainFor_of_name (by decide)) (Nat.le_of_ble_eq_true rfl) rfl ?_
  intro t p e s m args below meth c ls X hr hnm hl
  have X : jCx p c cJ20_init 1 s m args RJ20 G meth := X
  unfold f_J20_init_b
  refine J.pu (fun _ _ _ _ k => lv_aload_n X.1.1 X.1.2.1 dJ20_init_0 rfl (lv_at hl 0 rfl) k) ?_
  refine J.bind (fun v1 h1 => ?_)
  refine J.cI (a := this) (As := []) (rest := []) (s2 := []) X ⟨rfl, rfl⟩ (ct_f_J0_init_J20 l G n σ this) (jrd_of h1) (fun _ _ => jcwI 0 X.1.2.2.2.2 q808 q219 q140 q220 rfl rfl rfl (by decide +kernel) ⟨(Nat.le_of_ble_eq_true rfl), (Nat.le_of_ble_eq_true rfl)⟩) rfl hl.1 rfl rfl (Nat.le_of_ble_eq_true rfl) dJ20_init_1 ?_
  refine J.pu (fun _ _ _ _ k => lv_aload_n X.1.1 X.1.2.1 dJ20_init_4 rfl (lv_at hl 0 rfl) k) ?_
  refine J.pu (fun _ _ _ _ k => lv_bipush (v := 17) X.1.1 X.1.2.1 dJ20_init_5 (by decide) k) ?_
  refine J.nR' X ⟨rfl, rfl⟩ q809 dJ20_init_7 (fun v7 S7 h7 => ?_)
  refine J.putR (k := 0) (ci := 18) X in_J20 (show jCl[18]? = some (RJ20, TJ20, 3) from rfl) tyJ20_ok (fun a ha b hb h => Or.inl (nmJ20 a ha b hb h)) (by decide) q810 (fun _ h => h) rfl (Or.inr ⟨_, rfl⟩) dJ20_init_10 (fun S10 h10 => ?_)
  exact J.vret (vr := fun t : Unit × jH => jrV t.1) (fin := Prod.snd) (t := t) X hr (by rfl) (by rfl) dJ20_init_13
noncomputable def f_J20_sub (G : jG) (n : Nat) (σ : jH) (a0 : Int32) (a1 : Int32) (a2 : Int32) : Option (Int32) :=
  if 0 ≤ (a0 - a1) then (some (a0 - a1)) else (some ((a0 - a1) + a2))
set_option maxHeartbeats 4000000 in
set_option maxRecDepth 100000 in
theorem ct_f_J20_sub (l : Launch) (G : jG) (n : Nat) (σ : jH) (a0 : Int32) (a1 : Int32) (a2 : Int32) : jCt l G yJ20_sub (ws_ yJ20_sub cJ20_sub 3 (some .int)) 0 0 jrI [.int a0, .int a1, .int a2] σ (jrd σ (f_J20_sub G n σ a0 a1 a2)) := by
  refine jCt.rd (lv := [(0, .int a0), (1, .int a1), (2, .int a2)]) (plainFor_of_name (by decide)) (Nat.le_of_ble_eq_true rfl) rfl ?_
  intro t p e s m args below meth c ls X hr hnm hl
  have X : jCx p c cJ20_sub 3 s m args RJ20 G meth := X
  unfold f_J20_sub
  refine J.pu (fun _ _ _ _ k => lv_iload_n X.1.1 X.1.2.1 dJ20_sub_0 rfl (lv_at hl 0 rfl) k) ?_
  refine J.pu (fun _ _ _ _ k => lv_iload_n X.1.1 X.1.2.1 dJ20_sub_1 rfl (lv_at hl 1 rfl) k) ?_
  refine J.pu (fun _ _ _ _ k => lv_isub X.1.1 X.1.2.1 dJ20_sub_2 k) ?_
  refine J.pu (fun _ _ _ _ k => lv_dup X.1.1 X.1.2.1 dJ20_sub_3 rfl k) ?_
  refine J.istore_n (i := 0) (lv' := [(0, .int (a0 - a1)), (1, .int a1), (2, .int a2)]) X.1.1 X.1.2.1 dJ20_sub_4 rfl hl (by decide) (by first | rfl | simp [va_rf_cat, jcI, jcA, jcJ, jcD, jcF]) (fun ls hl => ?_)
  refine J.br (fun _ _ _ _ ka kb => lv_if_ge (tgt := 12) X.1.1 X.1.2.1 dJ20_sub_5 (by decide) ka kb) (fun c5 => ?_) (fun c5 => ?_)
  · refine J.pu (fun _ _ _ _ k => lv_iload_n X.1.1 X.1.2.1 dJ20_sub_12 rfl (lv_at hl 0 rfl) k) ?_
    exact J.iret (vr := jrI) (fin := fun _ : Int32 => σ) (t := t) X hr (by rfl) (by rfl) dJ20_sub_13
  · refine J.pu (fun _ _ _ _ k => lv_iload_n X.1.1 X.1.2.1 dJ20_sub_8 rfl (lv_at hl 0 rfl) k) ?_
    refine J.pu (fun _ _ _ _ k => lv_iload_n X.1.1 X.1.2.1 dJ20_sub_9 rfl (lv_at hl 2 rfl) k) ?_
    refine J.pu (fun _ _ _ _ k => lv_iadd X.1.1 X.1.2.1 dJ20_sub_10 k) ?_
    refine J.istore_n (i := 0) (lv' := [(0, .int ((a0 - a1) + a2)), (1, .int a1), (2, .int a2)]) X.1.1 X.1.2.1 dJ20_sub_11 rfl hl (by decide) (by first | rfl | simp [va_rf_cat, jcI, jcA, jcJ, jcD, jcF]) (fun ls hl => ?_)
    refine J.pu (fun _ _ _ _ k => lv_iload_n X.1.1 X.1.2.1 dJ20_sub_12 rfl (lv_at hl 0 rfl) k) ?_
    exact J.iret (vr := jrI) (fin := fun _ : Int32 => σ) (t := t) X hr (by rfl) (by rfl) dJ20_sub_13
noncomputable def f_J20_circularClear_h12 (G : jG) (n : Nat) (a0 : Option Nat) (a1 : Int32) (a2 : Int32) (rec12 : Int32 × Int32 × jH → Option (Unit × jH)) (q12 : Int32 × Int32 × jH) : Option (Unit × jH) :=
  let x1_12 := q12.1; let x3_12 := q12.2.1; let B12 := q12.2.2; if x3_12 ≤ x1_12 then (if x3_12 = a2 then (some ((), B12)) else (rec12 (0, a2, B12))) else ((sR G B12 a0 x1_12 none).bind fun S20 => rec12 ((x1_12 + 1), x3_12, S20))
noncomputable def f_J20_circularClear_j11 (G : jG) (n : Nat) (a0 : Option Nat) (a1 : Int32) (a2 : Int32) (x1_11 : Int32) (s0_11 : Int32) (B11 : jH) : Option (Unit × jH) :=
  jloop (f_J20_circularClear_h12 G n a0 a1 a2) n (x1_11, s0_11, B11)
noncomputable def f_J20_circularClear_b (G : jG) (n : Nat) (σ : jH) (a0 : Option Nat) (a1 : Int32) (a2 : Int32) : Option (Unit × jH) :=
  if a2 < a1 then ((aLen' σ a0).bind fun v10 => f_J20_circularClear_j11 G n a0 a1 a2 a1 v10 σ) else (f_J20_circularClear_j11 G n a0 a1 a2 a1 a2 σ)
noncomputable def f_J20_circularClear (G : jG) (n : Nat) (σ : jH) (a0 : Option Nat) (a1 : Int32) (a2 : Int32) : Option (Unit × jH) := jck σ (f_J20_circularClear_b G n σ a0 a1 a2)
set_option maxHeartbeats 4000000 in
set_option maxRecDepth 100000 in
theorem ct_f_J20_circularClear (l : Launch) (G : jG) (n : Nat) (σ : jH) (a0 : Option Nat) (a1 : Int32) (a2 : Int32) : jCt l G yJ20_circularClear (ws_ yJ20_circularClear cJ20_circularClear 4 none) 0 0 jrV [va_rf a0, .int a1, .int a2] σ (f_J20_circularClear G n σ a0 a1 a2) := by
  refine jCt.wr (lv := [(0, va_rf a0), (1, .int a1), (2, .int a2)]) (plainFor_of_name (by decide)) (by simp [lg_sl, va_rf_cat, jcI, jcA, jcJ, jcD, jcF]) (by simp [lv_args, va_rf_cat, jcI, jcA, jcJ, jcD, jcF]) ?_
  intro t p e s m args below meth c ls X hr hnm hl
  have X : jCx p c cJ20_circularClear 4 s m args RJ20 G meth := X
  have L12 : ∀ (n12 : Nat) (x1_12 : Int32) (x3_12 : Int32) (B12 : jH) (ls : Array Slot), lv_has ls 4 [(0, va_rf a0), (2, .int a2), (1, .int x1_12), (3, .int x3_12)] → jGo l G 0 0 σ (Prod.snd : Unit × jH → jH) (fun t => jrV t.1) t p e s m args below meth c (jloop (f_J20_circularClear_h12 G n a0 a1 a2) n12 (x1_12, x3_12, B12)) B12 (F0 m 12 ls []) := by
    intro n12
    induction n12 with
    | zero => intro x1_12 x3_12 B12 ls hl; exact J.nil_
    | succ n12 ih12 =>
      intro x1_12 x3_12 B12 ls hl
      refine J.eq (jloop_s _ _ _) ?_
      dsimp only [f_J20_circularClear_h12]
      refine J.pu (fun _ _ _ _ k => lv_iload_n X.1.1 X.1.2.1 dJ20_circularClear_12 rfl (lv_at hl 2 rfl) k) ?_
      refine J.pu (fun _ _ _ _ k => lv_iload_n X.1.1 X.1.2.1 dJ20_circularClear_13 rfl (lv_at hl 3 rfl) k) ?_
      refine J.br (fun _ _ _ _ ka kb => lv_icmp_ge (tgt := 27) X.1.1 X.1.2.1 dJ20_circularClear_14 (by decide) ka kb) (fun c14 => ?_) (fun c14 => ?_)
      · refine J.pu (fun _ _ _ _ k => lv_iload_n X.1.1 X.1.2.1 dJ20_circularClear_27 rfl (lv_at hl 3 rfl) k) ?_
        refine J.pu (fun _ _ _ _ k => lv_iload_n X.1.1 X.1.2.1 dJ20_circularClear_28 rfl (lv_at hl 1 rfl) k) ?_
        refine J.br (fun _ _ _ _ ka kb => lv_icmp_ne (tgt := 35) X.1.1 X.1.2.1 dJ20_circularClear_29 (by decide) kb ka) (fun c29 => ?_) (fun c29 => ?_)
        · refine J.pu (fun _ _ _ _ k => lv_goto (tgt := 42) X.1.1 X.1.2.1 dJ20_circularClear_32 (by decide) k) ?_
          exact J.vret (vr := fun t : Unit × jH => jrV t.1) (fin := Prod.snd) (t := t) X hr (by rfl) (by rfl) dJ20_circularClear_42
        · refine J.pu (fun _ _ _ _ k => lv_iconst (v := 0) X.1.1 X.1.2.1 dJ20_circularClear_35 (by decide) k) ?_
          refine J.istore_n (i := 1) (lv' := [(1, .int 0), (0, va_rf a0), (2, .int a2), (3, .int x3_12)]) X.1.1 X.1.2.1 dJ20_circularClear_36 rfl hl (by decide) (by first | rfl | simp [va_rf_cat, jcI, jcA, jcJ, jcD, jcF]) (fun ls hl => ?_)
          refine J.pu (fun _ _ _ _ k => lv_iload_n X.1.1 X.1.2.1 dJ20_circularClear_37 rfl (lv_at hl 2 rfl) k) ?_
          refine J.istore_n (i := 3) (lv' := [(3, .int a2), (1, .int 0), (0, va_rf a0), (2, .int a2)]) X.1.1 X.1.2.1 dJ20_circularClear_38 rfl hl (by decide) (by first | rfl | simp [va_rf_cat, jcI, jcA, jcJ, jcD, jcF]) (fun ls hl => ?_)
          refine J.pu (fun _ _ _ _ k => lv_goto (tgt := 12) X.1.1 X.1.2.1 dJ20_circularClear_39 (by decide) k) ?_
          exact ih12 0 a2 B12 ls (lv_sub hl [2, 3, 1, 0] rfl)
      · refine J.pu (fun _ _ _ _ k => W.rload_n X.1.1 X.1.2.1 dJ20_circularClear_17 rfl (lv_at hl 0 rfl) k) ?_
        refine J.pu (fun _ _ _ _ k => lv_iload_n X.1.1 X.1.2.1 dJ20_circularClear_18 rfl (lv_at hl 2 rfl) k) ?_
        refine J.pu (fun _ _ _ _ k => lv_null X.1.1 X.1.2.1 dJ20_circularClear_19 k) ?_
        refine J.sR' X dJ20_circularClear_20 (fun S20 h20 => ?_)
        refine J.iinc (k := 2) (lv' := [(1, .int (x1_12 + 1)), (0, va_rf a0), (2, .int a2), (3, .int x3_12)]) (w := (x1_12 + 1)) X.1.1 X.1.2.1 dJ20_circularClear_21 hl rfl rfl (by decide) (by first | rfl | simp [va_rf_cat, jcI, jcA, jcJ, jcD, jcF]) (fun ls hl => ?_)
        refine J.pu (fun _ _ _ _ k => lv_goto (tgt := 12) X.1.1 X.1.2.1 dJ20_circularClear_24 (by decide) k) ?_
        exact ih12 (x1_12 + 1) x3_12 S20 ls (lv_sub hl [1, 2, 0, 3] rfl)
  have j11 : ∀ (x1_11 : Int32) (s0_11 : Int32) (B11 : jH) (ls : Array Slot), lv_has ls 4 [(0, va_rf a0), (2, .int a2), (1, .int x1_11)] → jGo l G 0 0 σ (Prod.snd : Unit × jH → jH) (fun t => jrV t.1) t p e s m args below meth c (f_J20_circularClear_j11 G n a0 a1 a2 x1_11 s0_11 B11) B11 (F0 m 11 ls [.int s0_11]) := by
    intro x1_11 s0_11 B11 ls hl
    unfold f_J20_circularClear_j11
    refine J.istore_n (i := 3) (lv' := [(3, .int s0_11), (0, va_rf a0), (2, .int a2), (1, .int x1_11)]) X.1.1 X.1.2.1 dJ20_circularClear_11 rfl hl (by decide) (by first | rfl | simp [va_rf_cat, jcI, jcA, jcJ, jcD, jcF]) (fun ls hl => ?_)
    exact L12 n x1_11 s0_11 B11 ls (lv_sub hl [1, 2, 3, 0] rfl)
  unfold f_J20_circularClear_b
  refine J.pu (fun _ _ _ _ k => lv_iload_n X.1.1 X.1.2.1 dJ20_circularClear_0 rfl (lv_at hl 1 rfl) k) ?_
  refine J.pu (fun _ _ _ _ k => lv_iload_n X.1.1 X.1.2.1 dJ20_circularClear_1 rfl (lv_at hl 2 rfl) k) ?_
  refine J.br (fun _ _ _ _ ka kb => lv_icmp_gt (tgt := 9) X.1.1 X.1.2.1 dJ20_circularClear_2 (by decide) ka kb) (fun c2 => ?_) (fun c2 => ?_)
  · refine J.pu (fun _ _ _ _ k => W.rload_n X.1.1 X.1.2.1 dJ20_circularClear_9 rfl (lv_at hl 0 rfl) k) ?_
    refine J.len X dJ20_circularClear_10 (fun v10 h10 => ?_)
    exact j11 a1 v10 σ ls (lv_sub hl [0, 2, 1] rfl)
  · refine J.pu (fun _ _ _ _ k => lv_iload_n X.1.1 X.1.2.1 dJ20_circularClear_5 rfl (lv_at hl 2 rfl) k) ?_
    refine J.pu (fun _ _ _ _ k => lv_goto (tgt := 11) X.1.1 X.1.2.1 dJ20_circularClear_6 (by decide) k) ?_
    exact j11 a1 a2 σ ls (lv_sub hl [0, 2, 1] rfl)
noncomputable def f_J20_elementAt (G : jG) (n : Nat) (σ : jH) (a0 : Option Nat) (a1 : Int32) : Option (Option Nat) :=
  (aR σ a0 a1).bind fun v2 => some v2
set_option maxHeartbeats 4000000 in
set_option maxRecDepth 100000 in
theorem ct_f_J20_elementAt (l : Launch) (G : jG) (n : Nat) (σ : jH) (a0 : Option Nat) (a1 : Int32) : jCt l G yJ20_elementAt (ws_ yJ20_elementAt cJ20_elementAt 2 (some (.object "java/lang/Object"))) 0 0 jrR [va_rf a0, .int a1] σ (jrd σ (f_J20_elementAt G n σ a0 a1)) := by
  refine jCt.rd (lv := [(0, va_rf a0), (1, .int a1)]) (plainFor_of_name (by decide)) (by simp [lg_sl, va_rf_cat, jcI, jcA, jcJ, jcD, jcF]) (by simp [lv_args, va_rf_cat, jcI, jcA, jcJ, jcD, jcF]) ?_
  intro t p e s m args below meth c ls X hr hnm hl
  have X : jCx p c cJ20_elementAt 2 s m args RJ20 G meth := X
  unfold f_J20_elementAt
  refine J.pu (fun _ _ _ _ k => W.rload_n X.1.1 X.1.2.1 dJ20_elementAt_0 rfl (lv_at hl 0 rfl) k) ?_
  refine J.pu (fun _ _ _ _ k => lv_iload_n X.1.1 X.1.2.1 dJ20_elementAt_1 rfl (lv_at hl 1 rfl) k) ?_
  refine J.aR' X dJ20_elementAt_2 (fun v2 h2 => ?_)
  exact J.aret (vr := jrR) (fin := fun _ : Option Nat => σ) (t := t) X hr (Or.inl ⟨_, rfl⟩) (by rfl) (by rfl) dJ20_elementAt_3
noncomputable def f_J20_inc (G : jG) (n : Nat) (σ : jH) (a0 : Int32) (a1 : Int32) : Option (Int32) :=
  if (a0 + 1) < a1 then (some (a0 + 1)) else (some 0)
set_option maxHeartbeats 4000000 in
set_option maxRecDepth 100000 in
theorem ct_f_J20_inc (l : Launch) (G : jG) (n : Nat) (σ : jH) (a0 : Int32) (a1 : Int32) : jCt l G yJ20_inc (ws_ yJ20_inc cJ20_inc 2 (some .int)) 0 0 jrI [.int a0, .int a1] σ (jrd σ (f_J20_inc G n σ a0 a1)) := by
  refine jCt.rd (lv := [(0, .int a0), (1, .int a1)]) (plainFor_of_name (by decide)) (Nat.le_of_ble_eq_true rfl) rfl ?_
  intro t p e s m args below meth c ls X hr hnm hl
  have X : jCx p c cJ20_inc 2 s m args RJ20 G meth := X
  unfold f_J20_inc
  refine J.iinc (k := 0) (lv' := [(0, .int (a0 + 1)), (1, .int a1)]) (w := (a0 + 1)) X.1.1 X.1.2.1 dJ20_inc_0 hl rfl rfl (by decide) (by first | rfl | simp [va_rf_cat, jcI, jcA, jcJ, jcD, jcF]) (fun ls hl => ?_)
  refine J.pu (fun _ _ _ _ k => lv_iload_n X.1.1 X.1.2.1 dJ20_inc_3 rfl (lv_at hl 0 rfl) k) ?_
  refine J.pu (fun _ _ _ _ k => lv_iload_n X.1.1 X.1.2.1 dJ20_inc_4 rfl (lv_at hl 1 rfl) k) ?_
  refine J.br (fun _ _ _ _ ka kb => lv_icmp_lt (tgt := 10) X.1.1 X.1.2.1 dJ20_inc_5 (by decide) ka kb) (fun c5 => ?_) (fun c5 => ?_)
  · refine J.pu (fun _ _ _ _ k => lv_iload_n X.1.1 X.1.2.1 dJ20_inc_10 rfl (lv_at hl 0 rfl) k) ?_
    exact J.iret (vr := jrI) (fin := fun _ : Int32 => σ) (t := t) X hr (by rfl) (by rfl) dJ20_inc_11
  · refine J.pu (fun _ _ _ _ k => lv_iconst (v := 0) X.1.1 X.1.2.1 dJ20_inc_8 (by decide) k) ?_
    refine J.istore_n (i := 0) (lv' := [(0, .int 0), (1, .int a1)]) X.1.1 X.1.2.1 dJ20_inc_9 rfl hl (by decide) (by first | rfl | simp [va_rf_cat, jcI, jcA, jcJ, jcD, jcF]) (fun ls hl => ?_)
    refine J.pu (fun _ _ _ _ k => lv_iload_n X.1.1 X.1.2.1 dJ20_inc_10 rfl (lv_at hl 0 rfl) k) ?_
    exact J.iret (vr := jrI) (fin := fun _ : Int32 => σ) (t := t) X hr (by rfl) (by rfl) dJ20_inc_11
noncomputable def f_J20_addLast_b (G : jG) (n : Nat) (σ : jH) (this : Nat) (a1 : Option Nat) : Option (Unit × jH) :=
  if a1 = none then (none) else ((gR σ (some this) 18 0).bind fun v13 => (gI σ (some this) 18 2).bind fun v19 => (sR G σ v13 v19 a1).bind fun S23 => (gI S23 (some this) 18 1).bind fun v25 => (gI S23 (some this) 18 2).bind fun v30 => (aLen' S23 v13).bind fun v34 => (f_J20_inc G n S23 v30 v34).bind fun v35 => (pI G S23 (some this) 18 2 v35).bind fun S39 => if v25 = v35 then (none) else (some ((), S39)))
noncomputable def f_J20_addLast (G : jG) (n : Nat) (σ : jH) (this : Nat) (a1 : Option Nat) : Option (Unit × jH) := jck σ (f_J20_addLast_b G n σ this a1)
set_option maxHeartbeats 4000000 in
set_option maxRecDepth 100000 in
theorem ct_f_J20_addLast (l : Launch) (G : jG) (n : Nat) (σ : jH) (this : Nat) (a1 : Option Nat) : jCt l G yJ20_addLast (ws_ yJ20_addLast cJ20_addLast 3 none) 1 21 jrV [.ref this, va_rf a1] σ (f_J20_addLast G n σ this a1) := by
  refine jCt.wr (lv := [(0, .ref this), (1, va_rf a1)]) (plainFor_of_name (by decide)) (by simp [lg_sl, va_rf_cat, jcI, jcA, jcJ, jcD, jcF]) (by simp [lv_args, va_rf_cat, jcI, jcA, jcJ, jcD, jcF]) ?_
  intro t p e s m args below meth c ls X hr hnm hl
  have X : jCx p c cJ20_addLast 3 s m args RJ20 G meth := X
  unfold f_J20_addLast_b
  refine J.pu (fun _ _ _ _ k => W.rload_n X.1.1 X.1.2.1 dJ20_addLast_0 rfl (lv_at hl 1 rfl) k) ?_
  refine J.br (fun _ _ _ _ ka kb => W.rnonnull (tgt := 12) X.1.1 X.1.2.1 dJ20_addLast_1 (by decide) kb ka) (fun c1 => ?_) (fun c1 => ?_)
  · exact J.nil_
  · refine J.pu (fun _ _ _ _ k => lv_aload_n X.1.1 X.1.2.1 dJ20_addLast_12 rfl (lv_at hl 0 rfl) k) ?_
    refine J.getR (k := 0) (ci := 18) X in_J20 (show jCl[18]? = some (RJ20, TJ20, 3) from rfl) (by decide) q810 (fun _ h => h) dJ20_addLast_13 (fun v13 h13 => ?_)
    refine J.astore_n (r := v13) (i := 2) (lv' := [(2, va_rf v13), (0, .ref this), (1, va_rf a1)]) X.1.1 X.1.2.1 dJ20_addLast_16 rfl hl (by decide) (by first | rfl | simp [va_rf_cat, jcI, jcA, jcJ, jcD, jcF]) (fun ls hl => ?_)
    refine J.pu (fun _ _ _ _ k => W.rload_n X.1.1 X.1.2.1 dJ20_addLast_17 rfl (lv_at hl 0 rfl) k) ?_
    refine J.pu (fun _ _ _ _ k => lv_aload_n X.1.1 X.1.2.1 dJ20_addLast_18 rfl (lv_at hl 1 rfl) k) ?_
    refine J.getI (k := 2) (ci := 18) X in_J20 (show jCl[18]? = some (RJ20, TJ20, 3) from rfl) (by decide) q812 (fun _ h => h) dJ20_addLast_19 (fun v19 h19 => ?_)
    refine J.pu (fun _ _ _ _ k => W.rload_n X.1.1 X.1.2.1 dJ20_addLast_22 rfl (lv_at hl 2 rfl) k) ?_
    refine J.sR' X dJ20_addLast_23 (fun S23 h23 => ?_)
    refine J.pu (fun _ _ _ _ k => lv_aload_n X.1.1 X.1.2.1 dJ20_addLast_24 rfl (lv_at hl 1 rfl) k) ?_
    refine J.getI (k := 1) (ci := 18) X in_J20 (show jCl[18]? = some (RJ20, TJ20, 3) from rfl) (by decide) q811 (fun _ h => h) dJ20_addLast_25 (fun v25 h25 => ?_)
    refine J.pu (fun _ _ _ _ k => lv_aload_n X.1.1 X.1.2.1 dJ20_addLast_28 rfl (lv_at hl 1 rfl) k) ?_
    refine J.pu (fun _ _ _ _ k => lv_aload_n X.1.1 X.1.2.1 dJ20_addLast_29 rfl (lv_at hl 1 rfl) k) ?_
    refine J.getI (k := 2) (ci := 18) X in_J20 (show jCl[18]? = some (RJ20, TJ20, 3) from rfl) (by decide) q812 (fun _ h => h) dJ20_addLast_30 (fun v30 h30 => ?_)
    refine J.pu (fun _ _ _ _ k => W.rload_n X.1.1 X.1.2.1 dJ20_addLast_33 rfl (lv_at hl 0 rfl) k) ?_
    refine J.len X dJ20_addLast_34 (fun v34 h34 => ?_)
    refine J.bind (fun v35 h35 => ?_)
    refine J.cS (As := [.int v30, .int v34]) (rest := [.ref this, .int v25]) (s2 := [.int v35, .ref this, .int v25]) X ⟨rfl, rfl⟩ (ct_f_J20_inc l G n S23 v30 v34) (jrd_of h35) (fun _ _ => va_cwS 2 X.1.2.2.2.2 (lw_S q1918 q1919 q164 q1920) rfl rfl rfl (by decide +kernel) ⟨(Nat.le_of_ble_eq_true rfl), (Nat.le_of_ble_eq_true rfl)⟩) rfl hl.1 rfl rfl (Nat.le_of_ble_eq_true rfl) dJ20_addLast_35 ?_
    refine J.pu (fun _ _ _ _ k => lv_dup_x1 X.1.1 X.1.2.1 dJ20_addLast_38 rfl rfl k) ?_
    refine J.putI (k := 2) (ci := 18) X in_J20 (show jCl[18]? = some (RJ20, TJ20, 3) from rfl) tyJ20_ok (fun a ha b hb h => Or.inl (nmJ20 a ha b hb h)) (by decide) q812 (fun _ h => h) rfl rfl dJ20_addLast_39 (fun S39 h39 => ?_)
    refine J.br (fun _ _ _ _ ka kb => lv_icmp_ne (tgt := 50) X.1.1 X.1.2.1 dJ20_addLast_42 (by decide) kb ka) (fun c42 => ?_) (fun c42 => ?_)
    · refine J.pu (fun _ _ _ _ k => lv_aload_n X.1.1 X.1.2.1 dJ20_addLast_45 rfl (lv_at hl 1 rfl) k) ?_
      refine J.pu (fun _ _ _ _ k => lv_iconst (v := 1) X.1.1 X.1.2.1 dJ20_addLast_46 (by decide) k) ?_
      exact J.nil_
    · exact J.vret (vr := fun t : Unit × jH => jrV t.1) (fin := Prod.snd) (t := t) X hr (by rfl) (by rfl) dJ20_addLast_50
noncomputable def f_J20_isEmpty (G : jG) (n : Nat) (σ : jH) (this : Nat) : Option (Int32) :=
  (gI σ (some this) 18 1).bind fun v1 => (gI σ (some this) 18 2).bind fun v5 => if v1 = v5 then (some 1) else (some 0)
set_option maxHeartbeats 4000000 in
set_option maxRecDepth 100000 in
theorem ct_f_J20_isEmpty (l : Launch) (G : jG) (n : Nat) (σ : jH) (this : Nat) : jCt l G yJ20_isEmpty (ws_ yJ20_isEmpty cJ20_isEmpty 1 (some .boolean)) 0 0 jrI [.ref this] σ (jrd σ (f_J20_isEmpty G n σ this)) := by
  refine jCt.rd (lv := [(0, .ref this)]) (plainFor_of_name (by decide)) (Nat.le_of_ble_eq_true rfl) rfl ?_
  intro t p e s m args below meth c ls X hr hnm hl
  have X : jCx p c cJ20_isEmpty 1 s m args RJ20 G meth := X
  unfold f_J20_isEmpty
  refine J.pu (fun _ _ _ _ k => lv_aload_n X.1.1 X.1.2.1 dJ20_isEmpty_0 rfl (lv_at hl 0 rfl) k) ?_
  refine J.getI (k := 1) (ci := 18) X in_J20 (show jCl[18]? = some (RJ20, TJ20, 3) from rfl) (by decide) q811 (fun _ h => h) dJ20_isEmpty_1 (fun v1 h1 => ?_)
  refine J.pu (fun _ _ _ _ k => lv_aload_n X.1.1 X.1.2.1 dJ20_isEmpty_4 rfl (lv_at hl 0 rfl) k) ?_
  refine J.getI (k := 2) (ci := 18) X in_J20 (show jCl[18]? = some (RJ20, TJ20, 3) from rfl) (by decide) q812 (fun _ h => h) dJ20_isEmpty_5 (fun v5 h5 => ?_)
  refine J.br (fun _ _ _ _ ka kb => lv_icmp_ne (tgt := 15) X.1.1 X.1.2.1 dJ20_isEmpty_8 (by decide) kb ka) (fun c8 => ?_) (fun c8 => ?_)
  · refine J.pu (fun _ _ _ _ k => lv_iconst (v := 1) X.1.1 X.1.2.1 dJ20_isEmpty_11 (by decide) k) ?_
    refine J.pu (fun _ _ _ _ k => lv_goto (tgt := 16) X.1.1 X.1.2.1 dJ20_isEmpty_12 (by decide) k) ?_
    exact J.zret (vr := jrI) (fin := fun _ : Int32 => σ) (t := t) X hr (by decide) (by rfl) (by rfl) dJ20_isEmpty_16
  · refine J.pu (fun _ _ _ _ k => lv_iconst (v := 0) X.1.1 X.1.2.1 dJ20_isEmpty_15 (by decide) k) ?_
    exact J.zret (vr := jrI) (fin := fun _ : Int32 => σ) (t := t) X hr (by decide) (by rfl) (by rfl) dJ20_isEmpty_16
noncomputable def f_J20_dec (G : jG) (n : Nat) (σ : jH) (a0 : Int32) (a1 : Int32) : Option (Int32) :=
  if 0 ≤ (a0 + (-1)) then (some (a0 + (-1))) else (some (a1 - 1))
set_option maxHeartbeats 4000000 in
set_option maxRecDepth 100000 in
theorem ct_f_J20_dec (l : Launch) (G : jG) (n : Nat) (σ : jH) (a0 : Int32) (a1 : Int32) : jCt l G yJ20_dec (ws_ yJ20_dec cJ20_dec 2 (some .int)) 0 0 jrI [.int a0, .int a1] σ (jrd σ (f_J20_dec G n σ a0 a1)) := by
  refine jCt.rd (lv := [(0, .int a0), (1, .int a1)]) (plainFor_of_name (by decide)) (Nat.le_of_ble_eq_true rfl) rfl ?_
  intro t p e s m args below meth c ls X hr hnm hl
  have X : jCx p c cJ20_dec 2 s m args RJ20 G meth := X
  unfold f_J20_dec
  refine J.iinc (k := 0) (lv' := [(0, .int (a0 + (-1))), (1, .int a1)]) (w := (a0 + (-1))) X.1.1 X.1.2.1 dJ20_dec_0 hl rfl (by rw [show Int32.ofInt (-1) = ((-1) : Int32) from by decide]) (by decide) (by first | rfl | simp [va_rf_cat, jcI, jcA, jcJ, jcD, jcF]) (fun ls hl => ?_)
  refine J.pu (fun _ _ _ _ k => lv_iload_n X.1.1 X.1.2.1 dJ20_dec_3 rfl (lv_at hl 0 rfl) k) ?_
  refine J.br (fun _ _ _ _ ka kb => lv_if_ge (tgt := 11) X.1.1 X.1.2.1 dJ20_dec_4 (by decide) ka kb) (fun c4 => ?_) (fun c4 => ?_)
  · refine J.pu (fun _ _ _ _ k => lv_iload_n X.1.1 X.1.2.1 dJ20_dec_11 rfl (lv_at hl 0 rfl) k) ?_
    exact J.iret (vr := jrI) (fin := fun _ : Int32 => σ) (t := t) X hr (by rfl) (by rfl) dJ20_dec_12
  · refine J.pu (fun _ _ _ _ k => lv_iload_n X.1.1 X.1.2.1 dJ20_dec_7 rfl (lv_at hl 1 rfl) k) ?_
    refine J.pu (fun _ _ _ _ k => lv_iconst (v := 1) X.1.1 X.1.2.1 dJ20_dec_8 (by decide) k) ?_
    refine J.pu (fun _ _ _ _ k => lv_isub X.1.1 X.1.2.1 dJ20_dec_9 k) ?_
    refine J.istore_n (i := 0) (lv' := [(0, .int (a1 - 1)), (1, .int a1)]) X.1.1 X.1.2.1 dJ20_dec_10 rfl hl (by decide) (by first | rfl | simp [va_rf_cat, jcI, jcA, jcJ, jcD, jcF]) (fun ls hl => ?_)
    refine J.pu (fun _ _ _ _ k => lv_iload_n X.1.1 X.1.2.1 dJ20_dec_11 rfl (lv_at hl 0 rfl) k) ?_
    exact J.iret (vr := jrI) (fin := fun _ : Int32 => σ) (t := t) X hr (by rfl) (by rfl) dJ20_dec_12
noncomputable def f_J21_checkIndex (G : jG) (n : Nat) (σ : jH) (a0 : Int32) (a1 : Int32) : Option (Int32) :=
  (f_J14_checkIndex G n σ a0 a1 none).bind fun v3 => some v3
set_option maxHeartbeats 4000000 in
set_option maxRecDepth 100000 in
theorem ct_f_J21_checkIndex (l : Launch) (G : jG) (n : Nat) (σ : jH) (a0 : Int32) (a1 : Int32) : jCt l G yJ21_checkIndex (ws_ yJ21_checkIndex cJ21_checkIndex 2 (some .int)) 1 22 jrI [.int a0, .int a1] σ (jrd σ (f_J21_checkIndex G n σ a0 a1)) := by
  refine jCt.rd (lv := [(0, .int a0), (1, .int a1)]) (plainFor_of_name (by decide)) (Nat.le_of_ble_eq_true rfl) rfl ?_
  intro t p e s m args below meth c ls X hr hnm hl
  have X : jCx p c cJ21_checkIndex 2 s m args RJ21 G meth := X
  unfold f_J21_checkIndex
  refine J.pu (fun _ _ _ _ k => lv_iload_n X.1.1 X.1.2.1 dJ21_checkIndex_0 rfl (lv_at hl 0 rfl) k) ?_
  refine J.pu (fun _ _ _ _ k => lv_iload_n X.1.1 X.1.2.1 dJ21_checkIndex_1 rfl (lv_at hl 1 rfl) k) ?_
  refine J.pu (fun _ _ _ _ k => lv_null X.1.1 X.1.2.1 dJ21_checkIndex_2 k) ?_
  refine J.bind (fun v3 h3 => ?_)
  refine J.cS (As := [.int a0, .int a1, va_rf none]) (rest := []) (s2 := [.int v3]) X ⟨rfl, rfl⟩ (ct_f_J14_checkIndex l G n σ a0 a1 none) (jrd_of h3) (fun _ _ => va_cwS 3 X.1.2.2.2.2 (lw_S q859 q860 q155 q861) rfl rfl rfl (by decide +kernel) ⟨(Nat.le_of_ble_eq_true rfl), (Nat.le_of_ble_eq_true rfl)⟩) rfl hl.1 rfl rfl (Nat.le_of_ble_eq_true rfl) dJ21_checkIndex_3 ?_
  exact J.iret (vr := jrI) (fin := fun _ : Int32 => σ) (t := t) X hr (by rfl) (by rfl) dJ21_checkIndex_6
noncomputable def f_J26_init_j38 (G : jG) (n : Nat) (this : Nat) (a1 : Option Nat) (a2 : Int32) (s1_38 : Option Nat) (B38 : jH) : Option (Unit × jH) :=
  (pR G B38 (some this) 19 1 s1_38).bind fun S38 => (pI G S38 (some this) 19 2 a2).bind fun S43 => some ((), S43)
noncomputable def f_J26_init_b (G : jG) (n : Nat) (σ : jH) (this : Nat) (a1 : Option Nat) (a2 : Int32) : Option (Unit × jH) :=
  (pR G σ (some this) 19 4 a1).bind fun S2 => (gR S2 (some this) 19 4).bind fun v11 => (gI S2 v11 16 0).bind fun v14 => (pI G S2 (some this) 19 3 v14).bind fun S17 => (gI S17 a1 16 1).bind fun v23 => if a2 = v23 then (f_J26_init_j38 G n this a1 a2 none S17) else ((rc S17 a1 16).bind fun o35 => (f_J19_node G n S17 o35 a2).bind fun v35 => f_J26_init_j38 G n this a1 a2 v35 S17)
noncomputable def f_J26_init (G : jG) (n : Nat) (σ : jH) (this : Nat) (a1 : Option Nat) (a2 : Int32) : Option (Unit × jH) := jck σ (f_J26_init_b G n σ this a1 a2)
set_option maxHeartbeats 4000000 in
set_option maxRecDepth 100000 in
theorem ct_f_J26_init (l : Launch) (G : jG) (n : Nat) (σ : jH) (this : Nat) (a1 : Option Nat) (a2 : Int32) : jCt l G yJ26_init (ws_ yJ26_init cJ26_init 3 none) 1 30 jrV [.ref this, va_rf a1, .int a2] σ (f_J26_init G n σ this a1 a2) := by
  refine jCt.wr (lv := [(0, .ref this), (1, va_rf a1), (2, .int a2)]) (plainFor_of_name (by decide)) (by simp [lg_sl, va_rf_cat, jcI, jcA, jcJ, jcD, jcF]) (by simp [lv_args, va_rf_cat, jcI, jcA, jcJ, jcD, jcF]) ?_
  intro t p e s m args below meth c ls X hr hnm hl
  have X : jCx p c cJ26_init 3 s m args RJ26 G meth := X
  have j38 : ∀ (s1_38 : Option Nat) (B38 : jH) (ls : Array Slot), lv_has ls 3 [(0, .ref this), (2, .int a2)] → jGo l G 1 30 σ (Prod.snd : Unit × jH → jH) (fun t => jrV t.1) t p e s m args below meth c (f_J26_init_j38 G n this a1 a2 s1_38 B38) B38 (F0 m 38 ls [va_rf s1_38, .ref this]) := by
    intro s1_38 B38 ls hl
    unfold f_J26_init_j38
    refine J.putR (k := 1) (ci := 19) X in_J26 (show jCl[19]? = some (RJ26, TJ26, 5) from rfl) tyJ26_ok (fun a ha b hb h => Or.inl (nmJ26 a ha b hb h)) (by decide) q1155 (fun _ h => h) rfl (Or.inl ⟨_, rfl⟩) dJ26_init_38 (fun S38 h38 => ?_)
    refine J.pu (fun _ _ _ _ k => lv_aload_n X.1.1 X.1.2.1 dJ26_init_41 rfl (lv_at hl 0 rfl) k) ?_
    refine J.pu (fun _ _ _ _ k => lv_iload_n X.1.1 X.1.2.1 dJ26_init_42 rfl (lv_at hl 1 rfl) k) ?_
    refine J.putI (k := 2) (ci := 19) X in_J26 (show jCl[19]? = some (RJ26, TJ26, 5) from rfl) tyJ26_ok (fun a ha b hb h => Or.inl (nmJ26 a ha b hb h)) (by decide) q1156 (fun _ h => h) rfl rfl dJ26_init_43 (fun S43 h43 => ?_)
    exact J.vret (vr := fun t : Unit × jH => jrV t.1) (fin := Prod.snd) (t := t) X hr (by rfl) (by rfl) dJ26_init_46
  unfold f_J26_init_b
  refine J.pu (fun _ _ _ _ k => lv_aload_n X.1.1 X.1.2.1 dJ26_init_0 rfl (lv_at hl 0 rfl) k) ?_
  refine J.pu (fun _ _ _ _ k => W.rload_n X.1.1 X.1.2.1 dJ26_init_1 rfl (lv_at hl 1 rfl) k) ?_
  refine J.putRF (k := 4) (ci := 19) X hnm in_J26 (show jCl[19]? = some (RJ26, TJ26, 5) from rfl) tyJ26_ok (fun a ha b hb h => Or.inl (nmJ26 a ha b hb h)) (by decide) q1158 (fun _ h => h) rfl rfl (Or.inl ⟨_, rfl⟩) dJ26_init_2 (fun S2 h2 => ?_)
  refine J.pu (fun _ _ _ _ k => lv_aload_n X.1.1 X.1.2.1 dJ26_init_5 rfl (lv_at hl 0 rfl) k) ?_
  refine J.objI (a := this) X q1152 hl.1 dJ26_init_6 (Nat.le_of_ble_eq_true rfl) (Nat.le_of_ble_eq_true rfl) ?_
  refine J.pu (fun _ _ _ _ k => lv_aload_n X.1.1 X.1.2.1 dJ26_init_9 rfl (lv_at hl 0 rfl) k) ?_
  refine J.pu (fun _ _ _ _ k => lv_aload_n X.1.1 X.1.2.1 dJ26_init_10 rfl (lv_at hl 0 rfl) k) ?_
  refine J.getR (k := 4) (ci := 19) X in_J26 (show jCl[19]? = some (RJ26, TJ26, 5) from rfl) (by decide) q1158 (fun _ h => h) dJ26_init_11 (fun v11 h11 => ?_)
  refine J.getI (k := 0) (ci := 16) X in_J19 (show jCl[16]? = some (RJ19, TJ19, 4) from rfl) (by decide) q551 (fun x h => u_same (X.1.2.2.2.2 _ q552) x h) dJ26_init_14 (fun v14 h14 => ?_)
  refine J.putI (k := 3) (ci := 19) X in_J26 (show jCl[19]? = some (RJ26, TJ26, 5) from rfl) tyJ26_ok (fun a ha b hb h => Or.inl (nmJ26 a ha b hb h)) (by decide) q1157 (fun _ h => h) rfl rfl dJ26_init_17 (fun S17 h17 => ?_)
  refine J.pu (fun _ _ _ _ k => lv_aload_n X.1.1 X.1.2.1 dJ26_init_20 rfl (lv_at hl 0 rfl) k) ?_
  refine J.pu (fun _ _ _ _ k => lv_iload_n X.1.1 X.1.2.1 dJ26_init_21 rfl (lv_at hl 2 rfl) k) ?_
  refine J.pu (fun _ _ _ _ k => W.rload_n X.1.1 X.1.2.1 dJ26_init_22 rfl (lv_at hl 1 rfl) k) ?_
  refine J.getI (k := 1) (ci := 16) X in_J19 (show jCl[16]? = some (RJ19, TJ19, 4) from rfl) (by decide) q744 (fun _ h => h) dJ26_init_23 (fun v23 h23 => ?_)
  refine J.br (fun _ _ _ _ ka kb => lv_icmp_ne (tgt := 33) X.1.1 X.1.2.1 dJ26_init_26 (by decide) kb ka) (fun c26 => ?_) (fun c26 => ?_)
  · refine J.pu (fun _ _ _ _ k => lv_null X.1.1 X.1.2.1 dJ26_init_29 k) ?_
    refine J.pu (fun _ _ _ _ k => lv_goto (tgt := 38) X.1.1 X.1.2.1 dJ26_init_30 (by decide) k) ?_
    exact j38 none S17 ls (lv_sub hl [0, 2] rfl)
  · refine J.pu (fun _ _ _ _ k => W.rload_n X.1.1 X.1.2.1 dJ26_init_33 rfl (lv_at hl 1 rfl) k) ?_
    refine J.pu (fun _ _ _ _ k => lv_iload_n X.1.1 X.1.2.1 dJ26_init_34 rfl (lv_at hl 2 rfl) k) ?_
    refine J.bind (fun o35 g35 => ?_)
    refine J.bind (fun v35 h35 => ?_)
    refine J.cV (q := (RJ19, TJ19, 4)) (ci := 16) (As := [.int a2]) (rest := [.ref this]) (s2 := [va_rf v35, .ref this]) X ⟨rfl, rfl⟩ (ct_f_J19_node l G n S17 o35 a2) (jrd_of h35) (fun _ _ => cwV 1 X.1.2.2.2.2 (lw_V q1153 q906 q907 q163 q908) rfl rfl rfl (by decide +kernel) ⟨(Nat.le_of_ble_eq_true rfl), (Nat.le_of_ble_eq_true rfl)⟩) g35 rfl rfl hl.1 rfl rfl (Nat.le_of_ble_eq_true rfl) dJ26_init_35 ?_
    exact j38 v35 S17 ls (lv_sub hl [0, 2] rfl)
noncomputable def f_J26_hasNext (G : jG) (n : Nat) (σ : jH) (this : Nat) : Option (Int32) :=
  (gI σ (some this) 19 2).bind fun v1 => (gR σ (some this) 19 4).bind fun v5 => (gI σ v5 16 1).bind fun v8 => if v8 ≤ v1 then (some 0) else (some 1)
set_option maxHeartbeats 4000000 in
set_option maxRecDepth 100000 in
theorem ct_f_J26_hasNext (l : Launch) (G : jG) (n : Nat) (σ : jH) (this : Nat) : jCt l G yJ26_hasNext (ws_ yJ26_hasNext cJ26_hasNext 1 (some .boolean)) 0 0 jrI [.ref this] σ (jrd σ (f_J26_hasNext G n σ this)) := by
  refine jCt.rd (lv := [(0, .ref this)]) (plainFor_of_name (by decide)) (Nat.le_of_ble_eq_true rfl) rfl ?_
  intro t p e s m args below meth c ls X hr hnm hl
  have X : jCx p c cJ26_hasNext 1 s m args RJ26 G meth := X
  unfold f_J26_hasNext
  refine J.pu (fun _ _ _ _ k => lv_aload_n X.1.1 X.1.2.1 dJ26_hasNext_0 rfl (lv_at hl 0 rfl) k) ?_
  refine J.getI (k := 2) (ci := 19) X in_J26 (show jCl[19]? = some (RJ26, TJ26, 5) from rfl) (by decide) q1156 (fun _ h => h) dJ26_hasNext_1 (fun v1 h1 => ?_)
  refine J.pu (fun _ _ _ _ k => lv_aload_n X.1.1 X.1.2.1 dJ26_hasNext_4 rfl (lv_at hl 0 rfl) k) ?_
  refine J.getR (k := 4) (ci := 19) X in_J26 (show jCl[19]? = some (RJ26, TJ26, 5) from rfl) (by decide) q1158 (fun _ h => h) dJ26_hasNext_5 (fun v5 h5 => ?_)
  refine J.getI (k := 1) (ci := 16) X in_J19 (show jCl[16]? = some (RJ19, TJ19, 4) from rfl) (by decide) q744 (fun _ h => h) dJ26_hasNext_8 (fun v8 h8 => ?_)
  refine J.br (fun _ _ _ _ ka kb => lv_icmp_ge (tgt := 18) X.1.1 X.1.2.1 dJ26_hasNext_11 (by decide) ka kb) (fun c11 => ?_) (fun c11 => ?_)
  · refine J.pu (fun _ _ _ _ k => lv_iconst (v := 0) X.1.1 X.1.2.1 dJ26_hasNext_18 (by decide) k) ?_
    exact J.zret (vr := jrI) (fin := fun _ : Int32 => σ) (t := t) X hr (by decide) (by rfl) (by rfl) dJ26_hasNext_19
  · refine J.pu (fun _ _ _ _ k => lv_iconst (v := 1) X.1.1 X.1.2.1 dJ26_hasNext_14 (by decide) k) ?_
    refine J.pu (fun _ _ _ _ k => lv_goto (tgt := 19) X.1.1 X.1.2.1 dJ26_hasNext_15 (by decide) k) ?_
    exact J.zret (vr := jrI) (fin := fun _ : Int32 => σ) (t := t) X hr (by decide) (by rfl) (by rfl) dJ26_hasNext_19
noncomputable def f_J26_checkForComodification (G : jG) (n : Nat) (σ : jH) (this : Nat) : Option (Unit) :=
  (gR σ (some this) 19 4).bind fun v1 => (gI σ v1 16 0).bind fun v4 => (gI σ (some this) 19 3).bind fun v8 => if v4 = v8 then (some ()) else (none)
set_option maxHeartbeats 4000000 in
set_option maxRecDepth 100000 in
theorem ct_f_J26_checkForComodification (l : Launch) (G : jG) (n : Nat) (σ : jH) (this : Nat) : jCt l G yJ26_checkForComodification (ws_ yJ26_checkForComodification cJ26_checkForComodification 1 none) 0 0 jrV [.ref this] σ (jrd σ (f_J26_checkForComodification G n σ this)) := by
  refine jCt.rd (lv := [(0, .ref this)]) (plainFor_of_name (by decide)) (Nat.le_of_ble_eq_true rfl) rfl ?_
  intro t p e s m args below meth c ls X hr hnm hl
  have X : jCx p c cJ26_checkForComodification 1 s m args RJ26 G meth := X
  unfold f_J26_checkForComodification
  refine J.pu (fun _ _ _ _ k => lv_aload_n X.1.1 X.1.2.1 dJ26_checkForComodification_0 rfl (lv_at hl 0 rfl) k) ?_
  refine J.getR (k := 4) (ci := 19) X in_J26 (show jCl[19]? = some (RJ26, TJ26, 5) from rfl) (by decide) q1158 (fun _ h => h) dJ26_checkForComodification_1 (fun v1 h1 => ?_)
  refine J.getI (k := 0) (ci := 16) X in_J19 (show jCl[16]? = some (RJ19, TJ19, 4) from rfl) (by decide) q551 (fun x h => u_same (X.1.2.2.2.2 _ q552) x h) dJ26_checkForComodification_4 (fun v4 h4 => ?_)
  refine J.pu (fun _ _ _ _ k => lv_aload_n X.1.1 X.1.2.1 dJ26_checkForComodification_7 rfl (lv_at hl 0 rfl) k) ?_
  refine J.getI (k := 3) (ci := 19) X in_J26 (show jCl[19]? = some (RJ26, TJ26, 5) from rfl) (by decide) q1157 (fun _ h => h) dJ26_checkForComodification_8 (fun v8 h8 => ?_)
  refine J.br (fun _ _ _ _ ka kb => lv_icmp_eq (tgt := 22) X.1.1 X.1.2.1 dJ26_checkForComodification_11 (by decide) ka kb) (fun c11 => ?_) (fun c11 => ?_)
  · exact J.vret (vr := jrV) (fin := fun _ : Unit => σ) (t := t) X hr (by rfl) (by rfl) dJ26_checkForComodification_22
  · exact J.nil_
noncomputable def f_J30_of_J31 (G : jG) (n : Nat) (σ : jH) (a0 : Int32) : Option (Option Nat) :=
  if ((a0.toUInt32 >>> ((8 : Int32).toUInt32 &&& Int32.toUInt32 31)).toInt32) = 0 then (some (G.2.2.2 103)) else (if ((a0.toUInt32 >>> ((16 : Int32).toUInt32 &&& Int32.toUInt32 31)).toInt32) = 0 then (none) else if ((a0.toUInt32 >>> ((16 : Int32).toUInt32 &&& Int32.toUInt32 31)).toInt32) = 1 then (none) else if ((a0.toUInt32 >>> ((16 : Int32).toUInt32 &&& Int32.toUInt32 31)).toInt32) = 2 then (none) else if ((a0.toUInt32 >>> ((16 : Int32).toUInt32 &&& Int32.toUInt32 31)).toInt32) = 3 then (none) else if ((a0.toUInt32 >>> ((16 : Int32).toUInt32 &&& Int32.toUInt32 31)).toInt32) = 14 then (none) else if ((a0.toUInt32 >>> ((16 : Int32).toUInt32 &&& Int32.toUInt32 31)).toInt32) = 15 then (none) else if ((a0.toUInt32 >>> ((16 : Int32).toUInt32 &&& Int32.toUInt32 31)).toInt32) = 16 then (none) else none)
set_option maxHeartbeats 4000000 in
set_option maxRecDepth 100000 in
theorem ct_f_J30_of_J31 (l : Launch) (G : jG) (n : Nat) (σ : jH) (a0 : Int32) : jCt l G yJ30_of (ws_ yJ30_of cJ30_of 1 (some (.object "java/lang/CharacterData"))) 0 0 jrR [.int a0] σ (jrd σ (f_J30_of_J31 G n σ a0)) := by
  refine jCt.rd (lv := [(0, .int a0)]) (plainFor_of_name (by decide)) (Nat.le_of_ble_eq_true rfl) rfl ?_
  intro t p e s m args below meth c ls X hr hnm hl
  have X : jCx p c cJ30_of 1 s m args RJ30 G meth := X
  unfold f_J30_of_J31
  refine J.pu (fun _ _ _ _ k => lv_iload_n X.1.1 X.1.2.1 dJ30_of_0 rfl (lv_at hl 0 rfl) k) ?_
  refine J.pu (fun _ _ _ _ k => lv_bipush (v := 8) X.1.1 X.1.2.1 dJ30_of_1 (by decide) k) ?_
  refine J.pu (fun _ _ _ _ k => lv_iushr (v := (a0.toUInt32 >>> ((8 : Int32).toUInt32 &&& Int32.toUInt32 31)).toInt32) X.1.1 X.1.2.1 dJ30_of_3 rfl k) ?_
  refine J.br (fun _ _ _ _ ka kb => lv_if_ne (tgt := 11) X.1.1 X.1.2.1 dJ30_of_4 (by decide) kb ka) (fun c4 => ?_) (fun c4 => ?_)
  · refine J.getsR (i := 103) X (List.mem_of_getElem? (i := 3) rfl) q1507 (fun _ h => h) dJ30_of_7 ?_
    exact J.aret (vr := jrR) (fin := fun _ : Option Nat => σ) (t := t) X hr (Or.inl ⟨_, rfl⟩) (by rfl) (by rfl) dJ30_of_10
  · refine J.pu (fun _ _ _ _ k => lv_iload_n X.1.1 X.1.2.1 dJ30_of_11 rfl (lv_at hl 0 rfl) k) ?_
    refine J.pu (fun _ _ _ _ k => lv_bipush (v := 16) X.1.1 X.1.2.1 dJ30_of_12 (by decide) k) ?_
    refine J.pu (fun _ _ _ _ k => lv_iushr (v := (a0.toUInt32 >>> ((16 : Int32).toUInt32 &&& Int32.toUInt32 31)).toInt32) X.1.1 X.1.2.1 dJ30_of_14 rfl k) ?_
    refine J.ite (fun c15_0 => ?_) (fun c15_0 => ?_)
    · refine J.pu (fun _ _ _ _ k => lv_tableIn (tgt := 96) (off := 81) X.1.1 X.1.2.1 dJ30_of_15 (by rw [c15_0]; decide) (by rw [c15_0]; decide) (by rw [c15_0]; decide) (by decide) k) ?_
      exact J.nil_
    refine J.ite (fun c15_1 => ?_) (fun c15_1 => ?_)
    · refine J.pu (fun _ _ _ _ k => lv_tableIn (tgt := 102) (off := 87) X.1.1 X.1.2.1 dJ30_of_15 (by rw [c15_1]; decide) (by rw [c15_1]; decide) (by rw [c15_1]; decide) (by decide) k) ?_
      exact J.nil_
    refine J.ite (fun c15_2 => ?_) (fun c15_2 => ?_)
    · refine J.pu (fun _ _ _ _ k => lv_tableIn (tgt := 108) (off := 93) X.1.1 X.1.2.1 dJ30_of_15 (by rw [c15_2]; decide) (by rw [c15_2]; decide) (by rw [c15_2]; decide) (by decide) k) ?_
      exact J.nil_
    refine J.ite (fun c15_3 => ?_) (fun c15_3 => ?_)
    · refine J.pu (fun _ _ _ _ k => lv_tableIn (tgt := 114) (off := 99) X.1.1 X.1.2.1 dJ30_of_15 (by rw [c15_3]; decide) (by rw [c15_3]; decide) (by rw [c15_3]; decide) (by decide) k) ?_
      exact J.nil_
    refine J.ite (fun c15_14 => ?_) (fun c15_14 => ?_)
    · refine J.pu (fun _ _ _ _ k => lv_tableIn (tgt := 120) (off := 105) X.1.1 X.1.2.1 dJ30_of_15 (by rw [c15_14]; decide) (by rw [c15_14]; decide) (by rw [c15_14]; decide) (by decide) k) ?_
      exact J.nil_
    refine J.ite (fun c15_15 => ?_) (fun c15_15 => ?_)
    · refine J.pu (fun _ _ _ _ k => lv_tableIn (tgt := 126) (off := 111) X.1.1 X.1.2.1 dJ30_of_15 (by rw [c15_15]; decide) (by rw [c15_15]; decide) (by rw [c15_15]; decide) (by decide) k) ?_
      exact J.nil_
    refine J.ite (fun c15_16 => ?_) (fun c15_16 => ?_)
    · refine J.pu (fun _ _ _ _ k => lv_tableIn (tgt := 126) (off := 111) X.1.1 X.1.2.1 dJ30_of_15 (by rw [c15_16]; decide) (by rw [c15_16]; decide) (by rw [c15_16]; decide) (by decide) k) ?_
      exact J.nil_
    by_cases b15 : ((a0.toUInt32 >>> ((16 : Int32).toUInt32 &&& Int32.toUInt32 31)).toInt32).toInt < 0 ∨ 16 < ((a0.toUInt32 >>> ((16 : Int32).toUInt32 &&& Int32.toUInt32 31)).toInt32).toInt
    · refine J.pu (fun _ _ _ _ k => lv_tableOut (tgt := 132) X.1.1 X.1.2.1 dJ30_of_15 b15 (by decide) k) ?_
      exact J.nil_
    · by_cases e15_4 : ((a0.toUInt32 >>> ((16 : Int32).toUInt32 &&& Int32.toUInt32 31)).toInt32) = 4
      · refine J.pu (fun _ _ _ _ k => lv_tableIn (tgt := 132) (off := 117) X.1.1 X.1.2.1 dJ30_of_15 (by rw [e15_4]; decide) (by rw [e15_4]; decide) (by rw [e15_4]; decide) (by decide) k) ?_
        exact J.nil_
      by_cases e15_5 : ((a0.toUInt32 >>> ((16 : Int32).toUInt32 &&& Int32.toUInt32 31)).toInt32) = 5
      · refine J.pu (fun _ _ _ _ k => lv_tableIn (tgt := 132) (off := 117) X.1.1 X.1.2.1 dJ30_of_15 (by rw [e15_5]; decide) (by rw [e15_5]; decide) (by rw [e15_5]; decide) (by decide) k) ?_
        exact J.nil_
      by_cases e15_6 : ((a0.toUInt32 >>> ((16 : Int32).toUInt32 &&& Int32.toUInt32 31)).toInt32) = 6
      · refine J.pu (fun _ _ _ _ k => lv_tableIn (tgt := 132) (off := 117) X.1.1 X.1.2.1 dJ30_of_15 (by rw [e15_6]; decide) (by rw [e15_6]; decide) (by rw [e15_6]; decide) (by decide) k) ?_
        exact J.nil_
      by_cases e15_7 : ((a0.toUInt32 >>> ((16 : Int32).toUInt32 &&& Int32.toUInt32 31)).toInt32) = 7
      · refine J.pu (fun _ _ _ _ k => lv_tableIn (tgt := 132) (off := 117) X.1.1 X.1.2.1 dJ30_of_15 (by rw [e15_7]; decide) (by rw [e15_7]; decide) (by rw [e15_7]; decide) (by decide) k) ?_
        exact J.nil_
      by_cases e15_8 : ((a0.toUInt32 >>> ((16 : Int32).toUInt32 &&& Int32.toUInt32 31)).toInt32) = 8
      · refine J.pu (fun _ _ _ _ k => lv_tableIn (tgt := 132) (off := 117) X.1.1 X.1.2.1 dJ30_of_15 (by rw [e15_8]; decide) (by rw [e15_8]; decide) (by rw [e15_8]; decide) (by decide) k) ?_
        exact J.nil_
      by_cases e15_9 : ((a0.toUInt32 >>> ((16 : Int32).toUInt32 &&& Int32.toUInt32 31)).toInt32) = 9
      · refine J.pu (fun _ _ _ _ k => lv_tableIn (tgt := 132) (off := 117) X.1.1 X.1.2.1 dJ30_of_15 (by rw [e15_9]; decide) (by rw [e15_9]; decide) (by rw [e15_9]; decide) (by decide) k) ?_
        exact J.nil_
      by_cases e15_10 : ((a0.toUInt32 >>> ((16 : Int32).toUInt32 &&& Int32.toUInt32 31)).toInt32) = 10
      · refine J.pu (fun _ _ _ _ k => lv_tableIn (tgt := 132) (off := 117) X.1.1 X.1.2.1 dJ30_of_15 (by rw [e15_10]; decide) (by rw [e15_10]; decide) (by rw [e15_10]; decide) (by decide) k) ?_
        exact J.nil_
      by_cases e15_11 : ((a0.toUInt32 >>> ((16 : Int32).toUInt32 &&& Int32.toUInt32 31)).toInt32) = 11
      · refine J.pu (fun _ _ _ _ k => lv_tableIn (tgt := 132) (off := 117) X.1.1 X.1.2.1 dJ30_of_15 (by rw [e15_11]; decide) (by rw [e15_11]; decide) (by rw [e15_11]; decide) (by decide) k) ?_
        exact J.nil_
      by_cases e15_12 : ((a0.toUInt32 >>> ((16 : Int32).toUInt32 &&& Int32.toUInt32 31)).toInt32) = 12
      · refine J.pu (fun _ _ _ _ k => lv_tableIn (tgt := 132) (off := 117) X.1.1 X.1.2.1 dJ30_of_15 (by rw [e15_12]; decide) (by rw [e15_12]; decide) (by rw [e15_12]; decide) (by decide) k) ?_
        exact J.nil_
      by_cases e15_13 : ((a0.toUInt32 >>> ((16 : Int32).toUInt32 &&& Int32.toUInt32 31)).toInt32) = 13
      · refine J.pu (fun _ _ _ _ k => lv_tableIn (tgt := 132) (off := 117) X.1.1 X.1.2.1 dJ30_of_15 (by rw [e15_13]; decide) (by rw [e15_13]; decide) (by rw [e15_13]; decide) (by decide) k) ?_
        exact J.nil_
      exfalso; have := lv_neT c15_0 (a := 0) rfl; have := lv_neT c15_1 (a := 1) rfl; have := lv_neT c15_2 (a := 2) rfl; have := lv_neT c15_3 (a := 3) rfl; have := lv_neT c15_14 (a := 14) rfl; have := lv_neT c15_15 (a := 15) rfl; have := lv_neT c15_16 (a := 16) rfl; have := lv_neT e15_4 (a := 4) rfl; have := lv_neT e15_5 (a := 5) rfl; have := lv_neT e15_6 (a := 6) rfl; have := lv_neT e15_7 (a := 7) rfl; have := lv_neT e15_8 (a := 8) rfl; have := lv_neT e15_9 (a := 9) rfl; have := lv_neT e15_10 (a := 10) rfl; have := lv_neT e15_11 (a := 11) rfl; have := lv_neT e15_12 (a := 12) rfl; have := lv_neT e15_13 (a := 13) rfl; omega
noncomputable def f_J31_digit (G : jG) (n : Nat) (σ : jH) (this : Nat) (a1 : Int32) (a2 : Int32) : Option (Int32) :=
  (aI σ (G.2.2.2 102) 1 a1).bind fun v4 => if v4 < 0 then (some (-1)) else (if a2 ≤ v4 then (some (-1)) else (if a2 < 2 then (some (-1)) else (if 36 < a2 then (some (-1)) else (some v4))))
set_option maxHeartbeats 4000000 in
set_option maxRecDepth 100000 in
theorem ct_f_J31_digit (l : Launch) (G : jG) (n : Nat) (σ : jH) (this : Nat) (a1 : Int32) (a2 : Int32) : jCt l G yJ31_digit (ws_ yJ31_digit cJ31_digit 4 (some .int)) 0 0 jrI [.ref this, .int a1, .int a2] σ (jrd σ (f_J31_digit G n σ this a1 a2)) := by
  refine jCt.rd (lv := [(0, .ref this), (1, .int a1), (2, .int a2)]) (plainFor_of_name (by decide)) (Nat.le_of_ble_eq_true rfl) rfl ?_
  intro t p e s m args below meth c ls X hr hnm hl
  have X : jCx p c cJ31_digit 4 s m args RJ31 G meth := X
  unfold f_J31_digit
  refine J.getsR (i := 102) X (List.mem_of_getElem? (i := 2) rfl) q1515 (fun _ h => h) dJ31_digit_0 ?_
  refine J.pu (fun _ _ _ _ k => lv_iload_n X.1.1 X.1.2.1 dJ31_digit_3 rfl (lv_at hl 1 rfl) k) ?_
  refine J.aI1 X dJ31_digit_4 (fun v4 h4 => ?_)
  refine J.istore_n (i := 3) (lv' := [(3, .int v4), (0, .ref this), (1, .int a1), (2, .int a2)]) X.1.1 X.1.2.1 dJ31_digit_5 rfl hl (by decide) (by first | rfl | simp [va_rf_cat, jcI, jcA, jcJ, jcD, jcF]) (fun ls hl => ?_)
  refine J.pu (fun _ _ _ _ k => lv_iload_n X.1.1 X.1.2.1 dJ31_digit_6 rfl (lv_at hl 0 rfl) k) ?_
  refine J.br (fun _ _ _ _ ka kb => lv_if_lt (tgt := 30) X.1.1 X.1.2.1 dJ31_digit_7 (by decide) ka kb) (fun c7 => ?_) (fun c7 => ?_)
  · refine J.pu (fun _ _ _ _ k => lv_iconst (v := (-1)) X.1.1 X.1.2.1 dJ31_digit_30 (by decide) k) ?_
    exact J.iret (vr := jrI) (fin := fun _ : Int32 => σ) (t := t) X hr (by rfl) (by rfl) dJ31_digit_31
  · refine J.pu (fun _ _ _ _ k => lv_iload_n X.1.1 X.1.2.1 dJ31_digit_10 rfl (lv_at hl 0 rfl) k) ?_
    refine J.pu (fun _ _ _ _ k => lv_iload_n X.1.1 X.1.2.1 dJ31_digit_11 rfl (lv_at hl 3 rfl) k) ?_
    refine J.br (fun _ _ _ _ ka kb => lv_icmp_ge (tgt := 30) X.1.1 X.1.2.1 dJ31_digit_12 (by decide) ka kb) (fun c12 => ?_) (fun c12 => ?_)
    · refine J.pu (fun _ _ _ _ k => lv_iconst (v := (-1)) X.1.1 X.1.2.1 dJ31_digit_30 (by decide) k) ?_
      exact J.iret (vr := jrI) (fin := fun _ : Int32 => σ) (t := t) X hr (by rfl) (by rfl) dJ31_digit_31
    · refine J.pu (fun _ _ _ _ k => lv_iload_n X.1.1 X.1.2.1 dJ31_digit_15 rfl (lv_at hl 3 rfl) k) ?_
      refine J.pu (fun _ _ _ _ k => lv_iconst (v := 2) X.1.1 X.1.2.1 dJ31_digit_16 (by decide) k) ?_
      refine J.br (fun _ _ _ _ ka kb => lv_icmp_lt (tgt := 30) X.1.1 X.1.2.1 dJ31_digit_17 (by decide) ka kb) (fun c17 => ?_) (fun c17 => ?_)
      · refine J.pu (fun _ _ _ _ k => lv_iconst (v := (-1)) X.1.1 X.1.2.1 dJ31_digit_30 (by decide) k) ?_
        exact J.iret (vr := jrI) (fin := fun _ : Int32 => σ) (t := t) X hr (by rfl) (by rfl) dJ31_digit_31
      · refine J.pu (fun _ _ _ _ k => lv_iload_n X.1.1 X.1.2.1 dJ31_digit_20 rfl (lv_at hl 3 rfl) k) ?_
        refine J.pu (fun _ _ _ _ k => lv_bipush (v := 36) X.1.1 X.1.2.1 dJ31_digit_21 (by decide) k) ?_
        refine J.br (fun _ _ _ _ ka kb => lv_icmp_gt (tgt := 30) X.1.1 X.1.2.1 dJ31_digit_23 (by decide) ka kb) (fun c23 => ?_) (fun c23 => ?_)
        · refine J.pu (fun _ _ _ _ k => lv_iconst (v := (-1)) X.1.1 X.1.2.1 dJ31_digit_30 (by decide) k) ?_
          exact J.iret (vr := jrI) (fin := fun _ : Int32 => σ) (t := t) X hr (by rfl) (by rfl) dJ31_digit_31
        · refine J.pu (fun _ _ _ _ k => lv_iload_n X.1.1 X.1.2.1 dJ31_digit_26 rfl (lv_at hl 0 rfl) k) ?_
          refine J.pu (fun _ _ _ _ k => lv_goto (tgt := 31) X.1.1 X.1.2.1 dJ31_digit_27 (by decide) k) ?_
          exact J.iret (vr := jrI) (fin := fun _ : Int32 => σ) (t := t) X hr (by rfl) (by rfl) dJ31_digit_31
noncomputable def f_J35_equals_X5 (G : jG) (n : Nat) (σ : jH) (this : Nat) (a1 : Option Nat) : Option (Int32) :=
  if (some this) = a1 then (some 1) else (some 0)
set_option maxHeartbeats 4000000 in
set_option maxRecDepth 100000 in
theorem ct_f_J35_equals_X5 (l : Launch) (G : jG) (n : Nat) (σ : jH) (this : Nat) (a1 : Option Nat) : jCt l G yJ35_equals (ws_ yJ35_equals cJ35_equals 2 (some .boolean)) 0 0 jrI [.ref this, va_rf a1] σ (jrd σ (f_J35_equals_X5 G n σ this a1)) := by
  refine jCt.rd (lv := [(0, .ref this), (1, va_rf a1)]) (by decide +kernel) (by simp [lg_sl, va_rf_cat, jcI, jcA, jcJ, jcD, jcF]) (by simp [lv_args, va_rf_cat, jcI, jcA, jcJ, jcD, jcF]) ?_
  intro t p e s m args below meth c ls X hr hnm hl
  have X : jCx p c cJ35_equals 2 s m args RJ35 G meth := X
  unfold f_J35_equals_X5
  refine J.pu (fun _ _ _ _ k => lv_aload_n X.1.1 X.1.2.1 dJ35_equals_0 rfl (lv_at hl 0 rfl) k) ?_
  refine J.pu (fun _ _ _ _ k => W.rload_n X.1.1 X.1.2.1 dJ35_equals_1 rfl (lv_at hl 1 rfl) k) ?_
  refine J.br (fun _ _ _ _ ka kb => lv_acmp_ne (tgt := 9) X.1.1 X.1.2.1 dJ35_equals_2 (by decide) kb ka) (fun c2 => ?_) (fun c2 => ?_)
  · refine J.pu (fun _ _ _ _ k => lv_iconst (v := 1) X.1.1 X.1.2.1 dJ35_equals_5 (by decide) k) ?_
    refine J.pu (fun _ _ _ _ k => lv_goto (tgt := 10) X.1.1 X.1.2.1 dJ35_equals_6 (by decide) k) ?_
    exact J.zret (vr := jrI) (fin := fun _ : Int32 => σ) (t := t) X hr (by decide) (by rfl) (by rfl) dJ35_equals_10
  · refine J.pu (fun _ _ _ _ k => lv_iconst (v := 0) X.1.1 X.1.2.1 dJ35_equals_9 (by decide) k) ?_
    exact J.zret (vr := jrI) (fin := fun _ : Int32 => σ) (t := t) X hr (by decide) (by rfl) (by rfl) dJ35_equals_10
noncomputable def f_J7_init_J8_b (G : jG) (n : Nat) (σ : jH) (this : Nat) (a1 : Int32) : Option (Unit × jH) :=
  if (1 : Int32) = 0 then (none) else (bd (nI' σ 1 a1) fun v12 S12 => (pR G S12 (some this) 20 0 (some v12)).bind fun S14 => (pB G S14 (some this) 20 1 0).bind fun S19 => some ((), S19))
noncomputable def f_J7_init_J8 (G : jG) (n : Nat) (σ : jH) (this : Nat) (a1 : Int32) : Option (Unit × jH) := jck σ (f_J7_init_J8_b G n σ this a1)
set_option maxHeartbeats 4000000 in
set_option maxRecDepth 100000 in
theorem ct_f_J7_init_J8 (l : Launch) (G : jG) (n : Nat) (σ : jH) (this : Nat) (a1 : Int32) : jCt l G yJ7_init (ws_ yJ7_init cJ7_init 2 none) 1 30 jrV [.ref this, .int a1] σ (f_J7_init_J8 G n σ this a1) := by
  refine jCt.wr (lv := [(0, .ref this), (1, .int a1)]) (plainFor_of_name (by decide)) (Nat.le_of_ble_eq_true rfl) rfl ?_
  intro t p e s m args below meth c ls X hr hnm hl
  have X : jCx p c cJ7_init 2 s m args RJ7 G meth := X
  unfold f_J7_init_J8_b
  refine J.pu (fun _ _ _ _ k => lv_aload_n X.1.1 X.1.2.1 dJ7_init_0 rfl (lv_at hl 0 rfl) k) ?_
  refine J.objI (a := this) X q280 hl.1 dJ7_init_1 (Nat.le_of_ble_eq_true rfl) (Nat.le_of_ble_eq_true rfl) ?_
  refine J.getsI (v := 1) X (List.mem_of_getElem? (i := 0) rfl) q281 (fun _ h => h) dJ7_init_4 ?_
  refine J.br (fun _ _ _ _ ka kb => lv_if_eq (tgt := 25) X.1.1 X.1.2.1 dJ7_init_7 (by decide) ka kb) (fun c7 => ?_) (fun c7 => ?_)
  · refine J.pu (fun _ _ _ _ k => lv_aload_n X.1.1 X.1.2.1 dJ7_init_25 rfl (lv_at hl 0 rfl) k) ?_
    refine J.pu (fun _ _ _ _ k => lv_iload_n X.1.1 X.1.2.1 dJ7_init_26 rfl (lv_at hl 1 rfl) k) ?_
    exact J.nil_
  · refine J.pu (fun _ _ _ _ k => lv_aload_n X.1.1 X.1.2.1 dJ7_init_10 rfl (lv_at hl 0 rfl) k) ?_
    refine J.pu (fun _ _ _ _ k => lv_iload_n X.1.1 X.1.2.1 dJ7_init_11 rfl (lv_at hl 1 rfl) k) ?_
    refine J.nI1 X ⟨rfl, rfl⟩ dJ7_init_12 (fun v12 S12 h12 => ?_)
    refine J.putR (k := 0) (ci := 20) X in_J8 (show jCl[20]? = some (RJ8, TJ8, 4) from rfl) tyJ8_ok (fun a ha b hb h => Or.inl (nmJ8 a ha b hb h)) (by decide) q290 (fun _ h => h) rfl (Or.inr ⟨_, rfl⟩) dJ7_init_14 (fun S14 h14 => ?_)
    refine J.pu (fun _ _ _ _ k => lv_aload_n X.1.1 X.1.2.1 dJ7_init_17 rfl (lv_at hl 0 rfl) k) ?_
    refine J.pu (fun _ _ _ _ k => lv_iconst (v := 0) X.1.1 X.1.2.1 dJ7_init_18 (by decide) k) ?_
    refine J.putB (k := 1) (ci := 20) X in_J8 (show jCl[20]? = some (RJ8, TJ8, 4) from rfl) tyJ8_ok (fun a ha b hb h => Or.inl (nmJ8 a ha b hb h)) (by decide) q291 (fun _ h => h) rfl (Or.inr rfl) dJ7_init_19 (fun S19 h19 => ?_)
    refine J.pu (fun _ _ _ _ k => lv_goto (tgt := 38) X.1.1 X.1.2.1 dJ7_init_22 (by decide) k) ?_
    exact J.vret (vr := fun t : Unit × jH => jrV t.1) (fin := Prod.snd) (t := t) X hr (by rfl) (by rfl) dJ7_init_38
noncomputable def f_J7_newCapacity_J8 (G : jG) (n : Nat) (σ : jH) (this : Nat) (a1 : Int32) : Option (Int32) :=
  (gR σ (some this) 20 0).bind fun v1 => (aLen' σ v1).bind fun v4 => (gI σ (some this) 20 1).bind fun v8 => (gI σ (some this) 20 1).bind fun v24 => (f_J11_newLength G n σ v4 ((a1 <<< (v8 &&& 31)) - v4) (v4 + (2 <<< (v24 &&& 31)))).bind fun v29 => if v29 = 2147483647 then (none) else ((gI σ (some this) 20 1).bind fun v54 => some (v29 >>> (v54 &&& 31)))
set_option maxHeartbeats 4000000 in
set_option maxRecDepth 100000 in
theorem ct_f_J7_newCapacity_J8 (l : Launch) (G : jG) (n : Nat) (σ : jH) (this : Nat) (a1 : Int32) : jCt l G yJ7_newCapacity (ws_ yJ7_newCapacity cJ7_newCapacity 6 (some .int)) 2 44 jrI [.ref this, .int a1] σ (jrd σ (f_J7_newCapacity_J8 G n σ this a1)) := by
  refine jCt.rd (lv := [(0, .ref this), (1, .int a1)]) (plainFor_of_name (by decide)) (Nat.le_of_ble_eq_true rfl) rfl ?_
  intro t p e s m args below meth c ls X hr hnm hl
  have X : jCx p c cJ7_newCapacity 6 s m args RJ7 G meth := X
  unfold f_J7_newCapacity_J8
  refine J.pu (fun _ _ _ _ k => lv_aload_n X.1.1 X.1.2.1 dJ7_newCapacity_0 rfl (lv_at hl 0 rfl) k) ?_
  refine J.getR (k := 0) (ci := 20) X in_J8 (show jCl[20]? = some (RJ8, TJ8, 4) from rfl) (by decide) q290 (fun _ h => h) dJ7_newCapacity_1 (fun v1 h1 => ?_)
  refine J.len X dJ7_newCapacity_4 (fun v4 h4 => ?_)
  refine J.istore_n (i := 2) (lv' := [(2, .int v4), (0, .ref this), (1, .int a1)]) X.1.1 X.1.2.1 dJ7_newCapacity_5 rfl hl (by decide) (by first | rfl | simp [va_rf_cat, jcI, jcA, jcJ, jcD, jcF]) (fun ls hl => ?_)
  refine J.pu (fun _ _ _ _ k => lv_iload_n X.1.1 X.1.2.1 dJ7_newCapacity_6 rfl (lv_at hl 2 rfl) k) ?_
  refine J.pu (fun _ _ _ _ k => lv_aload_n X.1.1 X.1.2.1 dJ7_newCapacity_7 rfl (lv_at hl 1 rfl) k) ?_
  refine J.getI (k := 1) (ci := 20) X in_J8 (show jCl[20]? = some (RJ8, TJ8, 4) from rfl) (by decide) q291 (fun _ h => h) dJ7_newCapacity_8 (fun v8 h8 => ?_)
  refine J.pu (fun _ _ _ _ k => lv_ishl X.1.1 X.1.2.1 dJ7_newCapacity_11 k) ?_
  refine J.istore_n (i := 3) (lv' := [(3, .int (a1 <<< (v8 &&& 31))), (2, .int v4), (0, .ref this), (1, .int a1)]) X.1.1 X.1.2.1 dJ7_newCapacity_12 rfl hl (by decide) (by first | rfl | simp [va_rf_cat, jcI, jcA, jcJ, jcD, jcF]) (fun ls hl => ?_)
  refine J.pu (fun _ _ _ _ k => lv_iload_n X.1.1 X.1.2.1 dJ7_newCapacity_13 rfl (lv_at hl 0 rfl) k) ?_
  refine J.pu (fun _ _ _ _ k => lv_iload_n X.1.1 X.1.2.1 dJ7_newCapacity_14 rfl (lv_at hl 1 rfl) k) ?_
  refine J.pu (fun _ _ _ _ k => lv_isub X.1.1 X.1.2.1 dJ7_newCapacity_15 k) ?_
  refine J.istore (lv' := [(4, .int ((a1 <<< (v8 &&& 31)) - v4)), (3, .int (a1 <<< (v8 &&& 31))), (2, .int v4), (0, .ref this), (1, .int a1)]) X.1.1 X.1.2.1 dJ7_newCapacity_16 hl (by decide) (by first | rfl | simp [va_rf_cat, jcI, jcA, jcJ, jcD, jcF]) (fun ls hl => ?_)
  refine J.pu (fun _ _ _ _ k => lv_iload_n X.1.1 X.1.2.1 dJ7_newCapacity_18 rfl (lv_at hl 2 rfl) k) ?_
  refine J.pu (fun _ _ _ _ k => lv_iload X.1.1 X.1.2.1 dJ7_newCapacity_19 (lv_at hl 0 rfl) k) ?_
  refine J.pu (fun _ _ _ _ k => lv_iload_n X.1.1 X.1.2.1 dJ7_newCapacity_21 rfl (lv_at hl 2 rfl) k) ?_
  refine J.pu (fun _ _ _ _ k => lv_iconst (v := 2) X.1.1 X.1.2.1 dJ7_newCapacity_22 (by decide) k) ?_
  refine J.pu (fun _ _ _ _ k => lv_aload_n X.1.1 X.1.2.1 dJ7_newCapacity_23 rfl (lv_at hl 3 rfl) k) ?_
  refine J.getI (k := 1) (ci := 20) X in_J8 (show jCl[20]? = some (RJ8, TJ8, 4) from rfl) (by decide) q291 (fun _ h => h) dJ7_newCapacity_24 (fun v24 h24 => ?_)
  refine J.pu (fun _ _ _ _ k => lv_ishl X.1.1 X.1.2.1 dJ7_newCapacity_27 k) ?_
  refine J.pu (fun _ _ _ _ k => lv_iadd X.1.1 X.1.2.1 dJ7_newCapacity_28 k) ?_
  refine J.bind (fun v29 h29 => ?_)
  refine J.cS (As := [.int v4, .int ((a1 <<< (v8 &&& 31)) - v4), .int (v4 + (2 <<< (v24 &&& 31)))]) (rest := []) (s2 := [.int v29]) X ⟨rfl, rfl⟩ (ct_f_J11_newLength l G n σ v4 ((a1 <<< (v8 &&& 31)) - v4) (v4 + (2 <<< (v24 &&& 31)))) (jrd_of h29) (fun _ _ => va_cwS 3 X.1.2.2.2.2 (lw_S q325 q326 q151 q327) rfl rfl rfl (by decide +kernel) ⟨(Nat.le_of_ble_eq_true rfl), (Nat.le_of_ble_eq_true rfl)⟩) rfl hl.1 rfl rfl (Nat.le_of_ble_eq_true rfl) dJ7_newCapacity_29 ?_
  refine J.istore (lv' := [(5, .int v29), (4, .int ((a1 <<< (v8 &&& 31)) - v4)), (3, .int (a1 <<< (v8 &&& 31))), (2, .int v4), (0, .ref this), (1, .int a1)]) X.1.1 X.1.2.1 dJ7_newCapacity_32 hl (by decide) (by first | rfl | simp [va_rf_cat, jcI, jcA, jcJ, jcD, jcF]) (fun ls hl => ?_)
  refine J.pu (fun _ _ _ _ k => lv_iload X.1.1 X.1.2.1 dJ7_newCapacity_34 (lv_at hl 0 rfl) k) ?_
  refine J.pu (fun _ _ _ _ k => lv_ldc (v := 2147483647) X.1.1 X.1.2.1 X.1.2.2.2.1 (X.1.2.2.2.2 _ q335) dJ7_newCapacity_36 k) ?_
  refine J.br (fun _ _ _ _ ka kb => lv_icmp_ne (tgt := 51) X.1.1 X.1.2.1 dJ7_newCapacity_38 (by decide) kb ka) (fun c38 => ?_) (fun c38 => ?_)
  · exact J.nil_
  · refine J.pu (fun _ _ _ _ k => lv_iload X.1.1 X.1.2.1 dJ7_newCapacity_51 (lv_at hl 0 rfl) k) ?_
    refine J.pu (fun _ _ _ _ k => lv_aload_n X.1.1 X.1.2.1 dJ7_newCapacity_53 rfl (lv_at hl 4 rfl) k) ?_
    refine J.getI (k := 1) (ci := 20) X in_J8 (show jCl[20]? = some (RJ8, TJ8, 4) from rfl) (by decide) q291 (fun _ h => h) dJ7_newCapacity_54 (fun v54 h54 => ?_)
    refine J.pu (fun _ _ _ _ k => lv_ishr X.1.1 X.1.2.1 dJ7_newCapacity_57 k) ?_
    exact J.iret (vr := jrI) (fin := fun _ : Int32 => σ) (t := t) X hr (by rfl) (by rfl) dJ7_newCapacity_58
noncomputable def f_J7_isLatin1_J8 (G : jG) (n : Nat) (σ : jH) (this : Nat) : Option (Int32) :=
  if (1 : Int32) = 0 then (some 0) else ((gI σ (some this) 20 1).bind fun v7 => if v7 = 0 then (some 1) else (some 0))
set_option maxHeartbeats 4000000 in
set_option maxRecDepth 100000 in
theorem ct_f_J7_isLatin1_J8 (l : Launch) (G : jG) (n : Nat) (σ : jH) (this : Nat) : jCt l G yJ7_isLatin1 (ws_ yJ7_isLatin1 cJ7_isLatin1 1 (some .boolean)) 0 0 jrI [.ref this] σ (jrd σ (f_J7_isLatin1_J8 G n σ this)) := by
  refine jCt.rd (lv := [(0, .ref this)]) (plainFor_of_name (by decide)) (Nat.le_of_ble_eq_true rfl) rfl ?_
  intro t p e s m args below meth c ls X hr hnm hl
  have X : jCx p c cJ7_isLatin1 1 s m args RJ7 G meth := X
  unfold f_J7_isLatin1_J8
  refine J.getsI (v := 1) X (List.mem_of_getElem? (i := 0) rfl) q281 (fun _ h => h) dJ7_isLatin1_0 ?_
  refine J.br (fun _ _ _ _ ka kb => lv_if_eq (tgt := 17) X.1.1 X.1.2.1 dJ7_isLatin1_3 (by decide) ka kb) (fun c3 => ?_) (fun c3 => ?_)
  · refine J.pu (fun _ _ _ _ k => lv_iconst (v := 0) X.1.1 X.1.2.1 dJ7_isLatin1_17 (by decide) k) ?_
    exact J.zret (vr := jrI) (fin := fun _ : Int32 => σ) (t := t) X hr (by decide) (by rfl) (by rfl) dJ7_isLatin1_18
  · refine J.pu (fun _ _ _ _ k => lv_aload_n X.1.1 X.1.2.1 dJ7_isLatin1_6 rfl (lv_at hl 0 rfl) k) ?_
    refine J.getI (k := 1) (ci := 20) X in_J8 (show jCl[20]? = some (RJ8, TJ8, 4) from rfl) (by decide) q291 (fun _ h => h) dJ7_isLatin1_7 (fun v7 h7 => ?_)
    refine J.br (fun _ _ _ _ ka kb => lv_if_ne (tgt := 17) X.1.1 X.1.2.1 dJ7_isLatin1_10 (by decide) kb ka) (fun c10 => ?_) (fun c10 => ?_)
    · refine J.pu (fun _ _ _ _ k => lv_iconst (v := 1) X.1.1 X.1.2.1 dJ7_isLatin1_13 (by decide) k) ?_
      refine J.pu (fun _ _ _ _ k => lv_goto (tgt := 18) X.1.1 X.1.2.1 dJ7_isLatin1_14 (by decide) k) ?_
      exact J.zret (vr := jrI) (fin := fun _ : Int32 => σ) (t := t) X hr (by decide) (by rfl) (by rfl) dJ7_isLatin1_18
    · refine J.pu (fun _ _ _ _ k => lv_iconst (v := 0) X.1.1 X.1.2.1 dJ7_isLatin1_17 (by decide) k) ?_
      exact J.zret (vr := jrI) (fin := fun _ : Int32 => σ) (t := t) X hr (by decide) (by rfl) (by rfl) dJ7_isLatin1_18
noncomputable def f_J7_getValue_J8 (G : jG) (n : Nat) (σ : jH) (this : Nat) : Option (Option Nat) :=
  (gR σ (some this) 20 0).bind fun v1 => some v1
set_option maxHeartbeats 4000000 in
set_option maxRecDepth 100000 in
theorem ct_f_J7_getValue_J8 (l : Launch) (G : jG) (n : Nat) (σ : jH) (this : Nat) : jCt l G yJ7_getValue (ws_ yJ7_getValue cJ7_getValue 1 (some (.array .byte))) 0 0 jrR [.ref this] σ (jrd σ (f_J7_getValue_J8 G n σ this)) := by
  refine jCt.rd (lv := [(0, .ref this)]) (plainFor_of_name (by decide)) (Nat.le_of_ble_eq_true rfl) rfl ?_
  intro t p e s m args below meth c ls X hr hnm hl
  have X : jCx p c cJ7_getValue 1 s m args RJ7 G meth := X
  unfold f_J7_getValue_J8
  refine J.pu (fun _ _ _ _ k => lv_aload_n X.1.1 X.1.2.1 dJ7_getValue_0 rfl (lv_at hl 0 rfl) k) ?_
  refine J.getR (k := 0) (ci := 20) X in_J8 (show jCl[20]? = some (RJ8, TJ8, 4) from rfl) (by decide) q290 (fun _ h => h) dJ7_getValue_1 (fun v1 h1 => ?_)
  exact J.aret (vr := jrR) (fin := fun _ : Option Nat => σ) (t := t) X hr (Or.inr ⟨_, rfl⟩) (by rfl) (by rfl) dJ7_getValue_4
noncomputable def f_J7_length_J8 (G : jG) (n : Nat) (σ : jH) (this : Nat) : Option (Int32) :=
  (gI σ (some this) 20 3).bind fun v1 => some v1
set_option maxHeartbeats 4000000 in
set_option maxRecDepth 100000 in
theorem ct_f_J7_length_J8 (l : Launch) (G : jG) (n : Nat) (σ : jH) (this : Nat) : jCt l G yJ7_length (ws_ yJ7_length cJ7_length 1 (some .int)) 0 0 jrI [.ref this] σ (jrd σ (f_J7_length_J8 G n σ this)) := by
  refine jCt.rd (lv := [(0, .ref this)]) (plainFor_of_name (by decide)) (Nat.le_of_ble_eq_true rfl) rfl ?_
  intro t p e s m args below meth c ls X hr hnm hl
  have X : jCx p c cJ7_length 1 s m args RJ7 G meth := X
  unfold f_J7_length_J8
  refine J.pu (fun _ _ _ _ k => lv_aload_n X.1.1 X.1.2.1 dJ7_length_0 rfl (lv_at hl 0 rfl) k) ?_
  refine J.getI (k := 3) (ci := 20) X in_J8 (show jCl[20]? = some (RJ8, TJ8, 4) from rfl) (by decide) q294 (fun _ h => h) dJ7_length_1 (fun v1 h1 => ?_)
  exact J.iret (vr := jrI) (fin := fun _ : Int32 => σ) (t := t) X hr (by rfl) (by rfl) dJ7_length_4
noncomputable def f_J8_init_b (G : jG) (n : Nat) (σ : jH) (this : Nat) : Option (Unit × jH) :=
  bd (f_J7_init_J8 G n σ this 16) fun v3 S3 => some ((), S3)
noncomputable def f_J8_init (G : jG) (n : Nat) (σ : jH) (this : Nat) : Option (Unit × jH) := jck σ (f_J8_init_b G n σ this)
set_option maxHeartbeats 4000000 in
set_option maxRecDepth 100000 in
theorem ct_f_J8_init (l : Launch) (G : jG) (n : Nat) (σ : jH) (this : Nat) : jCt l G yJ8_init (ws_ yJ8_init cJ8_init 1 none) 2 51 jrV [.ref this] σ (f_J8_init G n σ this) := by
  refine jCt.wr (lv := [(0, .ref this)]) (plainFor_of_name (by decide)) (Nat.le_of_ble_eq_true rfl) rfl ?_
  intro t p e s m args below meth c ls X hr hnm hl
  have X : jCx p c cJ8_init 1 s m args RJ8 G meth := X
  unfold f_J8_init_b
  refine J.pu (fun _ _ _ _ k => lv_aload_n X.1.1 X.1.2.1 dJ8_init_0 rfl (lv_at hl 0 rfl) k) ?_
  refine J.pu (fun _ _ _ _ k => lv_bipush (v := 16) X.1.1 X.1.2.1 dJ8_init_1 (by decide) k) ?_
  refine J.bd' (fun v3 S3 h3 => ?_)
  refine J.cI (a := this) (As := [.int 16]) (rest := []) (s2 := []) X ⟨rfl, rfl⟩ (ct_f_J7_init_J8 l G n σ this 16) h3 (fun _ _ => jcwI 1 X.1.2.2.2.2 q277 q278 q147 q279 rfl rfl rfl (by decide +kernel) ⟨(Nat.le_of_ble_eq_true rfl), (Nat.le_of_ble_eq_true rfl)⟩) rfl hl.1 rfl rfl (Nat.le_of_ble_eq_true rfl) dJ8_init_3 ?_
  exact J.vret (vr := fun t : Unit × jH => jrV t.1) (fin := Prod.snd) (t := t) X hr (by rfl) (by rfl) dJ8_init_6
noncomputable def f_J8_length (G : jG) (n : Nat) (σ : jH) (this : Nat) : Option (Int32) :=
  (rc σ (some this) 20).bind fun o1 => (f_J7_length_J8 G n σ o1).bind fun v1 => some v1
set_option maxHeartbeats 4000000 in
set_option maxRecDepth 100000 in
theorem ct_f_J8_length (l : Launch) (G : jG) (n : Nat) (σ : jH) (this : Nat) : jCt l G yJ8_length (ws_ yJ8_length cJ8_length 1 (some .int)) 1 20 jrI [.ref this] σ (jrd σ (f_J8_length G n σ this)) := by
  refine jCt.rd (lv := [(0, .ref this)]) (plainFor_of_name (by decide)) (Nat.le_of_ble_eq_true rfl) rfl ?_
  intro t p e s m args below meth c ls X hr hnm hl
  have X : jCx p c cJ8_length 1 s m args RJ8 G meth := X
  unfold f_J8_length
  refine J.pu (fun _ _ _ _ k => lv_aload_n X.1.1 X.1.2.1 dJ8_length_0 rfl (lv_at hl 0 rfl) k) ?_
  refine J.bind (fun o1 g1 => ?_)
  refine J.bind (fun v1 h1 => ?_)
  refine J.cSU (q := (RJ8, TJ8, 4)) (ci := 20) (As := []) (rest := []) (s2 := [.int v1]) X ⟨rfl, rfl⟩ (ct_f_J7_length_J8 l G n σ o1) (jrd_of h1) (fun _ _ => va_cwSU 0 X.1.2.2.2.2 (lw_SU q475 q471 q303 q470 q147 q476) rfl rfl rfl (by decide +kernel) ⟨(Nat.le_of_ble_eq_true rfl), (Nat.le_of_ble_eq_true rfl)⟩) g1 rfl rfl hl.1 rfl rfl (Nat.le_of_ble_eq_true rfl) dJ8_length_1 ?_
  exact J.iret (vr := jrI) (fin := fun _ : Int32 => σ) (t := t) X hr (by rfl) (by rfl) dJ8_length_4
noncomputable def f_J9_coder (G : jG) (n : Nat) (σ : jH) (this : Nat) : Option (Int32) :=
  if (1 : Int32) = 0 then (some 1) else ((gI σ (some this) 21 1).bind fun v7 => jbo .byte v7 (some v7))
set_option maxHeartbeats 4000000 in
set_option maxRecDepth 100000 in
theorem ct_f_J9_coder (l : Launch) (G : jG) (n : Nat) (σ : jH) (this : Nat) : jCt l G yJ9_coder (ws_ yJ9_coder cJ9_coder 1 (some .byte)) 0 0 jrI [.ref this] σ (jrd σ (f_J9_coder G n σ this)) := by
  refine jCt.rd (lv := [(0, .ref this)]) (plainFor_of_name (by decide)) (Nat.le_of_ble_eq_true rfl) rfl ?_
  intro t p e s m args below meth c ls X hr hnm hl
  have X : jCx p c cJ9_coder 1 s m args RJ9 G meth := X
  unfold f_J9_coder
  refine J.getsI (v := 1) X (List.mem_of_getElem? (i := 0) rfl) q391 (fun _ h => h) dJ9_coder_0 ?_
  refine J.br (fun _ _ _ _ ka kb => lv_if_eq (tgt := 13) X.1.1 X.1.2.1 dJ9_coder_3 (by decide) ka kb) (fun c3 => ?_) (fun c3 => ?_)
  · refine J.pu (fun _ _ _ _ k => lv_iconst (v := 1) X.1.1 X.1.2.1 dJ9_coder_13 (by decide) k) ?_
    exact J.zret (vr := jrI) (fin := fun _ : Int32 => σ) (t := t) X hr (by decide) (by rfl) (by rfl) dJ9_coder_14
  · refine J.pu (fun _ _ _ _ k => lv_aload_n X.1.1 X.1.2.1 dJ9_coder_6 rfl (lv_at hl 0 rfl) k) ?_
    refine J.getI (k := 1) (ci := 21) X in_J9 (show jCl[21]? = some (RJ9, TJ9, 4) from rfl) (by decide) q533 (fun _ h => h) dJ9_coder_7 (fun v7 h7 => ?_)
    refine J.pu (fun _ _ _ _ k => lv_goto (tgt := 14) X.1.1 X.1.2.1 dJ9_coder_10 (by decide) k) ?_
    exact J.zretb (vr := jrI) (fin := fun _ : Int32 => σ) (t := t) X hr (by rfl) (by rfl) dJ9_coder_14
noncomputable def f_J9_checkIndex (G : jG) (n : Nat) (σ : jH) (a0 : Int32) (a1 : Int32) : Option (Unit) :=
  (f_J14_checkIndex G n σ a0 a1 (G.2.2.2 106)).bind fun v5 => some ()
set_option maxHeartbeats 4000000 in
set_option maxRecDepth 100000 in
theorem ct_f_J9_checkIndex (l : Launch) (G : jG) (n : Nat) (σ : jH) (a0 : Int32) (a1 : Int32) : jCt l G yJ9_checkIndex (ws_ yJ9_checkIndex cJ9_checkIndex 2 none) 1 22 jrV [.int a0, .int a1] σ (jrd σ (f_J9_checkIndex G n σ a0 a1)) := by
  refine jCt.rd (lv := [(0, .int a0), (1, .int a1)]) (plainFor_of_name (by decide)) (Nat.le_of_ble_eq_true rfl) rfl ?_
  intro t p e s m args below meth c ls X hr hnm hl
  have X : jCx p c cJ9_checkIndex 2 s m args RJ9 G meth := X
  unfold f_J9_checkIndex
  refine J.pu (fun _ _ _ _ k => lv_iload_n X.1.1 X.1.2.1 dJ9_checkIndex_0 rfl (lv_at hl 0 rfl) k) ?_
  refine J.pu (fun _ _ _ _ k => lv_iload_n X.1.1 X.1.2.1 dJ9_checkIndex_1 rfl (lv_at hl 1 rfl) k) ?_
  refine J.getsR (i := 106) X (List.mem_of_getElem? (i := 6) rfl) q369 (fun _ h => h) dJ9_checkIndex_2 ?_
  refine J.bind (fun v5 h5 => ?_)
  refine J.cS (As := [.int a0, .int a1, va_rf (G.2.2.2 106)]) (rest := []) (s2 := [.int v5]) X ⟨rfl, rfl⟩ (ct_f_J14_checkIndex l G n σ a0 a1 (G.2.2.2 106)) (jrd_of h5) (fun _ _ => va_cwS 3 X.1.2.2.2.2 (lw_S q1430 q860 q155 q861) rfl rfl rfl (by decide +kernel) ⟨(Nat.le_of_ble_eq_true rfl), (Nat.le_of_ble_eq_true rfl)⟩) rfl hl.1 rfl rfl (Nat.le_of_ble_eq_true rfl) dJ9_checkIndex_5 ?_
  refine J.pu (fun _ _ _ _ k => lv_pop X.1.1 X.1.2.1 dJ9_checkIndex_8 rfl k) ?_
  exact J.vret (vr := jrV) (fin := fun _ : Unit => σ) (t := t) X hr (by rfl) (by rfl) dJ9_checkIndex_9
noncomputable def f_J9_isLatin1 (G : jG) (n : Nat) (σ : jH) (this : Nat) : Option (Int32) :=
  if (1 : Int32) = 0 then (some 0) else ((gI σ (some this) 21 1).bind fun v7 => if v7 = 0 then (some 1) else (some 0))
set_option maxHeartbeats 4000000 in
set_option maxRecDepth 100000 in
theorem ct_f_J9_isLatin1 (l : Launch) (G : jG) (n : Nat) (σ : jH) (this : Nat) : jCt l G yJ9_isLatin1 (ws_ yJ9_isLatin1 cJ9_isLatin1 1 (some .boolean)) 0 0 jrI [.ref this] σ (jrd σ (f_J9_isLatin1 G n σ this)) := by
  refine jCt.rd (lv := [(0, .ref this)]) (plainFor_of_name (by decide)) (Nat.le_of_ble_eq_true rfl) rfl ?_
  intro t p e s m args below meth c ls X hr hnm hl
  have X : jCx p c cJ9_isLatin1 1 s m args RJ9 G meth := X
  unfold f_J9_isLatin1
  refine J.getsI (v := 1) X (List.mem_of_getElem? (i := 0) rfl) q391 (fun _ h => h) dJ9_isLatin1_0 ?_
  refine J.br (fun _ _ _ _ ka kb => lv_if_eq (tgt := 17) X.1.1 X.1.2.1 dJ9_isLatin1_3 (by decide) ka kb) (fun c3 => ?_) (fun c3 => ?_)
  · refine J.pu (fun _ _ _ _ k => lv_iconst (v := 0) X.1.1 X.1.2.1 dJ9_isLatin1_17 (by decide) k) ?_
    exact J.zret (vr := jrI) (fin := fun _ : Int32 => σ) (t := t) X hr (by decide) (by rfl) (by rfl) dJ9_isLatin1_18
  · refine J.pu (fun _ _ _ _ k => lv_aload_n X.1.1 X.1.2.1 dJ9_isLatin1_6 rfl (lv_at hl 0 rfl) k) ?_
    refine J.getI (k := 1) (ci := 21) X in_J9 (show jCl[21]? = some (RJ9, TJ9, 4) from rfl) (by decide) q533 (fun _ h => h) dJ9_isLatin1_7 (fun v7 h7 => ?_)
    refine J.br (fun _ _ _ _ ka kb => lv_if_ne (tgt := 17) X.1.1 X.1.2.1 dJ9_isLatin1_10 (by decide) kb ka) (fun c10 => ?_) (fun c10 => ?_)
    · refine J.pu (fun _ _ _ _ k => lv_iconst (v := 1) X.1.1 X.1.2.1 dJ9_isLatin1_13 (by decide) k) ?_
      refine J.pu (fun _ _ _ _ k => lv_goto (tgt := 18) X.1.1 X.1.2.1 dJ9_isLatin1_14 (by decide) k) ?_
      exact J.zret (vr := jrI) (fin := fun _ : Int32 => σ) (t := t) X hr (by decide) (by rfl) (by rfl) dJ9_isLatin1_18
    · refine J.pu (fun _ _ _ _ k => lv_iconst (v := 0) X.1.1 X.1.2.1 dJ9_isLatin1_17 (by decide) k) ?_
      exact J.zret (vr := jrI) (fin := fun _ : Int32 => σ) (t := t) X hr (by decide) (by rfl) (by rfl) dJ9_isLatin1_18
noncomputable def f_J9_equals_j36 (G : jG) (n : Nat) (σ : jH) (this : Nat) (a1 : Option Nat) (x2_36 : Option Nat) : Option (Int32) :=
  (gR σ (some this) 21 0).bind fun v37 => (gR σ x2_36 21 0).bind fun v41 => (f_J15_equals G n σ v37 v41).bind fun v44 => if v44 = 0 then (some 0) else (some 1)
noncomputable def f_J9_equals (G : jG) (n : Nat) (σ : jH) (this : Nat) (a1 : Option Nat) : Option (Int32) :=
  if (some this) = a1 then (some 1) else ((jIs σ a1 21).bind fun v8 => if v8 = 0 then (some 0) else ((jck' σ a1 [21]).bind fun _ => if (1 : Int32) = 0 then (f_J9_equals_j36 G n σ this a1 a1) else ((gI σ (some this) 21 1).bind fun v26 => (gI σ a1 21 1).bind fun v30 => if v26 = v30 then (f_J9_equals_j36 G n σ this a1 a1) else (some 0))))
set_option maxHeartbeats 4000000 in
set_option maxRecDepth 100000 in
theorem ct_f_J9_equals (l : Launch) (G : jG) (n : Nat) (σ : jH) (this : Nat) (a1 : Option Nat) : jCt l G yJ9_equals (ws_ yJ9_equals cJ9_equals 3 (some .boolean)) 1 22 jrI [.ref this, va_rf a1] σ (jrd σ (f_J9_equals G n σ this a1)) := by
  refine jCt.rd (lv := [(0, .ref this), (1, va_rf a1)]) (plainFor_of_name (by decide)) (by simp [lg_sl, va_rf_cat, jcI, jcA, jcJ, jcD, jcF]) (by simp [lv_args, va_rf_cat, jcI, jcA, jcJ, jcD, jcF]) ?_
  intro t p e s m args below meth c ls X hr hnm hl
  have X : jCx p c cJ9_equals 3 s m args RJ9 G meth := X
  have j36 : ∀ (x2_36 : Option Nat) (ls : Array Slot), lv_has ls 3 [(0, .ref this), (2, va_rf x2_36)] → jGo l G 1 22 σ (fun _ : Int32 => σ) jrI t p e s m args below meth c (f_J9_equals_j36 G n σ this a1 x2_36) σ (F0 m 36 ls []) := by
    intro x2_36 ls hl
    unfold f_J9_equals_j36
    refine J.pu (fun _ _ _ _ k => lv_aload_n X.1.1 X.1.2.1 dJ9_equals_36 rfl (lv_at hl 0 rfl) k) ?_
    refine J.getR (k := 0) (ci := 21) X in_J9 (show jCl[21]? = some (RJ9, TJ9, 4) from rfl) (by decide) q532 (fun _ h => h) dJ9_equals_37 (fun v37 h37 => ?_)
    refine J.pu (fun _ _ _ _ k => W.rload_n X.1.1 X.1.2.1 dJ9_equals_40 rfl (lv_at hl 1 rfl) k) ?_
    refine J.getR (k := 0) (ci := 21) X in_J9 (show jCl[21]? = some (RJ9, TJ9, 4) from rfl) (by decide) q532 (fun _ h => h) dJ9_equals_41 (fun v41 h41 => ?_)
    refine J.bind (fun v44 h44 => ?_)
    refine J.cS (As := [va_rf v37, va_rf v41]) (rest := []) (s2 := [.int v44]) X ⟨rfl, rfl⟩ (ct_f_J15_equals l G n σ v37 v41) (jrd_of h44) (fun _ _ => va_cwS 2 X.1.2.2.2.2 (lw_S q1562 q1563 q156 q1564) rfl rfl rfl (by decide +kernel) ⟨(Nat.le_of_ble_eq_true rfl), (Nat.le_of_ble_eq_true rfl)⟩) rfl hl.1 rfl rfl (Nat.le_of_ble_eq_true rfl) dJ9_equals_44 ?_
    refine J.br (fun _ _ _ _ ka kb => lv_if_eq (tgt := 54) X.1.1 X.1.2.1 dJ9_equals_47 (by decide) ka kb) (fun c47 => ?_) (fun c47 => ?_)
    · refine J.pu (fun _ _ _ _ k => lv_iconst (v := 0) X.1.1 X.1.2.1 dJ9_equals_54 (by decide) k) ?_
      exact J.zret (vr := jrI) (fin := fun _ : Int32 => σ) (t := t) X hr (by decide) (by rfl) (by rfl) dJ9_equals_55
    · refine J.pu (fun _ _ _ _ k => lv_iconst (v := 1) X.1.1 X.1.2.1 dJ9_equals_50 (by decide) k) ?_
      refine J.pu (fun _ _ _ _ k => lv_goto (tgt := 55) X.1.1 X.1.2.1 dJ9_equals_51 (by decide) k) ?_
      exact J.zret (vr := jrI) (fin := fun _ : Int32 => σ) (t := t) X hr (by decide) (by rfl) (by rfl) dJ9_equals_55
  unfold f_J9_equals
  refine J.pu (fun _ _ _ _ k => lv_aload_n X.1.1 X.1.2.1 dJ9_equals_0 rfl (lv_at hl 0 rfl) k) ?_
  refine J.pu (fun _ _ _ _ k => W.rload_n X.1.1 X.1.2.1 dJ9_equals_1 rfl (lv_at hl 1 rfl) k) ?_
  refine J.br (fun _ _ _ _ ka kb => lv_acmp_ne (tgt := 7) X.1.1 X.1.2.1 dJ9_equals_2 (by decide) kb ka) (fun c2 => ?_) (fun c2 => ?_)
  · refine J.pu (fun _ _ _ _ k => lv_iconst (v := 1) X.1.1 X.1.2.1 dJ9_equals_5 (by decide) k) ?_
    exact J.zret (vr := jrI) (fin := fun _ : Int32 => σ) (t := t) X hr (by decide) (by rfl) (by rfl) dJ9_equals_6
  · refine J.pu (fun _ _ _ _ k => W.rload_n X.1.1 X.1.2.1 dJ9_equals_7 rfl (lv_at hl 1 rfl) k) ?_
    refine J.inst (q := (RJ9, TJ9, 4)) (ci := 21) X q1561 rfl dJ9_equals_8 (fun v8 h8 => ?_)
    refine J.br (fun _ _ _ _ ka kb => lv_if_eq (tgt := 54) X.1.1 X.1.2.1 dJ9_equals_11 (by decide) ka kb) (fun c11 => ?_) (fun c11 => ?_)
    · refine J.pu (fun _ _ _ _ k => lv_iconst (v := 0) X.1.1 X.1.2.1 dJ9_equals_54 (by decide) k) ?_
      exact J.zret (vr := jrI) (fin := fun _ : Int32 => σ) (t := t) X hr (by decide) (by rfl) (by rfl) dJ9_equals_55
    · refine J.pu (fun _ _ _ _ k => W.rload_n X.1.1 X.1.2.1 dJ9_equals_14 rfl (lv_at hl 1 rfl) k) ?_
      refine J.cast (nm := "java/lang/String") X q1561 (List.forall_mem_cons.mpr ⟨⟨_, rfl, Or.inl rfl⟩, jnil_all⟩) dJ9_equals_15 ?_
      refine J.astore_n (r := a1) (i := 2) (lv' := [(2, va_rf a1), (0, .ref this), (1, va_rf a1)]) X.1.1 X.1.2.1 dJ9_equals_18 rfl hl (by decide) (by first | rfl | simp [va_rf_cat, jcI, jcA, jcJ, jcD, jcF]) (fun ls hl => ?_)
      refine J.getsI (v := 1) X (List.mem_of_getElem? (i := 0) rfl) q391 (fun _ h => h) dJ9_equals_19 ?_
      refine J.br (fun _ _ _ _ ka kb => lv_if_eq (tgt := 36) X.1.1 X.1.2.1 dJ9_equals_22 (by decide) ka kb) (fun c22 => ?_) (fun c22 => ?_)
      · exact j36 a1 ls (lv_sub hl [1, 0] rfl)
      · refine J.pu (fun _ _ _ _ k => lv_aload_n X.1.1 X.1.2.1 dJ9_equals_25 rfl (lv_at hl 1 rfl) k) ?_
        refine J.getI (k := 1) (ci := 21) X in_J9 (show jCl[21]? = some (RJ9, TJ9, 4) from rfl) (by decide) q533 (fun _ h => h) dJ9_equals_26 (fun v26 h26 => ?_)
        refine J.pu (fun _ _ _ _ k => W.rload_n X.1.1 X.1.2.1 dJ9_equals_29 rfl (lv_at hl 0 rfl) k) ?_
        refine J.getI (k := 1) (ci := 21) X in_J9 (show jCl[21]? = some (RJ9, TJ9, 4) from rfl) (by decide) q533 (fun _ h => h) dJ9_equals_30 (fun v30 h30 => ?_)
        refine J.br (fun _ _ _ _ ka kb => lv_icmp_ne (tgt := 54) X.1.1 X.1.2.1 dJ9_equals_33 (by decide) kb ka) (fun c33 => ?_) (fun c33 => ?_)
        · exact j36 a1 ls (lv_sub hl [1, 0] rfl)
        · refine J.pu (fun _ _ _ _ k => lv_iconst (v := 0) X.1.1 X.1.2.1 dJ9_equals_54 (by decide) k) ?_
          exact J.zret (vr := jrI) (fin := fun _ : Int32 => σ) (t := t) X hr (by decide) (by rfl) (by rfl) dJ9_equals_55
noncomputable def f_J0_isEmpty_J19 (G : jG) (n : Nat) (σ : jH) (this : Nat) : Option (Int32) :=
  (rc σ (some this) 16).bind fun o1 => (f_J19_size G n σ o1).bind fun v1 => if v1 = 0 then (some 1) else (some 0)
set_option maxHeartbeats 4000000 in
set_option maxRecDepth 100000 in
theorem ct_f_J0_isEmpty_J19 (l : Launch) (G : jG) (n : Nat) (σ : jH) (this : Nat) : jCt l G yJ0_isEmpty (ws_ yJ0_isEmpty cJ0_isEmpty 1 (some .boolean)) 1 20 jrI [.ref this] σ (jrd σ (f_J0_isEmpty_J19 G n σ this)) := by
  refine jCt.rd (lv := [(0, .ref this)]) (plainFor_of_name (by decide)) (Nat.le_of_ble_eq_true rfl) rfl ?_
  intro t p e s m args below meth c ls X hr hnm hl
  have X : jCx p c cJ0_isEmpty 1 s m args RJ0 G meth := X
  unfold f_J0_isEmpty_J19
  refine J.pu (fun _ _ _ _ k => lv_aload_n X.1.1 X.1.2.1 dJ0_isEmpty_0 rfl (lv_at hl 0 rfl) k) ?_
  refine J.bind (fun o1 g1 => ?_)
  refine J.bind (fun v1 h1 => ?_)
  refine J.cU (q := (RJ19, TJ19, 4)) (ci := 16) (As := []) (rest := []) (s2 := [.int v1]) X ⟨rfl, rfl⟩ (ct_f_J19_size l G n σ o1) (jrd_of h1) (fun _ _ => va_cwA (owner := "java/util/AbstractCollection") 0 X.1.2.2.2.2 (lw_U q1737 q3338 q3341 q839 q163 q841) rfl rfl rfl (X.2.1.2.2.2.2.2.2.2.2.2.2.2.1 ⟨"java/util/AbstractCollection", "size", "()I"⟩ (List.mem_of_getElem? (i := 16) rfl)) (by decide +kernel) ⟨(Nat.le_of_ble_eq_true rfl), (Nat.le_of_ble_eq_true rfl)⟩) g1 rfl rfl hl.1 rfl rfl (Nat.le_of_ble_eq_true rfl) dJ0_isEmpty_1 ?_
  refine J.br (fun _ _ _ _ ka kb => lv_if_ne (tgt := 11) X.1.1 X.1.2.1 dJ0_isEmpty_4 (by decide) kb ka) (fun c4 => ?_) (fun c4 => ?_)
  · refine J.pu (fun _ _ _ _ k => lv_iconst (v := 1) X.1.1 X.1.2.1 dJ0_isEmpty_7 (by decide) k) ?_
    refine J.pu (fun _ _ _ _ k => lv_goto (tgt := 12) X.1.1 X.1.2.1 dJ0_isEmpty_8 (by decide) k) ?_
    exact J.zret (vr := jrI) (fin := fun _ : Int32 => σ) (t := t) X hr (by decide) (by rfl) (by rfl) dJ0_isEmpty_12
  · refine J.pu (fun _ _ _ _ k => lv_iconst (v := 0) X.1.1 X.1.2.1 dJ0_isEmpty_11 (by decide) k) ?_
    exact J.zret (vr := jrI) (fin := fun _ : Int32 => σ) (t := t) X hr (by decide) (by rfl) (by rfl) dJ0_isEmpty_12
noncomputable def f_J11_vectorizedHashCode (G : jG) (n : Nat) (σ : jH) (a0 : Option Nat) (a1 : Int32) (a2 : Int32) (a3 : Int32) (a4 : Int32) : Option (Int32) :=
  if a4 = 4 then ((gB G σ a0).bind fun _ => (f_J11_signedHashCode G n σ a3 a0 a1 a2).bind fun v51 => some v51) else if a4 = 5 then (none) else if a4 = 8 then (none) else if a4 = 9 then (none) else if a4 = 10 then (none) else none
set_option maxHeartbeats 4000000 in
set_option maxRecDepth 100000 in
theorem ct_f_J11_vectorizedHashCode (l : Launch) (G : jG) (n : Nat) (σ : jH) (a0 : Option Nat) (a1 : Int32) (a2 : Int32) (a3 : Int32) (a4 : Int32) : jCt l G yJ11_vectorizedHashCode (ws_ yJ11_vectorizedHashCode cJ11_vectorizedHashCode 5 (some .int)) 1 25 jrI [va_rf a0, .int a1, .int a2, .int a3, .int a4] σ (jrd σ (f_J11_vectorizedHashCode G n σ a0 a1 a2 a3 a4)) := by
  refine jCt.rd (lv := [(0, va_rf a0), (1, .int a1), (2, .int a2), (3, .int a3), (4, .int a4)]) (plainFor_of_name (by decide)) (by simp [lg_sl, va_rf_cat, jcI, jcA, jcJ, jcD, jcF]) (by simp [lv_args, va_rf_cat, jcI, jcA, jcJ, jcD, jcF]) ?_
  intro t p e s m args below meth c ls X hr hnm hl
  have X : jCx p c cJ11_vectorizedHashCode 5 s m args RJ11 G meth := X
  unfold f_J11_vectorizedHashCode
  refine J.pu (fun _ _ _ _ k => lv_iload X.1.1 X.1.2.1 dJ11_vectorizedHashCode_0 (lv_at hl 4 rfl) k) ?_
  refine J.ite (fun c2_4 => ?_) (fun c2_4 => ?_)
  · refine J.pu (fun _ _ _ _ k => lv_tableIn (tgt := 44) (off := 42) X.1.1 X.1.2.1 dJ11_vectorizedHashCode_2 (by rw [c2_4]; decide) (by rw [c2_4]; decide) (by rw [c2_4]; decide) (by decide) k) ?_
    refine J.pu (fun _ _ _ _ k => lv_iload_n X.1.1 X.1.2.1 dJ11_vectorizedHashCode_44 rfl (lv_at hl 3 rfl) k) ?_
    refine J.pu (fun _ _ _ _ k => W.rload_n X.1.1 X.1.2.1 dJ11_vectorizedHashCode_45 rfl (lv_at hl 0 rfl) k) ?_
    refine J.castB X q1644 dJ11_vectorizedHashCode_46 ?_
    refine J.pu (fun _ _ _ _ k => lv_iload_n X.1.1 X.1.2.1 dJ11_vectorizedHashCode_49 rfl (lv_at hl 1 rfl) k) ?_
    refine J.pu (fun _ _ _ _ k => lv_iload_n X.1.1 X.1.2.1 dJ11_vectorizedHashCode_50 rfl (lv_at hl 2 rfl) k) ?_
    refine J.bind (fun v51 h51 => ?_)
    refine J.cS (As := [.int a3, va_rf a0, .int a1, .int a2]) (rest := []) (s2 := [.int v51]) X ⟨rfl, rfl⟩ (ct_f_J11_signedHashCode l G n σ a3 a0 a1 a2) (jrd_of h51) (fun _ _ => va_cwS 4 X.1.2.2.2.2 (lw_S q1645 q1646 q151 q1647) rfl rfl rfl (by decide +kernel) ⟨(Nat.le_of_ble_eq_true rfl), (Nat.le_of_ble_eq_true rfl)⟩) rfl hl.1 rfl rfl (Nat.le_of_ble_eq_true rfl) dJ11_vectorizedHashCode_51 ?_
    refine J.pu (fun _ _ _ _ k => lv_goto (tgt := 157) X.1.1 X.1.2.1 dJ11_vectorizedHashCode_54 (by decide) k) ?_
    exact J.iret (vr := jrI) (fin := fun _ : Int32 => σ) (t := t) X hr (by rfl) (by rfl) dJ11_vectorizedHashCode_157
  refine J.ite (fun c2_5 => ?_) (fun c2_5 => ?_)
  · refine J.pu (fun _ _ _ _ k => lv_tableIn (tgt := 57) (off := 55) X.1.1 X.1.2.1 dJ11_vectorizedHashCode_2 (by rw [c2_5]; decide) (by rw [c2_5]; decide) (by rw [c2_5]; decide) (by decide) k) ?_
    exact J.nil_
  refine J.ite (fun c2_8 => ?_) (fun c2_8 => ?_)
  · refine J.pu (fun _ _ _ _ k => lv_tableIn (tgt := 90) (off := 88) X.1.1 X.1.2.1 dJ11_vectorizedHashCode_2 (by rw [c2_8]; decide) (by rw [c2_8]; decide) (by rw [c2_8]; decide) (by decide) k) ?_
    exact J.nil_
  refine J.ite (fun c2_9 => ?_) (fun c2_9 => ?_)
  · refine J.pu (fun _ _ _ _ k => lv_tableIn (tgt := 103) (off := 101) X.1.1 X.1.2.1 dJ11_vectorizedHashCode_2 (by rw [c2_9]; decide) (by rw [c2_9]; decide) (by rw [c2_9]; decide) (by decide) k) ?_
    exact J.nil_
  refine J.ite (fun c2_10 => ?_) (fun c2_10 => ?_)
  · refine J.pu (fun _ _ _ _ k => lv_tableIn (tgt := 116) (off := 114) X.1.1 X.1.2.1 dJ11_vectorizedHashCode_2 (by rw [c2_10]; decide) (by rw [c2_10]; decide) (by rw [c2_10]; decide) (by decide) k) ?_
    exact J.nil_
  by_cases b2 : a4.toInt < 4 ∨ 10 < a4.toInt
  · refine J.pu (fun _ _ _ _ k => lv_tableOut (tgt := 129) X.1.1 X.1.2.1 dJ11_vectorizedHashCode_2 b2 (by decide) k) ?_
    exact J.nil_
  · by_cases e2_6 : a4 = 6
    · refine J.pu (fun _ _ _ _ k => lv_tableIn (tgt := 129) (off := 127) X.1.1 X.1.2.1 dJ11_vectorizedHashCode_2 (by rw [e2_6]; decide) (by rw [e2_6]; decide) (by rw [e2_6]; decide) (by decide) k) ?_
      exact J.nil_
    by_cases e2_7 : a4 = 7
    · refine J.pu (fun _ _ _ _ k => lv_tableIn (tgt := 129) (off := 127) X.1.1 X.1.2.1 dJ11_vectorizedHashCode_2 (by rw [e2_7]; decide) (by rw [e2_7]; decide) (by rw [e2_7]; decide) (by decide) k) ?_
      exact J.nil_
    exfalso; have := lv_neT c2_4 (a := 4) rfl; have := lv_neT c2_5 (a := 5) rfl; have := lv_neT c2_8 (a := 8) rfl; have := lv_neT c2_9 (a := 9) rfl; have := lv_neT c2_10 (a := 10) rfl; have := lv_neT e2_6 (a := 6) rfl; have := lv_neT e2_7 (a := 7) rfl; omega
noncomputable def f_J13_copyOfRangeByte_b (G : jG) (n : Nat) (σ : jH) (a0 : Option Nat) (a1 : Int32) (a2 : Int32) : Option ((Option Nat) × jH) :=
  (f_J13_checkLength G n σ a1 a2).bind fun v2 => bd (nI' σ 1 (a2 - a1)) fun v10 S10 => (aLen' S10 a0).bind fun v20 => (J12_min n (v20 - a1) (a2 - a1)).bind fun v24 => (acB G S10 a0 a1 (some v10) 0 v24).bind fun S27 => some ((some v10), S27)
noncomputable def f_J13_copyOfRangeByte (G : jG) (n : Nat) (σ : jH) (a0 : Option Nat) (a1 : Int32) (a2 : Int32) : Option ((Option Nat) × jH) := jck σ (f_J13_copyOfRangeByte_b G n σ a0 a1 a2)
set_option maxHeartbeats 4000000 in
set_option maxRecDepth 100000 in
theorem ct_f_J13_copyOfRangeByte (l : Launch) (G : jG) (n : Nat) (σ : jH) (a0 : Option Nat) (a1 : Int32) (a2 : Int32) : jCt l G yJ13_copyOfRangeByte (ws_ yJ13_copyOfRangeByte cJ13_copyOfRangeByte 5 (some (.array .byte))) 1 400 jrR [va_rf a0, .int a1, .int a2] σ (f_J13_copyOfRangeByte G n σ a0 a1 a2) := by
  refine jCt.wr (lv := [(0, va_rf a0), (1, .int a1), (2, .int a2)]) (plainFor_of_name (by decide)) (by simp [lg_sl, va_rf_cat, jcI, jcA, jcJ, jcD, jcF]) (by simp [lv_args, va_rf_cat, jcI, jcA, jcJ, jcD, jcF]) ?_
  intro t p e s m args below meth c ls X hr hnm hl
  have X : jCx p c cJ13_copyOfRangeByte 5 s m args RJ13 G meth := X
  unfold f_J13_copyOfRangeByte_b
  refine J.pu (fun _ _ _ _ k => lv_iload_n X.1.1 X.1.2.1 dJ13_copyOfRangeByte_0 rfl (lv_at hl 1 rfl) k) ?_
  refine J.pu (fun _ _ _ _ k => lv_iload_n X.1.1 X.1.2.1 dJ13_copyOfRangeByte_1 rfl (lv_at hl 2 rfl) k) ?_
  refine J.bind (fun v2 h2 => ?_)
  refine J.cS (As := [.int a1, .int a2]) (rest := []) (s2 := []) X ⟨rfl, rfl⟩ (ct_f_J13_checkLength l G n σ a1 a2) (jrd_of h2) (fun _ _ => va_cwS 2 X.1.2.2.2.2 (lw_S q484 q485 q153 q486) rfl rfl rfl (by decide +kernel) ⟨(Nat.le_of_ble_eq_true rfl), (Nat.le_of_ble_eq_true rfl)⟩) rfl hl.1 rfl rfl (Nat.le_of_ble_eq_true rfl) dJ13_copyOfRangeByte_2 ?_
  refine J.pu (fun _ _ _ _ k => lv_iload_n X.1.1 X.1.2.1 dJ13_copyOfRangeByte_5 rfl (lv_at hl 2 rfl) k) ?_
  refine J.pu (fun _ _ _ _ k => lv_iload_n X.1.1 X.1.2.1 dJ13_copyOfRangeByte_6 rfl (lv_at hl 1 rfl) k) ?_
  refine J.pu (fun _ _ _ _ k => lv_isub X.1.1 X.1.2.1 dJ13_copyOfRangeByte_7 k) ?_
  refine J.istore_n (i := 3) (lv' := [(3, .int (a2 - a1)), (0, va_rf a0), (1, .int a1), (2, .int a2)]) X.1.1 X.1.2.1 dJ13_copyOfRangeByte_8 rfl hl (by decide) (by first | rfl | simp [va_rf_cat, jcI, jcA, jcJ, jcD, jcF]) (fun ls hl => ?_)
  refine J.pu (fun _ _ _ _ k => lv_iload_n X.1.1 X.1.2.1 dJ13_copyOfRangeByte_9 rfl (lv_at hl 0 rfl) k) ?_
  refine J.nI1 X ⟨rfl, rfl⟩ dJ13_copyOfRangeByte_10 (fun v10 S10 h10 => ?_)
  refine J.astore (r := (some v10)) (lv' := [(4, va_rf (some v10)), (3, .int (a2 - a1)), (0, va_rf a0), (1, .int a1), (2, .int a2)]) X.1.1 X.1.2.1 dJ13_copyOfRangeByte_12 hl (by decide) (by first | rfl | simp [va_rf_cat, jcI, jcA, jcJ, jcD, jcF]) (fun ls hl => ?_)
  refine J.pu (fun _ _ _ _ k => W.rload_n X.1.1 X.1.2.1 dJ13_copyOfRangeByte_14 rfl (lv_at hl 2 rfl) k) ?_
  refine J.pu (fun _ _ _ _ k => lv_iload_n X.1.1 X.1.2.1 dJ13_copyOfRangeByte_15 rfl (lv_at hl 3 rfl) k) ?_
  refine J.pu (fun _ _ _ _ k => W.rload X.1.1 X.1.2.1 dJ13_copyOfRangeByte_16 (lv_at hl 0 rfl) k) ?_
  refine J.pu (fun _ _ _ _ k => lv_iconst (v := 0) X.1.1 X.1.2.1 dJ13_copyOfRangeByte_18 (by decide) k) ?_
  refine J.pu (fun _ _ _ _ k => W.rload_n X.1.1 X.1.2.1 dJ13_copyOfRangeByte_19 rfl (lv_at hl 2 rfl) k) ?_
  refine J.len X dJ13_copyOfRangeByte_20 (fun v20 h20 => ?_)
  refine J.pu (fun _ _ _ _ k => lv_iload_n X.1.1 X.1.2.1 dJ13_copyOfRangeByte_21 rfl (lv_at hl 3 rfl) k) ?_
  refine J.pu (fun _ _ _ _ k => lv_isub X.1.1 X.1.2.1 dJ13_copyOfRangeByte_22 k) ?_
  refine J.pu (fun _ _ _ _ k => lv_iload_n X.1.1 X.1.2.1 dJ13_copyOfRangeByte_23 rfl (lv_at hl 1 rfl) k) ?_
  refine J.bind (fun v24 h24 => ?_)
  refine J.cS (As := [.int (v20 - a1), .int (a2 - a1)]) (rest := [.int 0, va_rf (some v10), .int a1, va_rf a0]) (s2 := [.int v24, .int 0, va_rf (some v10), .int a1, va_rf a0]) X ⟨rfl, rfl⟩ (ct_J12_min l G S10 n (v20 - a1) (a2 - a1)) (jrd_of h24) (fun _ _ => va_cwS 2 X.1.2.2.2.2 (lw_S q346 q347 q152 q348) rfl rfl rfl (by decide +kernel) ⟨(Nat.le_of_ble_eq_true rfl), (Nat.le_of_ble_eq_true rfl)⟩) rfl hl.1 rfl rfl (by simp [va_rf_cat, jcI, jcA, jcJ, jcD, jcF]) dJ13_copyOfRangeByte_24 ?_
  refine J.acB (rest := []) X q349 hl.1 (Nat.le_of_ble_eq_true rfl) (Nat.le_trans (m := 400) (show 0 + (nativeFrameWords "java/lang/System" "arraycopy" 5 + 11) ≤ 400 by decide +kernel) (Nat.le_of_ble_eq_true rfl)) dJ13_copyOfRangeByte_27 (fun S27 h27 => ?_)
  refine J.pu (fun _ _ _ _ k => W.rload X.1.1 X.1.2.1 dJ13_copyOfRangeByte_30 (lv_at hl 0 rfl) k) ?_
  exact J.aret (vr := fun t : (Option Nat) × jH => jrR t.1) (fin := Prod.snd) (t := t) X hr (Or.inr ⟨_, rfl⟩) (by rfl) (by rfl) dJ13_copyOfRangeByte_32
noncomputable def f_J13_copyOf_2_b (G : jG) (n : Nat) (σ : jH) (a0 : Option Nat) (a1 : Int32) : Option ((Option Nat) × jH) :=
  (gC G σ a0).bind fun _ => bd (f_J13_copyOf_3 G n σ a0 a1 (G.2.2.2 109)) fun v6 S6 => some (v6, S6)
noncomputable def f_J13_copyOf_2 (G : jG) (n : Nat) (σ : jH) (a0 : Option Nat) (a1 : Int32) : Option ((Option Nat) × jH) := jck σ (f_J13_copyOf_2_b G n σ a0 a1)
set_option maxHeartbeats 4000000 in
set_option maxRecDepth 100000 in
theorem ct_f_J13_copyOf_2 (l : Launch) (G : jG) (n : Nat) (σ : jH) (a0 : Option Nat) (a1 : Int32) : jCt l G yJ13_copyOf_2 (ws_ yJ13_copyOf_2 cJ13_copyOf_2 2 (some (.array (.object "java/lang/Object")))) 2 423 jrR [va_rf a0, .int a1] σ (f_J13_copyOf_2 G n σ a0 a1) := by
  refine jCt.wr (lv := [(0, va_rf a0), (1, .int a1)]) (plainFor_of_name (by decide)) (by simp [lg_sl, va_rf_cat, jcI, jcA, jcJ, jcD, jcF]) (by simp [lv_args, va_rf_cat, jcI, jcA, jcJ, jcD, jcF]) ?_
  intro t p e s m args below meth c ls X hr hnm hl
  have X : jCx p c cJ13_copyOf_2 2 s m args RJ13 G meth := X
  unfold f_J13_copyOf_2_b
  refine J.pu (fun _ _ _ _ k => W.rload_n X.1.1 X.1.2.1 dJ13_copyOf_2_0 rfl (lv_at hl 0 rfl) k) ?_
  refine J.pu (fun _ _ _ _ k => lv_iload_n X.1.1 X.1.2.1 dJ13_copyOf_2_1 rfl (lv_at hl 1 rfl) k) ?_
  refine J.pu (fun _ _ _ _ k => W.rload_n X.1.1 X.1.2.1 dJ13_copyOf_2_2 rfl (lv_at hl 0 rfl) k) ?_
  refine J.getC (rest := [.int a1, va_rf a0]) X q603 hl.1 (Nat.le_of_ble_eq_true rfl) (Nat.le_trans (m := 60) (by simp [va_rf_cat, jcI, jcA, jcJ, jcD, jcF]) (Nat.le_of_ble_eq_true rfl)) dJ13_copyOf_2_3 ?_
  refine J.bd' (fun v6 S6 h6 => ?_)
  refine J.cS (As := [va_rf a0, .int a1, va_rf (G.2.2.2 109)]) (rest := []) (s2 := [va_rf v6]) X ⟨rfl, rfl⟩ (ct_f_J13_copyOf_3 l G n σ a0 a1 (G.2.2.2 109)) h6 (fun _ _ => va_cwS 3 X.1.2.2.2.2 (lw_S q641 q642 q153 q643) rfl rfl rfl (by decide +kernel) ⟨(Nat.le_of_ble_eq_true rfl), (Nat.le_of_ble_eq_true rfl)⟩) rfl hl.1 rfl rfl (Nat.le_of_ble_eq_true rfl) dJ13_copyOf_2_6 ?_
  exact J.aret (vr := fun t : (Option Nat) × jH => jrR t.1) (fin := Prod.snd) (t := t) X hr (Or.inr ⟨_, rfl⟩) (by rfl) (by rfl) dJ13_copyOf_2_9
noncomputable def f_J13_fill_h10 (G : jG) (n : Nat) (a0 : Option Nat) (a1 : Int32) (a2 : Int32) (a3 : Int32) (rec10 : Int32 × jH → Option (Unit × jH)) (q10 : Int32 × jH) : Option (Unit × jH) :=
  let x4_10 := q10.1; let B10 := q10.2; if a2 ≤ x4_10 then (some ((), B10)) else ((sI G B10 a0 1 x4_10 a3).bind fun S20 => rec10 ((x4_10 + 1), S20))
noncomputable def f_J13_fill_b (G : jG) (n : Nat) (σ : jH) (a0 : Option Nat) (a1 : Int32) (a2 : Int32) (a3 : Int32) : Option (Unit × jH) :=
  (aLen' σ a0).bind fun v1 => (f_J13_rangeCheck G n σ v1 a1 a2).bind fun v4 => jloop (f_J13_fill_h10 G n a0 a1 a2 a3) n (a1, σ)
noncomputable def f_J13_fill (G : jG) (n : Nat) (σ : jH) (a0 : Option Nat) (a1 : Int32) (a2 : Int32) (a3 : Int32) : Option (Unit × jH) := jck σ (f_J13_fill_b G n σ a0 a1 a2 a3)
set_option maxHeartbeats 4000000 in
set_option maxRecDepth 100000 in
theorem ct_f_J13_fill (l : Launch) (G : jG) (n : Nat) (σ : jH) (a0 : Option Nat) (a1 : Int32) (a2 : Int32) (a3 : Int32) : jCt l G yJ13_fill (ws_ yJ13_fill cJ13_fill 5 none) 1 22 jrV [va_rf a0, .int a1, .int a2, .int a3] σ (f_J13_fill G n σ a0 a1 a2 a3) := by
  refine jCt.wr (lv := [(0, va_rf a0), (1, .int a1), (2, .int a2), (3, .int a3)]) (plainFor_of_name (by decide)) (by simp [lg_sl, va_rf_cat, jcI, jcA, jcJ, jcD, jcF]) (by simp [lv_args, va_rf_cat, jcI, jcA, jcJ, jcD, jcF]) ?_
  intro t p e s m args below meth c ls X hr hnm hl
  have X : jCx p c cJ13_fill 5 s m args RJ13 G meth := X
  have L10 : ∀ (n10 : Nat) (x4_10 : Int32) (B10 : jH) (ls : Array Slot), lv_has ls 5 [(0, va_rf a0), (2, .int a2), (3, .int a3), (4, .int x4_10)] → jGo l G 1 22 σ (Prod.snd : Unit × jH → jH) (fun t => jrV t.1) t p e s m args below meth c (jloop (f_J13_fill_h10 G n a0 a1 a2 a3) n10 (x4_10, B10)) B10 (F0 m 10 ls []) := by
    intro n10
    induction n10 with
    | zero => intro x4_10 B10 ls hl; exact J.nil_
    | succ n10 ih10 =>
      intro x4_10 B10 ls hl
      refine J.eq (jloop_s _ _ _) ?_
      dsimp only [f_J13_fill_h10]
      refine J.pu (fun _ _ _ _ k => lv_iload X.1.1 X.1.2.1 dJ13_fill_10 (lv_at hl 3 rfl) k) ?_
      refine J.pu (fun _ _ _ _ k => lv_iload_n X.1.1 X.1.2.1 dJ13_fill_12 rfl (lv_at hl 1 rfl) k) ?_
      refine J.br (fun _ _ _ _ ka kb => lv_icmp_ge (tgt := 27) X.1.1 X.1.2.1 dJ13_fill_13 (by decide) ka kb) (fun c13 => ?_) (fun c13 => ?_)
      · exact J.vret (vr := fun t : Unit × jH => jrV t.1) (fin := Prod.snd) (t := t) X hr (by rfl) (by rfl) dJ13_fill_27
      · refine J.pu (fun _ _ _ _ k => W.rload_n X.1.1 X.1.2.1 dJ13_fill_16 rfl (lv_at hl 0 rfl) k) ?_
        refine J.pu (fun _ _ _ _ k => lv_iload X.1.1 X.1.2.1 dJ13_fill_17 (lv_at hl 3 rfl) k) ?_
        refine J.pu (fun _ _ _ _ k => lv_iload_n X.1.1 X.1.2.1 dJ13_fill_19 rfl (lv_at hl 2 rfl) k) ?_
        refine J.sI1 X dJ13_fill_20 (fun S20 h20 => ?_)
        refine J.iinc (k := 3) (lv' := [(4, .int (x4_10 + 1)), (0, va_rf a0), (2, .int a2), (3, .int a3)]) (w := (x4_10 + 1)) X.1.1 X.1.2.1 dJ13_fill_21 hl rfl rfl (by decide) (by first | rfl | simp [va_rf_cat, jcI, jcA, jcJ, jcD, jcF]) (fun ls hl => ?_)
        refine J.pu (fun _ _ _ _ k => lv_goto (tgt := 10) X.1.1 X.1.2.1 dJ13_fill_24 (by decide) k) ?_
        exact ih10 (x4_10 + 1) S20 ls (lv_sub hl [1, 2, 3, 0] rfl)
  unfold f_J13_fill_b
  refine J.pu (fun _ _ _ _ k => W.rload_n X.1.1 X.1.2.1 dJ13_fill_0 rfl (lv_at hl 0 rfl) k) ?_
  refine J.len X dJ13_fill_1 (fun v1 h1 => ?_)
  refine J.pu (fun _ _ _ _ k => lv_iload_n X.1.1 X.1.2.1 dJ13_fill_2 rfl (lv_at hl 1 rfl) k) ?_
  refine J.pu (fun _ _ _ _ k => lv_iload_n X.1.1 X.1.2.1 dJ13_fill_3 rfl (lv_at hl 2 rfl) k) ?_
  refine J.bind (fun v4 h4 => ?_)
  refine J.cS (As := [.int v1, .int a1, .int a2]) (rest := []) (s2 := []) X ⟨rfl, rfl⟩ (ct_f_J13_rangeCheck l G n σ v1 a1 a2) (jrd_of h4) (fun _ _ => va_cwS 3 X.1.2.2.2.2 (lw_S q2313 q2314 q153 q2315) rfl rfl rfl (by decide +kernel) ⟨(Nat.le_of_ble_eq_true rfl), (Nat.le_of_ble_eq_true rfl)⟩) rfl hl.1 rfl rfl (Nat.le_of_ble_eq_true rfl) dJ13_fill_4 ?_
  refine J.pu (fun _ _ _ _ k => lv_iload_n X.1.1 X.1.2.1 dJ13_fill_7 rfl (lv_at hl 1 rfl) k) ?_
  refine J.istore (lv' := [(4, .int a1), (0, va_rf a0), (1, .int a1), (2, .int a2), (3, .int a3)]) X.1.1 X.1.2.1 dJ13_fill_8 hl (by decide) (by first | rfl | simp [va_rf_cat, jcI, jcA, jcJ, jcD, jcF]) (fun ls hl => ?_)
  exact L10 n a1 σ ls (lv_sub hl [1, 3, 4, 0] rfl)
noncomputable def f_J15_charAt (G : jG) (n : Nat) (σ : jH) (a0 : Option Nat) (a1 : Int32) : Option (Int32) :=
  (aLen' σ a0).bind fun v2 => (f_J9_checkIndex G n σ a1 v2).bind fun v3 => (aI σ a0 1 a1).bind fun v8 => jbo .char (((v8 &&& 255).toUInt32 % 65536).toInt32) (some (((v8 &&& 255).toUInt32 % 65536).toInt32))
set_option maxHeartbeats 4000000 in
set_option maxRecDepth 100000 in
theorem ct_f_J15_charAt (l : Launch) (G : jG) (n : Nat) (σ : jH) (a0 : Option Nat) (a1 : Int32) : jCt l G yJ15_charAt (ws_ yJ15_charAt cJ15_charAt 2 (some .char)) 2 43 jrI [va_rf a0, .int a1] σ (jrd σ (f_J15_charAt G n σ a0 a1)) := by
  refine jCt.rd (lv := [(0, va_rf a0), (1, .int a1)]) (plainFor_of_name (by decide)) (by simp [lg_sl, va_rf_cat, jcI, jcA, jcJ, jcD, jcF]) (by simp [lv_args, va_rf_cat, jcI, jcA, jcJ, jcD, jcF]) ?_
  intro t p e s m args below meth c ls X hr hnm hl
  have X : jCx p c cJ15_charAt 2 s m args RJ15 G meth := X
  unfold f_J15_charAt
  refine J.pu (fun _ _ _ _ k => lv_iload_n X.1.1 X.1.2.1 dJ15_charAt_0 rfl (lv_at hl 1 rfl) k) ?_
  refine J.pu (fun _ _ _ _ k => W.rload_n X.1.1 X.1.2.1 dJ15_charAt_1 rfl (lv_at hl 0 rfl) k) ?_
  refine J.len X dJ15_charAt_2 (fun v2 h2 => ?_)
  refine J.bind (fun v3 h3 => ?_)
  refine J.cS (As := [.int a1, .int v2]) (rest := []) (s2 := []) X ⟨rfl, rfl⟩ (ct_f_J9_checkIndex l G n σ a1 v2) (jrd_of h3) (fun _ _ => va_cwS 2 X.1.2.2.2.2 (lw_S q1479 q1428 q149 q1429) rfl rfl rfl (by decide +kernel) ⟨(Nat.le_of_ble_eq_true rfl), (Nat.le_of_ble_eq_true rfl)⟩) rfl hl.1 rfl rfl (Nat.le_of_ble_eq_true rfl) dJ15_charAt_3 ?_
  refine J.pu (fun _ _ _ _ k => W.rload_n X.1.1 X.1.2.1 dJ15_charAt_6 rfl (lv_at hl 0 rfl) k) ?_
  refine J.pu (fun _ _ _ _ k => lv_iload_n X.1.1 X.1.2.1 dJ15_charAt_7 rfl (lv_at hl 1 rfl) k) ?_
  refine J.aI1 X dJ15_charAt_8 (fun v8 h8 => ?_)
  refine J.pu (fun _ _ _ _ k => lv_sipush (v := 255) X.1.1 X.1.2.1 dJ15_charAt_9 (by decide) k) ?_
  refine J.pu (fun _ _ _ _ k => lv_iand X.1.1 X.1.2.1 dJ15_charAt_12 k) ?_
  refine J.pu (fun _ _ _ _ k => lv_i2c (v := ((v8 &&& 255).toUInt32 % 65536).toInt32) X.1.1 X.1.2.1 dJ15_charAt_13 rfl k) ?_
  exact J.zretb (vr := jrI) (fin := fun _ : Int32 => σ) (t := t) X hr (by rfl) (by rfl) dJ15_charAt_14
noncomputable def f_J15_hashCode (G : jG) (n : Nat) (σ : jH) (a0 : Option Nat) : Option (Int32) :=
  (aLen' σ a0).bind fun v1 => if v1 = 0 then (some 0) else if v1 = 1 then ((aI σ a0 1 0).bind fun v34 => some (v34 &&& 255)) else (aLen' σ a0).bind fun v45 => (f_J11_vectorizedHashCode G n σ a0 0 v45 0 4).bind fun v48 => some v48
set_option maxHeartbeats 4000000 in
set_option maxRecDepth 100000 in
theorem ct_f_J15_hashCode (l : Launch) (G : jG) (n : Nat) (σ : jH) (a0 : Option Nat) : jCt l G yJ15_hashCode (ws_ yJ15_hashCode cJ15_hashCode 1 (some .int)) 2 49 jrI [va_rf a0] σ (jrd σ (f_J15_hashCode G n σ a0)) := by
  refine jCt.rd (lv := [(0, va_rf a0)]) (plainFor_of_name (by decide)) (by simp [lg_sl, va_rf_cat, jcI, jcA, jcJ, jcD, jcF]) (by simp [lv_args, va_rf_cat, jcI, jcA, jcJ, jcD, jcF]) ?_
  intro t p e s m args below meth c ls X hr hnm hl
  have X : jCx p c cJ15_hashCode 1 s m args RJ15 G meth := X
  unfold f_J15_hashCode
  refine J.pu (fun _ _ _ _ k => W.rload_n X.1.1 X.1.2.1 dJ15_hashCode_0 rfl (lv_at hl 0 rfl) k) ?_
  refine J.len X dJ15_hashCode_1 (fun v1 h1 => ?_)
  refine J.ite (fun c2_0 => ?_) (fun c2_0 => ?_)
  · refine J.pu (fun _ _ _ _ k => lv_lookup (tgt := 28) (off := 26) X.1.1 X.1.2.1 dJ15_hashCode_2 (by decide +kernel) (by rw [c2_0]; decide +kernel) (by decide) k) ?_
    refine J.pu (fun _ _ _ _ k => lv_iconst (v := 0) X.1.1 X.1.2.1 dJ15_hashCode_28 (by decide) k) ?_
    refine J.pu (fun _ _ _ _ k => lv_goto (tgt := 51) X.1.1 X.1.2.1 dJ15_hashCode_29 (by decide) k) ?_
    exact J.iret (vr := jrI) (fin := fun _ : Int32 => σ) (t := t) X hr (by rfl) (by rfl) dJ15_hashCode_51
  refine J.ite (fun c2_1 => ?_) (fun c2_1 => ?_)
  · refine J.pu (fun _ _ _ _ k => lv_lookup (tgt := 32) (off := 30) X.1.1 X.1.2.1 dJ15_hashCode_2 (by decide +kernel) (by rw [c2_1]; decide +kernel) (by decide) k) ?_
    refine J.pu (fun _ _ _ _ k => W.rload_n X.1.1 X.1.2.1 dJ15_hashCode_32 rfl (lv_at hl 0 rfl) k) ?_
    refine J.pu (fun _ _ _ _ k => lv_iconst (v := 0) X.1.1 X.1.2.1 dJ15_hashCode_33 (by decide) k) ?_
    refine J.aI1 X dJ15_hashCode_34 (fun v34 h34 => ?_)
    refine J.pu (fun _ _ _ _ k => lv_sipush (v := 255) X.1.1 X.1.2.1 dJ15_hashCode_35 (by decide) k) ?_
    refine J.pu (fun _ _ _ _ k => lv_iand X.1.1 X.1.2.1 dJ15_hashCode_38 k) ?_
    refine J.pu (fun _ _ _ _ k => lv_goto (tgt := 51) X.1.1 X.1.2.1 dJ15_hashCode_39 (by decide) k) ?_
    exact J.iret (vr := jrI) (fin := fun _ : Int32 => σ) (t := t) X hr (by rfl) (by rfl) dJ15_hashCode_51
  refine J.pu (fun _ _ _ _ k => lv_lookup (tgt := 42) (off := 40) X.1.1 X.1.2.1 dJ15_hashCode_2 (by decide +kernel) (by show Op.lookupswitch.offset [(0, 26), (1, 30)] _ _ = _; rw [lv_osw c2_0 (by decide), lv_osw c2_1 (by decide)]; rfl) (by decide) k) ?_
  refine J.pu (fun _ _ _ _ k => W.rload_n X.1.1 X.1.2.1 dJ15_hashCode_42 rfl (lv_at hl 0 rfl) k) ?_
  refine J.pu (fun _ _ _ _ k => lv_iconst (v := 0) X.1.1 X.1.2.1 dJ15_hashCode_43 (by decide) k) ?_
  refine J.pu (fun _ _ _ _ k => W.rload_n X.1.1 X.1.2.1 dJ15_hashCode_44 rfl (lv_at hl 0 rfl) k) ?_
  refine J.len X dJ15_hashCode_45 (fun v45 h45 => ?_)
  refine J.pu (fun _ _ _ _ k => lv_iconst (v := 0) X.1.1 X.1.2.1 dJ15_hashCode_46 (by decide) k) ?_
  refine J.pu (fun _ _ _ _ k => lv_iconst (v := 4) X.1.1 X.1.2.1 dJ15_hashCode_47 (by decide) k) ?_
  refine J.bind (fun v48 h48 => ?_)
  refine J.cS (As := [va_rf a0, .int 0, .int v45, .int 0, .int 4]) (rest := []) (s2 := [.int v48]) X ⟨rfl, rfl⟩ (ct_f_J11_vectorizedHashCode l G n σ a0 0 v45 0 4) (jrd_of h48) (fun _ _ => va_cwS 5 X.1.2.2.2.2 (lw_S q1641 q1642 q151 q1643) rfl rfl rfl (by decide +kernel) ⟨(Nat.le_of_ble_eq_true rfl), (Nat.le_of_ble_eq_true rfl)⟩) rfl hl.1 rfl rfl (Nat.le_of_ble_eq_true rfl) dJ15_hashCode_48 ?_
  exact J.iret (vr := jrI) (fin := fun _ : Int32 => σ) (t := t) X hr (by rfl) (by rfl) dJ15_hashCode_51
noncomputable def f_J15_fillNull_b (G : jG) (n : Nat) (σ : jH) (a0 : Option Nat) (a1 : Int32) (a2 : Int32) : Option (Unit × jH) :=
  bd (f_J13_fill G n σ a0 a1 a2 0) fun v4 S4 => some ((), S4)
noncomputable def f_J15_fillNull (G : jG) (n : Nat) (σ : jH) (a0 : Option Nat) (a1 : Int32) (a2 : Int32) : Option (Unit × jH) := jck σ (f_J15_fillNull_b G n σ a0 a1 a2)
set_option maxHeartbeats 4000000 in
set_option maxRecDepth 100000 in
theorem ct_f_J15_fillNull (l : Launch) (G : jG) (n : Nat) (σ : jH) (a0 : Option Nat) (a1 : Int32) (a2 : Int32) : jCt l G yJ15_fillNull (ws_ yJ15_fillNull cJ15_fillNull 3 none) 2 46 jrV [va_rf a0, .int a1, .int a2] σ (f_J15_fillNull G n σ a0 a1 a2) := by
  refine jCt.wr (lv := [(0, va_rf a0), (1, .int a1), (2, .int a2)]) (plainFor_of_name (by decide)) (by simp [lg_sl, va_rf_cat, jcI, jcA, jcJ, jcD, jcF]) (by simp [lv_args, va_rf_cat, jcI, jcA, jcJ, jcD, jcF]) ?_
  intro t p e s m args below meth c ls X hr hnm hl
  have X : jCx p c cJ15_fillNull 3 s m args RJ15 G meth := X
  unfold f_J15_fillNull_b
  refine J.pu (fun _ _ _ _ k => W.rload_n X.1.1 X.1.2.1 dJ15_fillNull_0 rfl (lv_at hl 0 rfl) k) ?_
  refine J.pu (fun _ _ _ _ k => lv_iload_n X.1.1 X.1.2.1 dJ15_fillNull_1 rfl (lv_at hl 1 rfl) k) ?_
  refine J.pu (fun _ _ _ _ k => lv_iload_n X.1.1 X.1.2.1 dJ15_fillNull_2 rfl (lv_at hl 2 rfl) k) ?_
  refine J.pu (fun _ _ _ _ k => lv_iconst (v := 0) X.1.1 X.1.2.1 dJ15_fillNull_3 (by decide) k) ?_
  refine J.bd' (fun v4 S4 h4 => ?_)
  refine J.cS (As := [va_rf a0, .int a1, .int a2, .int 0]) (rest := []) (s2 := []) X ⟨rfl, rfl⟩ (ct_f_J13_fill l G n σ a0 a1 a2 0) h4 (fun _ _ => va_cwS 4 X.1.2.2.2.2 (lw_S q2310 q2311 q153 q2312) rfl rfl rfl (by decide +kernel) ⟨(Nat.le_of_ble_eq_true rfl), (Nat.le_of_ble_eq_true rfl)⟩) rfl hl.1 rfl rfl (Nat.le_of_ble_eq_true rfl) dJ15_fillNull_4 ?_
  exact J.vret (vr := fun t : Unit × jH => jrV t.1) (fin := Prod.snd) (t := t) X hr (by rfl) (by rfl) dJ15_fillNull_7
noncomputable def f_J19_add_b (G : jG) (n : Nat) (σ : jH) (this : Nat) (a1 : Option Nat) : Option (Int32 × jH) :=
  (rc σ (some this) 16).bind fun o2 => bd (f_J19_linkLast G n σ o2 a1) fun v2 S2 => some (1, S2)
noncomputable def f_J19_add (G : jG) (n : Nat) (σ : jH) (this : Nat) (a1 : Option Nat) : Option (Int32 × jH) := jck σ (f_J19_add_b G n σ this a1)
set_option maxHeartbeats 4000000 in
set_option maxRecDepth 100000 in
theorem ct_f_J19_add (l : Launch) (G : jG) (n : Nat) (σ : jH) (this : Nat) (a1 : Option Nat) : jCt l G yJ19_add (ws_ yJ19_add cJ19_add 2 (some .boolean)) 3 76 jrI [.ref this, va_rf a1] σ (f_J19_add G n σ this a1) := by
  refine jCt.wr (lv := [(0, .ref this), (1, va_rf a1)]) (plainFor_of_name (by decide)) (by simp [lg_sl, va_rf_cat, jcI, jcA, jcJ, jcD, jcF]) (by simp [lv_args, va_rf_cat, jcI, jcA, jcJ, jcD, jcF]) ?_
  intro t p e s m args below meth c ls X hr hnm hl
  have X : jCx p c cJ19_add 2 s m args RJ19 G meth := X
  unfold f_J19_add_b
  refine J.pu (fun _ _ _ _ k => lv_aload_n X.1.1 X.1.2.1 dJ19_add_0 rfl (lv_at hl 0 rfl) k) ?_
  refine J.pu (fun _ _ _ _ k => W.rload_n X.1.1 X.1.2.1 dJ19_add_1 rfl (lv_at hl 1 rfl) k) ?_
  refine J.bind (fun o2 g2 => ?_)
  refine J.bd' (fun v2 S2 h2 => ?_)
  refine J.cV (q := (RJ19, TJ19, 4)) (ci := 16) (As := [va_rf a1]) (rest := []) (s2 := []) X ⟨rfl, rfl⟩ (ct_f_J19_linkLast l G n σ o2 a1) h2 (fun _ _ => cwV 1 X.1.2.2.2.2 (lw_V q653 q654 q655 q163 q656) rfl rfl rfl (by decide +kernel) ⟨(Nat.le_of_ble_eq_true rfl), (Nat.le_of_ble_eq_true rfl)⟩) g2 rfl rfl hl.1 rfl rfl (Nat.le_of_ble_eq_true rfl) dJ19_add_2 ?_
  refine J.pu (fun _ _ _ _ k => lv_iconst (v := 1) X.1.1 X.1.2.1 dJ19_add_5 (by decide) k) ?_
  exact J.zret (vr := fun t : Int32 × jH => jrI t.1) (fin := Prod.snd) (t := t) X hr (by decide) (by rfl) (by rfl) dJ19_add_6
noncomputable def f_J19_checkElementIndex (G : jG) (n : Nat) (σ : jH) (this : Nat) (a1 : Int32) : Option (Unit) :=
  (rc σ (some this) 16).bind fun o2 => (f_J19_isElementIndex G n σ o2 a1).bind fun v2 => if v2 = 0 then (none) else (some ())
set_option maxHeartbeats 4000000 in
set_option maxRecDepth 100000 in
theorem ct_f_J19_checkElementIndex (l : Launch) (G : jG) (n : Nat) (σ : jH) (this : Nat) (a1 : Int32) : jCt l G yJ19_checkElementIndex (ws_ yJ19_checkElementIndex cJ19_checkElementIndex 2 none) 1 21 jrV [.ref this, .int a1] σ (jrd σ (f_J19_checkElementIndex G n σ this a1)) := by
  refine jCt.rd (lv := [(0, .ref this), (1, .int a1)]) (plainFor_of_name (by decide)) (Nat.le_of_ble_eq_true rfl) rfl ?_
  intro t p e s m args below meth c ls X hr hnm hl
  have X : jCx p c cJ19_checkElementIndex 2 s m args RJ19 G meth := X
  unfold f_J19_checkElementIndex
  refine J.pu (fun _ _ _ _ k => lv_aload_n X.1.1 X.1.2.1 dJ19_checkElementIndex_0 rfl (lv_at hl 0 rfl) k) ?_
  refine J.pu (fun _ _ _ _ k => lv_iload_n X.1.1 X.1.2.1 dJ19_checkElementIndex_1 rfl (lv_at hl 1 rfl) k) ?_
  refine J.bind (fun o2 g2 => ?_)
  refine J.bind (fun v2 h2 => ?_)
  refine J.cV (q := (RJ19, TJ19, 4)) (ci := 16) (As := [.int a1]) (rest := []) (s2 := [.int v2]) X ⟨rfl, rfl⟩ (ct_f_J19_isElementIndex l G n σ o2 a1) (jrd_of h2) (fun _ _ => cwV 1 X.1.2.2.2.2 (lw_V q875 q877 qs5 q163 q878) rfl rfl rfl (by decide +kernel) ⟨(Nat.le_of_ble_eq_true rfl), (Nat.le_of_ble_eq_true rfl)⟩) g2 rfl rfl hl.1 rfl rfl (Nat.le_of_ble_eq_true rfl) dJ19_checkElementIndex_2 ?_
  refine J.br (fun _ _ _ _ ka kb => lv_if_ne (tgt := 21) X.1.1 X.1.2.1 dJ19_checkElementIndex_5 (by decide) kb ka) (fun c5 => ?_) (fun c5 => ?_)
  · exact J.nil_
  · exact J.vret (vr := jrV) (fin := fun _ : Unit => σ) (t := t) X hr (by rfl) (by rfl) dJ19_checkElementIndex_21
noncomputable def f_J19_checkPositionIndex (G : jG) (n : Nat) (σ : jH) (this : Nat) (a1 : Int32) : Option (Unit) :=
  (rc σ (some this) 16).bind fun o2 => (f_J19_isPositionIndex G n σ o2 a1).bind fun v2 => if v2 = 0 then (none) else (some ())
set_option maxHeartbeats 4000000 in
set_option maxRecDepth 100000 in
theorem ct_f_J19_checkPositionIndex (l : Launch) (G : jG) (n : Nat) (σ : jH) (this : Nat) (a1 : Int32) : jCt l G yJ19_checkPositionIndex (ws_ yJ19_checkPositionIndex cJ19_checkPositionIndex 2 none) 1 21 jrV [.ref this, .int a1] σ (jrd σ (f_J19_checkPositionIndex G n σ this a1)) := by
  refine jCt.rd (lv := [(0, .ref this), (1, .int a1)]) (plainFor_of_name (by decide)) (Nat.le_of_ble_eq_true rfl) rfl ?_
  intro t p e s m args below meth c ls X hr hnm hl
  have X : jCx p c cJ19_checkPositionIndex 2 s m args RJ19 G meth := X
  unfold f_J19_checkPositionIndex
  refine J.pu (fun _ _ _ _ k => lv_aload_n X.1.1 X.1.2.1 dJ19_checkPositionIndex_0 rfl (lv_at hl 0 rfl) k) ?_
  refine J.pu (fun _ _ _ _ k => lv_iload_n X.1.1 X.1.2.1 dJ19_checkPositionIndex_1 rfl (lv_at hl 1 rfl) k) ?_
  refine J.bind (fun o2 g2 => ?_)
  refine J.bind (fun v2 h2 => ?_)
  refine J.cV (q := (RJ19, TJ19, 4)) (ci := 16) (As := [.int a1]) (rest := []) (s2 := [.int v2]) X ⟨rfl, rfl⟩ (ct_f_J19_isPositionIndex l G n σ o2 a1) (jrd_of h2) (fun _ _ => cwV 1 X.1.2.2.2.2 (lw_V q1143 q1145 qs12 q163 q1146) rfl rfl rfl (by decide +kernel) ⟨(Nat.le_of_ble_eq_true rfl), (Nat.le_of_ble_eq_true rfl)⟩) g2 rfl rfl hl.1 rfl rfl (Nat.le_of_ble_eq_true rfl) dJ19_checkPositionIndex_2 ?_
  refine J.br (fun _ _ _ _ ka kb => lv_if_ne (tgt := 21) X.1.1 X.1.2.1 dJ19_checkPositionIndex_5 (by decide) kb ka) (fun c5 => ?_) (fun c5 => ?_)
  · exact J.nil_
  · exact J.vret (vr := jrV) (fin := fun _ : Unit => σ) (t := t) X hr (by rfl) (by rfl) dJ19_checkPositionIndex_21
noncomputable def f_J19_indexOf_h43 (G : jG) (n : Nat) (σ : jH) (this : Nat) (a1 : Option Nat) (rec43 : Int32 × (Option Nat) → Option (Int32)) (q43 : Int32 × (Option Nat)) : Option (Int32) :=
  let x2_43 := q43.1; let x3_43 := q43.2; if x3_43 = none then (some (-1)) else ((gR σ x3_43 17 0).bind fun v49 => (rc σ a1 4).bind fun o52 => (f_J35_equals_X5 G n σ o52 v49).bind fun v52 => if v52 = 0 then ((gR σ x3_43 17 1).bind fun v64 => rec43 ((x2_43 + 1), v64)) else (some x2_43))
noncomputable def f_J19_indexOf_h11 (G : jG) (n : Nat) (σ : jH) (this : Nat) (a1 : Option Nat) (rec11 : Int32 × (Option Nat) → Option (Int32)) (q11 : Int32 × (Option Nat)) : Option (Int32) :=
  let x2_11 := q11.1; let x3_11 := q11.2; if x3_11 = none then (some (-1)) else ((gR σ x3_11 17 0).bind fun v16 => if v16 = none then (some x2_11) else ((gR σ x3_11 17 1).bind fun v28 => rec11 ((x2_11 + 1), v28)))
noncomputable def f_J19_indexOf (G : jG) (n : Nat) (σ : jH) (this : Nat) (a1 : Option Nat) : Option (Int32) :=
  if a1 = none then ((gR σ (some this) 16 2).bind fun v7 => jloop (f_J19_indexOf_h11 G n σ this a1) n (0, v7)) else ((gR σ (some this) 16 2).bind fun v39 => jloop (f_J19_indexOf_h43 G n σ this a1) n (0, v39))
set_option maxHeartbeats 4000000 in
set_option maxRecDepth 100000 in
theorem ct_f_J19_indexOf (l : Launch) (G : jG) (n : Nat) (σ : jH) (this : Nat) (a1 : Option Nat) : jCt l G yJ19_indexOf (ws_ yJ19_indexOf cJ19_indexOf 4 (some .int)) 1 21 jrI [.ref this, va_rf a1] σ (jrd σ (f_J19_indexOf G n σ this a1)) := by
  refine jCt.rd (lv := [(0, .ref this), (1, va_rf a1)]) (plainFor_of_name (by decide)) (by simp [lg_sl, va_rf_cat, jcI, jcA, jcJ, jcD, jcF]) (by simp [lv_args, va_rf_cat, jcI, jcA, jcJ, jcD, jcF]) ?_
  intro t p e s m args below meth c ls X hr hnm hl
  have X : jCx p c cJ19_indexOf 4 s m args RJ19 G meth := X
  have L43 : ∀ (n43 : Nat) (x2_43 : Int32) (x3_43 : Option Nat) (ls : Array Slot), lv_has ls 4 [(1, va_rf a1), (2, .int x2_43), (3, va_rf x3_43)] → jGo l G 1 21 σ (fun _ : Int32 => σ) jrI t p e s m args below meth c (jloop (f_J19_indexOf_h43 G n σ this a1) n43 (x2_43, x3_43)) σ (F0 m 43 ls []) := by
    intro n43
    induction n43 with
    | zero => intro x2_43 x3_43 ls hl; exact J.nil_
    | succ n43 ih43 =>
      intro x2_43 x3_43 ls hl
      refine J.eq (jloop_s _ _ _) ?_
      dsimp only [f_J19_indexOf_h43]
      refine J.pu (fun _ _ _ _ k => W.rload_n X.1.1 X.1.2.1 dJ19_indexOf_43 rfl (lv_at hl 2 rfl) k) ?_
      refine J.br (fun _ _ _ _ ka kb => W.rnull (tgt := 71) X.1.1 X.1.2.1 dJ19_indexOf_44 (by decide) ka kb) (fun c44 => ?_) (fun c44 => ?_)
      · refine J.pu (fun _ _ _ _ k => lv_iconst (v := (-1)) X.1.1 X.1.2.1 dJ19_indexOf_71 (by decide) k) ?_
        exact J.iret (vr := jrI) (fin := fun _ : Int32 => σ) (t := t) X hr (by rfl) (by rfl) dJ19_indexOf_72
      · refine J.pu (fun _ _ _ _ k => W.rload_n X.1.1 X.1.2.1 dJ19_indexOf_47 rfl (lv_at hl 0 rfl) k) ?_
        refine J.pu (fun _ _ _ _ k => W.rload_n X.1.1 X.1.2.1 dJ19_indexOf_48 rfl (lv_at hl 2 rfl) k) ?_
        refine J.getR (k := 0) (ci := 17) X in_J17 (show jCl[17]? = some (RJ17, TJ17, 3) from rfl) (by decide) q665 (fun _ h => h) dJ19_indexOf_49 (fun v49 h49 => ?_)
        refine J.bind (fun o52 g52 => ?_)
        refine J.bind (fun v52 h52 => ?_)
        refine J.cU (q := (RX5, TX5, 10)) (ci := 4) (As := [va_rf v49]) (rest := []) (s2 := [.int v52]) X ⟨rfl, rfl⟩ (ct_f_J35_equals_X5 l G n σ o52 v49) (jrd_of h52) (fun _ _ => va_cwU 1 X.1.2.2.2.2 (lw_U q2242 q2206 q2212 q2205 q3346 q2232) rfl rfl rfl rfl (by decide +kernel) ⟨(Nat.le_of_ble_eq_true rfl), (Nat.le_of_ble_eq_true rfl)⟩) g52 rfl rfl hl.1 rfl rfl (Nat.le_of_ble_eq_true rfl) dJ19_indexOf_52 ?_
        refine J.br (fun _ _ _ _ ka kb => lv_if_eq (tgt := 60) X.1.1 X.1.2.1 dJ19_indexOf_55 (by decide) ka kb) (fun c55 => ?_) (fun c55 => ?_)
        · refine J.iinc (k := 1) (lv' := [(2, .int (x2_43 + 1)), (1, va_rf a1), (3, va_rf x3_43)]) (w := (x2_43 + 1)) X.1.1 X.1.2.1 dJ19_indexOf_60 hl rfl rfl (by decide) (by first | rfl | simp [va_rf_cat, jcI, jcA, jcJ, jcD, jcF]) (fun ls hl => ?_)
          refine J.pu (fun _ _ _ _ k => W.rload_n X.1.1 X.1.2.1 dJ19_indexOf_63 rfl (lv_at hl 2 rfl) k) ?_
          refine J.getR (k := 1) (ci := 17) X in_J17 (show jCl[17]? = some (RJ17, TJ17, 3) from rfl) (by decide) q668 (fun _ h => h) dJ19_indexOf_64 (fun v64 h64 => ?_)
          refine J.astore_n (r := v64) (i := 3) (lv' := [(3, va_rf v64), (2, .int (x2_43 + 1)), (1, va_rf a1)]) X.1.1 X.1.2.1 dJ19_indexOf_67 rfl hl (by decide) (by first | rfl | simp [va_rf_cat, jcI, jcA, jcJ, jcD, jcF]) (fun ls hl => ?_)
          refine J.pu (fun _ _ _ _ k => lv_goto (tgt := 43) X.1.1 X.1.2.1 dJ19_indexOf_68 (by decide) k) ?_
          exact ih43 (x2_43 + 1) v64 ls (lv_sub hl [2, 1, 0] rfl)
        · refine J.pu (fun _ _ _ _ k => lv_iload_n X.1.1 X.1.2.1 dJ19_indexOf_58 rfl (lv_at hl 1 rfl) k) ?_
          exact J.iret (vr := jrI) (fin := fun _ : Int32 => σ) (t := t) X hr (by rfl) (by rfl) dJ19_indexOf_59
  have L11 : ∀ (n11 : Nat) (x2_11 : Int32) (x3_11 : Option Nat) (ls : Array Slot), lv_has ls 4 [(2, .int x2_11), (3, va_rf x3_11)] → jGo l G 1 21 σ (fun _ : Int32 => σ) jrI t p e s m args below meth c (jloop (f_J19_indexOf_h11 G n σ this a1) n11 (x2_11, x3_11)) σ (F0 m 11 ls []) := by
    intro n11
    induction n11 with
    | zero => intro x2_11 x3_11 ls hl; exact J.nil_
    | succ n11 ih11 =>
      intro x2_11 x3_11 ls hl
      refine J.eq (jloop_s _ _ _) ?_
      dsimp only [f_J19_indexOf_h11]
      refine J.pu (fun _ _ _ _ k => W.rload_n X.1.1 X.1.2.1 dJ19_indexOf_11 rfl (lv_at hl 1 rfl) k) ?_
      refine J.br (fun _ _ _ _ ka kb => W.rnull (tgt := 35) X.1.1 X.1.2.1 dJ19_indexOf_12 (by decide) ka kb) (fun c12 => ?_) (fun c12 => ?_)
      · refine J.pu (fun _ _ _ _ k => lv_goto (tgt := 71) X.1.1 X.1.2.1 dJ19_indexOf_35 (by decide) k) ?_
        refine J.pu (fun _ _ _ _ k => lv_iconst (v := (-1)) X.1.1 X.1.2.1 dJ19_indexOf_71 (by decide) k) ?_
        exact J.iret (vr := jrI) (fin := fun _ : Int32 => σ) (t := t) X hr (by rfl) (by rfl) dJ19_indexOf_72
      · refine J.pu (fun _ _ _ _ k => W.rload_n X.1.1 X.1.2.1 dJ19_indexOf_15 rfl (lv_at hl 1 rfl) k) ?_
        refine J.getR (k := 0) (ci := 17) X in_J17 (show jCl[17]? = some (RJ17, TJ17, 3) from rfl) (by decide) q665 (fun _ h => h) dJ19_indexOf_16 (fun v16 h16 => ?_)
        refine J.br (fun _ _ _ _ ka kb => W.rnonnull (tgt := 24) X.1.1 X.1.2.1 dJ19_indexOf_19 (by decide) kb ka) (fun c19 => ?_) (fun c19 => ?_)
        · refine J.pu (fun _ _ _ _ k => lv_iload_n X.1.1 X.1.2.1 dJ19_indexOf_22 rfl (lv_at hl 0 rfl) k) ?_
          exact J.iret (vr := jrI) (fin := fun _ : Int32 => σ) (t := t) X hr (by rfl) (by rfl) dJ19_indexOf_23
        · refine J.iinc (k := 0) (lv' := [(2, .int (x2_11 + 1)), (3, va_rf x3_11)]) (w := (x2_11 + 1)) X.1.1 X.1.2.1 dJ19_indexOf_24 hl rfl rfl (by decide) (by first | rfl | simp [va_rf_cat, jcI, jcA, jcJ, jcD, jcF]) (fun ls hl => ?_)
          refine J.pu (fun _ _ _ _ k => W.rload_n X.1.1 X.1.2.1 dJ19_indexOf_27 rfl (lv_at hl 1 rfl) k) ?_
          refine J.getR (k := 1) (ci := 17) X in_J17 (show jCl[17]? = some (RJ17, TJ17, 3) from rfl) (by decide) q668 (fun _ h => h) dJ19_indexOf_28 (fun v28 h28 => ?_)
          refine J.astore_n (r := v28) (i := 3) (lv' := [(3, va_rf v28), (2, .int (x2_11 + 1))]) X.1.1 X.1.2.1 dJ19_indexOf_31 rfl hl (by decide) (by first | rfl | simp [va_rf_cat, jcI, jcA, jcJ, jcD, jcF]) (fun ls hl => ?_)
          refine J.pu (fun _ _ _ _ k => lv_goto (tgt := 11) X.1.1 X.1.2.1 dJ19_indexOf_32 (by decide) k) ?_
          exact ih11 (x2_11 + 1) v28 ls (lv_sub hl [1, 0] rfl)
  unfold f_J19_indexOf
  refine J.pu (fun _ _ _ _ k => lv_iconst (v := 0) X.1.1 X.1.2.1 dJ19_indexOf_0 (by decide) k) ?_
  refine J.istore_n (i := 2) (lv' := [(2, .int 0), (0, .ref this), (1, va_rf a1)]) X.1.1 X.1.2.1 dJ19_indexOf_1 rfl hl (by decide) (by first | rfl | simp [va_rf_cat, jcI, jcA, jcJ, jcD, jcF]) (fun ls hl => ?_)
  refine J.pu (fun _ _ _ _ k => W.rload_n X.1.1 X.1.2.1 dJ19_indexOf_2 rfl (lv_at hl 2 rfl) k) ?_
  refine J.br (fun _ _ _ _ ka kb => W.rnonnull (tgt := 38) X.1.1 X.1.2.1 dJ19_indexOf_3 (by decide) kb ka) (fun c3 => ?_) (fun c3 => ?_)
  · refine J.pu (fun _ _ _ _ k => lv_aload_n X.1.1 X.1.2.1 dJ19_indexOf_6 rfl (lv_at hl 1 rfl) k) ?_
    refine J.getR (k := 2) (ci := 16) X in_J19 (show jCl[16]? = some (RJ19, TJ19, 4) from rfl) (by decide) q745 (fun _ h => h) dJ19_indexOf_7 (fun v7 h7 => ?_)
    refine J.astore_n (r := v7) (i := 3) (lv' := [(3, va_rf v7), (2, .int 0), (0, .ref this), (1, va_rf a1)]) X.1.1 X.1.2.1 dJ19_indexOf_10 rfl hl (by decide) (by first | rfl | simp [va_rf_cat, jcI, jcA, jcJ, jcD, jcF]) (fun ls hl => ?_)
    exact L11 n 0 v7 ls (lv_sub hl [1, 0] rfl)
  · refine J.pu (fun _ _ _ _ k => lv_aload_n X.1.1 X.1.2.1 dJ19_indexOf_38 rfl (lv_at hl 1 rfl) k) ?_
    refine J.getR (k := 2) (ci := 16) X in_J19 (show jCl[16]? = some (RJ19, TJ19, 4) from rfl) (by decide) q745 (fun _ h => h) dJ19_indexOf_39 (fun v39 h39 => ?_)
    refine J.astore_n (r := v39) (i := 3) (lv' := [(3, va_rf v39), (2, .int 0), (0, .ref this), (1, va_rf a1)]) X.1.1 X.1.2.1 dJ19_indexOf_42 rfl hl (by decide) (by first | rfl | simp [va_rf_cat, jcI, jcA, jcJ, jcD, jcF]) (fun ls hl => ?_)
    exact L43 n 0 v39 ls (lv_sub hl [3, 1, 0] rfl)
noncomputable def f_J2_grow_2_j20 (G : jG) (n : Nat) (this : Nat) (a1 : Int32) (x2_20 : Int32) (B20 : jH) : Option ((Option Nat) × jH) :=
  (f_J11_newLength G n B20 x2_20 (a1 - x2_20) (x2_20 >>> (1 &&& 31))).bind fun v27 => (gR B20 (some this) 15 1).bind fun v33 => bd (f_J13_copyOf_2 G n B20 v33 v27) fun v37 S37 => (pR G S37 (some this) 15 1 v37).bind fun S41 => some (v37, S41)
noncomputable def f_J2_grow_2_b (G : jG) (n : Nat) (σ : jH) (this : Nat) (a1 : Int32) : Option ((Option Nat) × jH) :=
  (gR σ (some this) 15 1).bind fun v1 => (aLen' σ v1).bind fun v4 => if 0 < v4 then (f_J2_grow_2_j20 G n this a1 v4 σ) else ((gR σ (some this) 15 1).bind fun v11 => if v11 = (G.2.2.2 104) then ((J12_max n 10 a1).bind fun v49 => bd (nR σ v49) fun v52 S52 => (pR G S52 (some this) 15 1 (some v52)).bind fun S56 => some ((some v52), S56)) else (f_J2_grow_2_j20 G n this a1 v4 σ))
noncomputable def f_J2_grow_2 (G : jG) (n : Nat) (σ : jH) (this : Nat) (a1 : Int32) : Option ((Option Nat) × jH) := jck σ (f_J2_grow_2_b G n σ this a1)
set_option maxHeartbeats 4000000 in
set_option maxRecDepth 100000 in
theorem ct_f_J2_grow_2 (l : Launch) (G : jG) (n : Nat) (σ : jH) (this : Nat) (a1 : Int32) : jCt l G yJ2_grow_2 (ws_ yJ2_grow_2 cJ2_grow_2 4 (some (.array (.object "java/lang/Object")))) 3 444 jrR [.ref this, .int a1] σ (f_J2_grow_2 G n σ this a1) := by
  refine jCt.wr (lv := [(0, .ref this), (1, .int a1)]) (plainFor_of_name (by decide)) (Nat.le_of_ble_eq_true rfl) rfl ?_
  intro t p e s m args below meth c ls X hr hnm hl
  have X : jCx p c cJ2_grow_2 4 s m args RJ2 G meth := X
  have j20 : ∀ (x2_20 : Int32) (B20 : jH) (ls : Array Slot), lv_has ls 4 [(0, .ref this), (1, .int a1), (2, .int x2_20)] → jGo l G 3 444 σ (Prod.snd : (Option Nat) × jH → jH) (fun t => jrR t.1) t p e s m args below meth c (f_J2_grow_2_j20 G n this a1 x2_20 B20) B20 (F0 m 20 ls []) := by
    intro x2_20 B20 ls hl
    unfold f_J2_grow_2_j20
    refine J.pu (fun _ _ _ _ k => lv_iload_n X.1.1 X.1.2.1 dJ2_grow_2_20 rfl (lv_at hl 2 rfl) k) ?_
    refine J.pu (fun _ _ _ _ k => lv_iload_n X.1.1 X.1.2.1 dJ2_grow_2_21 rfl (lv_at hl 1 rfl) k) ?_
    refine J.pu (fun _ _ _ _ k => lv_iload_n X.1.1 X.1.2.1 dJ2_grow_2_22 rfl (lv_at hl 2 rfl) k) ?_
    refine J.pu (fun _ _ _ _ k => lv_isub X.1.1 X.1.2.1 dJ2_grow_2_23 k) ?_
    refine J.pu (fun _ _ _ _ k => lv_iload_n X.1.1 X.1.2.1 dJ2_grow_2_24 rfl (lv_at hl 2 rfl) k) ?_
    refine J.pu (fun _ _ _ _ k => lv_iconst (v := 1) X.1.1 X.1.2.1 dJ2_grow_2_25 (by decide) k) ?_
    refine J.pu (fun _ _ _ _ k => lv_ishr X.1.1 X.1.2.1 dJ2_grow_2_26 k) ?_
    refine J.bind (fun v27 h27 => ?_)
    refine J.cS (As := [.int x2_20, .int (a1 - x2_20), .int (x2_20 >>> (1 &&& 31))]) (rest := []) (s2 := [.int v27]) X ⟨rfl, rfl⟩ (ct_f_J11_newLength l G n B20 x2_20 (a1 - x2_20) (x2_20 >>> (1 &&& 31))) (jrd_of h27) (fun _ _ => va_cwS 3 X.1.2.2.2.2 (lw_S q599 q326 q151 q327) rfl rfl rfl (by decide +kernel) ⟨(Nat.le_of_ble_eq_true rfl), (Nat.le_of_ble_eq_true rfl)⟩) rfl hl.1 rfl rfl (Nat.le_of_ble_eq_true rfl) dJ2_grow_2_27 ?_
    refine J.istore_n (i := 3) (lv' := [(3, .int v27), (0, .ref this), (1, .int a1), (2, .int x2_20)]) X.1.1 X.1.2.1 dJ2_grow_2_30 rfl hl (by decide) (by first | rfl | simp [va_rf_cat, jcI, jcA, jcJ, jcD, jcF]) (fun ls hl => ?_)
    refine J.pu (fun _ _ _ _ k => lv_aload_n X.1.1 X.1.2.1 dJ2_grow_2_31 rfl (lv_at hl 1 rfl) k) ?_
    refine J.pu (fun _ _ _ _ k => lv_aload_n X.1.1 X.1.2.1 dJ2_grow_2_32 rfl (lv_at hl 1 rfl) k) ?_
    refine J.getR (k := 1) (ci := 15) X in_J2 (show jCl[15]? = some (RJ2, TJ2, 3) from rfl) (by decide) q546 (fun _ h => h) dJ2_grow_2_33 (fun v33 h33 => ?_)
    refine J.pu (fun _ _ _ _ k => lv_iload_n X.1.1 X.1.2.1 dJ2_grow_2_36 rfl (lv_at hl 0 rfl) k) ?_
    refine J.bd' (fun v37 S37 h37 => ?_)
    refine J.cS (As := [va_rf v33, .int v27]) (rest := [.ref this]) (s2 := [va_rf v37, .ref this]) X ⟨rfl, rfl⟩ (ct_f_J13_copyOf_2 l G n B20 v33 v27) h37 (fun _ _ => va_cwS 2 X.1.2.2.2.2 (lw_S q600 q601 q153 q602) rfl rfl rfl (by decide +kernel) ⟨(Nat.le_of_ble_eq_true rfl), (Nat.le_of_ble_eq_true rfl)⟩) rfl hl.1 rfl rfl (Nat.le_of_ble_eq_true rfl) dJ2_grow_2_37 ?_
    refine J.pu (fun _ _ _ _ k => lv_dup_x1 X.1.1 X.1.2.1 dJ2_grow_2_40 (va_rf_cat _) rfl k) ?_
    refine J.putR (k := 1) (ci := 15) X in_J2 (show jCl[15]? = some (RJ2, TJ2, 3) from rfl) tyJ2_ok (fun a ha b hb h => Or.inl (nmJ2 a ha b hb h)) (by decide) q546 (fun _ h => h) rfl (Or.inr ⟨_, rfl⟩) dJ2_grow_2_41 (fun S41 h41 => ?_)
    exact J.aret (vr := fun t : (Option Nat) × jH => jrR t.1) (fin := Prod.snd) (t := t) X hr (Or.inr ⟨_, rfl⟩) (by rfl) (by rfl) dJ2_grow_2_44
  unfold f_J2_grow_2_b
  refine J.pu (fun _ _ _ _ k => lv_aload_n X.1.1 X.1.2.1 dJ2_grow_2_0 rfl (lv_at hl 0 rfl) k) ?_
  refine J.getR (k := 1) (ci := 15) X in_J2 (show jCl[15]? = some (RJ2, TJ2, 3) from rfl) (by decide) q546 (fun _ h => h) dJ2_grow_2_1 (fun v1 h1 => ?_)
  refine J.len X dJ2_grow_2_4 (fun v4 h4 => ?_)
  refine J.istore_n (i := 2) (lv' := [(2, .int v4), (0, .ref this), (1, .int a1)]) X.1.1 X.1.2.1 dJ2_grow_2_5 rfl hl (by decide) (by first | rfl | simp [va_rf_cat, jcI, jcA, jcJ, jcD, jcF]) (fun ls hl => ?_)
  refine J.pu (fun _ _ _ _ k => lv_iload_n X.1.1 X.1.2.1 dJ2_grow_2_6 rfl (lv_at hl 0 rfl) k) ?_
  refine J.br (fun _ _ _ _ ka kb => lv_if_gt (tgt := 20) X.1.1 X.1.2.1 dJ2_grow_2_7 (by decide) ka kb) (fun c7 => ?_) (fun c7 => ?_)
  · exact j20 v4 σ ls (lv_sub hl [1, 2, 0] rfl)
  · refine J.pu (fun _ _ _ _ k => lv_aload_n X.1.1 X.1.2.1 dJ2_grow_2_10 rfl (lv_at hl 1 rfl) k) ?_
    refine J.getR (k := 1) (ci := 15) X in_J2 (show jCl[15]? = some (RJ2, TJ2, 3) from rfl) (by decide) q546 (fun _ h => h) dJ2_grow_2_11 (fun v11 h11 => ?_)
    refine J.getsR (i := 104) X (List.mem_of_getElem? (i := 4) rfl) q575 (fun _ h => h) dJ2_grow_2_14 ?_
    refine J.br (fun _ _ _ _ ka kb => lv_acmp_eq (tgt := 45) X.1.1 X.1.2.1 dJ2_grow_2_17 (by decide) ka kb) (fun c17 => ?_) (fun c17 => ?_)
    · refine J.pu (fun _ _ _ _ k => lv_aload_n X.1.1 X.1.2.1 dJ2_grow_2_45 rfl (lv_at hl 1 rfl) k) ?_
      refine J.pu (fun _ _ _ _ k => lv_bipush (v := 10) X.1.1 X.1.2.1 dJ2_grow_2_46 (by decide) k) ?_
      refine J.pu (fun _ _ _ _ k => lv_iload_n X.1.1 X.1.2.1 dJ2_grow_2_48 rfl (lv_at hl 2 rfl) k) ?_
      refine J.bind (fun v49 h49 => ?_)
      refine J.cS (As := [.int 10, .int a1]) (rest := [.ref this]) (s2 := [.int v49, .ref this]) X ⟨rfl, rfl⟩ (ct_J12_max l G σ n 10 a1) (jrd_of h49) (fun _ _ => va_cwS 2 X.1.2.2.2.2 (lw_S q646 q329 q152 q330) rfl rfl rfl (by decide +kernel) ⟨(Nat.le_of_ble_eq_true rfl), (Nat.le_of_ble_eq_true rfl)⟩) rfl hl.1 rfl rfl (Nat.le_of_ble_eq_true rfl) dJ2_grow_2_49 ?_
      refine J.nR' X ⟨rfl, rfl⟩ q222 dJ2_grow_2_52 (fun v52 S52 h52 => ?_)
      refine J.pu (fun _ _ _ _ k => lv_dup_x1 X.1.1 X.1.2.1 dJ2_grow_2_55 rfl rfl k) ?_
      refine J.putR (k := 1) (ci := 15) X in_J2 (show jCl[15]? = some (RJ2, TJ2, 3) from rfl) tyJ2_ok (fun a ha b hb h => Or.inl (nmJ2 a ha b hb h)) (by decide) q546 (fun _ h => h) rfl (Or.inr ⟨_, rfl⟩) dJ2_grow_2_56 (fun S56 h56 => ?_)
      exact J.aret (vr := fun t : (Option Nat) × jH => jrR t.1) (fin := Prod.snd) (t := t) X hr (Or.inr ⟨_, rfl⟩) (by rfl) (by rfl) dJ2_grow_2_59
    · exact j20 v4 σ ls (lv_sub hl [1, 2, 0] rfl)
noncomputable def f_J2_get (G : jG) (n : Nat) (σ : jH) (this : Nat) (a1 : Int32) : Option (Option Nat) :=
  (gI σ (some this) 15 2).bind fun v2 => (f_J21_checkIndex G n σ a1 v2).bind fun v5 => (rc σ (some this) 15).bind fun o11 => (f_J2_elementData G n σ o11 a1).bind fun v11 => some v11
set_option maxHeartbeats 4000000 in
set_option maxRecDepth 100000 in
theorem ct_f_J2_get (l : Launch) (G : jG) (n : Nat) (σ : jH) (this : Nat) (a1 : Int32) : jCt l G yJ2_get (ws_ yJ2_get cJ2_get 2 (some (.object "java/lang/Object"))) 2 43 jrR [.ref this, .int a1] σ (jrd σ (f_J2_get G n σ this a1)) := by
  refine jCt.rd (lv := [(0, .ref this), (1, .int a1)]) (plainFor_of_name (by decide)) (Nat.le_of_ble_eq_true rfl) rfl ?_
  intro t p e s m args below meth c ls X hr hnm hl
  have X : jCx p c cJ2_get 2 s m args RJ2 G meth := X
  unfold f_J2_get
  refine J.pu (fun _ _ _ _ k => lv_iload_n X.1.1 X.1.2.1 dJ2_get_0 rfl (lv_at hl 1 rfl) k) ?_
  refine J.pu (fun _ _ _ _ k => lv_aload_n X.1.1 X.1.2.1 dJ2_get_1 rfl (lv_at hl 0 rfl) k) ?_
  refine J.getI (k := 2) (ci := 15) X in_J2 (show jCl[15]? = some (RJ2, TJ2, 3) from rfl) (by decide) q549 (fun _ h => h) dJ2_get_2 (fun v2 h2 => ?_)
  refine J.bind (fun v5 h5 => ?_)
  refine J.cS (As := [.int a1, .int v2]) (rest := []) (s2 := [.int v5]) X ⟨rfl, rfl⟩ (ct_f_J21_checkIndex l G n σ a1 v2) (jrd_of h5) (fun _ _ => va_cwS 2 X.1.2.2.2.2 (lw_S q856 q857 q165 q858) rfl rfl rfl (by decide +kernel) ⟨(Nat.le_of_ble_eq_true rfl), (Nat.le_of_ble_eq_true rfl)⟩) rfl hl.1 rfl rfl (Nat.le_of_ble_eq_true rfl) dJ2_get_5 ?_
  refine J.pu (fun _ _ _ _ k => lv_pop X.1.1 X.1.2.1 dJ2_get_8 rfl k) ?_
  refine J.pu (fun _ _ _ _ k => lv_aload_n X.1.1 X.1.2.1 dJ2_get_9 rfl (lv_at hl 0 rfl) k) ?_
  refine J.pu (fun _ _ _ _ k => lv_iload_n X.1.1 X.1.2.1 dJ2_get_10 rfl (lv_at hl 1 rfl) k) ?_
  refine J.bind (fun o11 g11 => ?_)
  refine J.bind (fun v11 h11 => ?_)
  refine J.cV (q := (RJ2, TJ2, 3)) (ci := 15) (As := [.int a1]) (rest := []) (s2 := [va_rf v11]) X ⟨rfl, rfl⟩ (ct_f_J2_elementData l G n σ o11 a1) (jrd_of h11) (fun _ _ => cwV 1 X.1.2.2.2.2 (lw_V q862 q863 q864 q142 q865) rfl rfl rfl (by decide +kernel) ⟨(Nat.le_of_ble_eq_true rfl), (Nat.le_of_ble_eq_true rfl)⟩) g11 rfl rfl hl.1 rfl rfl (Nat.le_of_ble_eq_true rfl) dJ2_get_11 ?_
  exact J.aret (vr := jrR) (fin := fun _ : Option Nat => σ) (t := t) X hr (Or.inl ⟨_, rfl⟩) (by rfl) (by rfl) dJ2_get_14
noncomputable def f_J2_remove_b (G : jG) (n : Nat) (σ : jH) (this : Nat) (a1 : Int32) : Option ((Option Nat) × jH) :=
  (gI σ (some this) 15 2).bind fun v2 => (f_J21_checkIndex G n σ a1 v2).bind fun v5 => (gR σ (some this) 15 1).bind fun v10 => (aR σ v10 a1).bind fun v16 => (rc σ (some this) 15).bind fun o21 => bd (f_J2_fastRemove G n σ o21 v10 a1) fun v21 S21 => some (v16, S21)
noncomputable def f_J2_remove (G : jG) (n : Nat) (σ : jH) (this : Nat) (a1 : Int32) : Option ((Option Nat) × jH) := jck σ (f_J2_remove_b G n σ this a1)
set_option maxHeartbeats 4000000 in
set_option maxRecDepth 100000 in
theorem ct_f_J2_remove (l : Launch) (G : jG) (n : Nat) (σ : jH) (this : Nat) (a1 : Int32) : jCt l G yJ2_remove (ws_ yJ2_remove cJ2_remove 4 (some (.object "java/lang/Object"))) 2 423 jrR [.ref this, .int a1] σ (f_J2_remove G n σ this a1) := by
  refine jCt.wr (lv := [(0, .ref this), (1, .int a1)]) (plainFor_of_name (by decide)) (Nat.le_of_ble_eq_true rfl) rfl ?_
  intro t p e s m args below meth c ls X hr hnm hl
  have X : jCx p c cJ2_remove 4 s m args RJ2 G meth := X
  unfold f_J2_remove_b
  refine J.pu (fun _ _ _ _ k => lv_iload_n X.1.1 X.1.2.1 dJ2_remove_0 rfl (lv_at hl 1 rfl) k) ?_
  refine J.pu (fun _ _ _ _ k => lv_aload_n X.1.1 X.1.2.1 dJ2_remove_1 rfl (lv_at hl 0 rfl) k) ?_
  refine J.getI (k := 2) (ci := 15) X in_J2 (show jCl[15]? = some (RJ2, TJ2, 3) from rfl) (by decide) q549 (fun _ h => h) dJ2_remove_2 (fun v2 h2 => ?_)
  refine J.bind (fun v5 h5 => ?_)
  refine J.cS (As := [.int a1, .int v2]) (rest := []) (s2 := [.int v5]) X ⟨rfl, rfl⟩ (ct_f_J21_checkIndex l G n σ a1 v2) (jrd_of h5) (fun _ _ => va_cwS 2 X.1.2.2.2.2 (lw_S q856 q857 q165 q858) rfl rfl rfl (by decide +kernel) ⟨(Nat.le_of_ble_eq_true rfl), (Nat.le_of_ble_eq_true rfl)⟩) rfl hl.1 rfl rfl (Nat.le_of_ble_eq_true rfl) dJ2_remove_5 ?_
  refine J.pu (fun _ _ _ _ k => lv_pop X.1.1 X.1.2.1 dJ2_remove_8 rfl k) ?_
  refine J.pu (fun _ _ _ _ k => lv_aload_n X.1.1 X.1.2.1 dJ2_remove_9 rfl (lv_at hl 0 rfl) k) ?_
  refine J.getR (k := 1) (ci := 15) X in_J2 (show jCl[15]? = some (RJ2, TJ2, 3) from rfl) (by decide) q546 (fun _ h => h) dJ2_remove_10 (fun v10 h10 => ?_)
  refine J.astore_n (r := v10) (i := 2) (lv' := [(2, va_rf v10), (0, .ref this), (1, .int a1)]) X.1.1 X.1.2.1 dJ2_remove_13 rfl hl (by decide) (by first | rfl | simp [va_rf_cat, jcI, jcA, jcJ, jcD, jcF]) (fun ls hl => ?_)
  refine J.pu (fun _ _ _ _ k => W.rload_n X.1.1 X.1.2.1 dJ2_remove_14 rfl (lv_at hl 0 rfl) k) ?_
  refine J.pu (fun _ _ _ _ k => lv_iload_n X.1.1 X.1.2.1 dJ2_remove_15 rfl (lv_at hl 2 rfl) k) ?_
  refine J.aR' X dJ2_remove_16 (fun v16 h16 => ?_)
  refine J.astore_n (r := v16) (i := 3) (lv' := [(3, va_rf v16), (2, va_rf v10), (0, .ref this), (1, .int a1)]) X.1.1 X.1.2.1 dJ2_remove_17 rfl hl (by decide) (by first | rfl | simp [va_rf_cat, jcI, jcA, jcJ, jcD, jcF]) (fun ls hl => ?_)
  refine J.pu (fun _ _ _ _ k => lv_aload_n X.1.1 X.1.2.1 dJ2_remove_18 rfl (lv_at hl 2 rfl) k) ?_
  refine J.pu (fun _ _ _ _ k => W.rload_n X.1.1 X.1.2.1 dJ2_remove_19 rfl (lv_at hl 1 rfl) k) ?_
  refine J.pu (fun _ _ _ _ k => lv_iload_n X.1.1 X.1.2.1 dJ2_remove_20 rfl (lv_at hl 3 rfl) k) ?_
  refine J.bind (fun o21 g21 => ?_)
  refine J.bd' (fun v21 S21 h21 => ?_)
  refine J.cV (q := (RJ2, TJ2, 3)) (ci := 15) (As := [va_rf v10, .int a1]) (rest := []) (s2 := []) X ⟨rfl, rfl⟩ (ct_f_J2_fastRemove l G n σ o21 v10 a1) h21 (fun _ _ => cwV 2 X.1.2.2.2.2 (lw_V q928 q930 qs7 q142 q931) rfl rfl rfl (by decide +kernel) ⟨(Nat.le_of_ble_eq_true rfl), (Nat.le_of_ble_eq_true rfl)⟩) g21 rfl rfl hl.1 rfl rfl (Nat.le_of_ble_eq_true rfl) dJ2_remove_21 ?_
  refine J.pu (fun _ _ _ _ k => W.rload_n X.1.1 X.1.2.1 dJ2_remove_24 rfl (lv_at hl 0 rfl) k) ?_
  exact J.aret (vr := fun t : (Option Nat) × jH => jrR t.1) (fin := Prod.snd) (t := t) X hr (Or.inl ⟨_, rfl⟩) (by rfl) (by rfl) dJ2_remove_25
noncomputable def f_J2_set_b (G : jG) (n : Nat) (σ : jH) (this : Nat) (a1 : Int32) (a2 : Option Nat) : Option ((Option Nat) × jH) :=
  (gI σ (some this) 15 2).bind fun v2 => (f_J21_checkIndex G n σ a1 v2).bind fun v5 => (rc σ (some this) 15).bind fun o11 => (f_J2_elementData G n σ o11 a1).bind fun v11 => (gR σ (some this) 15 1).bind fun v16 => (sR G σ v16 a1 a2).bind fun S21 => some (v11, S21)
noncomputable def f_J2_set (G : jG) (n : Nat) (σ : jH) (this : Nat) (a1 : Int32) (a2 : Option Nat) : Option ((Option Nat) × jH) := jck σ (f_J2_set_b G n σ this a1 a2)
set_option maxHeartbeats 4000000 in
set_option maxRecDepth 100000 in
theorem ct_f_J2_set (l : Launch) (G : jG) (n : Nat) (σ : jH) (this : Nat) (a1 : Int32) (a2 : Option Nat) : jCt l G yJ2_set (ws_ yJ2_set cJ2_set 4 (some (.object "java/lang/Object"))) 2 43 jrR [.ref this, .int a1, va_rf a2] σ (f_J2_set G n σ this a1 a2) := by
  refine jCt.wr (lv := [(0, .ref this), (1, .int a1), (2, va_rf a2)]) (plainFor_of_name (by decide)) (by simp [lg_sl, va_rf_cat, jcI, jcA, jcJ, jcD, jcF]) (by simp [lv_args, va_rf_cat, jcI, jcA, jcJ, jcD, jcF]) ?_
  intro t p e s m args below meth c ls X hr hnm hl
  have X : jCx p c cJ2_set 4 s m args RJ2 G meth := X
  unfold f_J2_set_b
  refine J.pu (fun _ _ _ _ k => lv_iload_n X.1.1 X.1.2.1 dJ2_set_0 rfl (lv_at hl 1 rfl) k) ?_
  refine J.pu (fun _ _ _ _ k => lv_aload_n X.1.1 X.1.2.1 dJ2_set_1 rfl (lv_at hl 0 rfl) k) ?_
  refine J.getI (k := 2) (ci := 15) X in_J2 (show jCl[15]? = some (RJ2, TJ2, 3) from rfl) (by decide) q549 (fun _ h => h) dJ2_set_2 (fun v2 h2 => ?_)
  refine J.bind (fun v5 h5 => ?_)
  refine J.cS (As := [.int a1, .int v2]) (rest := []) (s2 := [.int v5]) X ⟨rfl, rfl⟩ (ct_f_J21_checkIndex l G n σ a1 v2) (jrd_of h5) (fun _ _ => va_cwS 2 X.1.2.2.2.2 (lw_S q856 q857 q165 q858) rfl rfl rfl (by decide +kernel) ⟨(Nat.le_of_ble_eq_true rfl), (Nat.le_of_ble_eq_true rfl)⟩) rfl hl.1 rfl rfl (Nat.le_of_ble_eq_true rfl) dJ2_set_5 ?_
  refine J.pu (fun _ _ _ _ k => lv_pop X.1.1 X.1.2.1 dJ2_set_8 rfl k) ?_
  refine J.pu (fun _ _ _ _ k => lv_aload_n X.1.1 X.1.2.1 dJ2_set_9 rfl (lv_at hl 0 rfl) k) ?_
  refine J.pu (fun _ _ _ _ k => lv_iload_n X.1.1 X.1.2.1 dJ2_set_10 rfl (lv_at hl 1 rfl) k) ?_
  refine J.bind (fun o11 g11 => ?_)
  refine J.bind (fun v11 h11 => ?_)
  refine J.cV (q := (RJ2, TJ2, 3)) (ci := 15) (As := [.int a1]) (rest := []) (s2 := [va_rf v11]) X ⟨rfl, rfl⟩ (ct_f_J2_elementData l G n σ o11 a1) (jrd_of h11) (fun _ _ => cwV 1 X.1.2.2.2.2 (lw_V q862 q863 q864 q142 q865) rfl rfl rfl (by decide +kernel) ⟨(Nat.le_of_ble_eq_true rfl), (Nat.le_of_ble_eq_true rfl)⟩) g11 rfl rfl hl.1 rfl rfl (Nat.le_of_ble_eq_true rfl) dJ2_set_11 ?_
  refine J.astore_n (r := v11) (i := 3) (lv' := [(3, va_rf v11), (0, .ref this), (1, .int a1), (2, va_rf a2)]) X.1.1 X.1.2.1 dJ2_set_14 rfl hl (by decide) (by first | rfl | simp [va_rf_cat, jcI, jcA, jcJ, jcD, jcF]) (fun ls hl => ?_)
  refine J.pu (fun _ _ _ _ k => lv_aload_n X.1.1 X.1.2.1 dJ2_set_15 rfl (lv_at hl 1 rfl) k) ?_
  refine J.getR (k := 1) (ci := 15) X in_J2 (show jCl[15]? = some (RJ2, TJ2, 3) from rfl) (by decide) q546 (fun _ h => h) dJ2_set_16 (fun v16 h16 => ?_)
  refine J.pu (fun _ _ _ _ k => lv_iload_n X.1.1 X.1.2.1 dJ2_set_19 rfl (lv_at hl 2 rfl) k) ?_
  refine J.pu (fun _ _ _ _ k => W.rload_n X.1.1 X.1.2.1 dJ2_set_20 rfl (lv_at hl 3 rfl) k) ?_
  refine J.sR' X dJ2_set_21 (fun S21 h21 => ?_)
  refine J.pu (fun _ _ _ _ k => W.rload_n X.1.1 X.1.2.1 dJ2_set_22 rfl (lv_at hl 0 rfl) k) ?_
  exact J.aret (vr := fun t : (Option Nat) × jH => jrR t.1) (fin := Prod.snd) (t := t) X hr (Or.inl ⟨_, rfl⟩) (by rfl) (by rfl) dJ2_set_23
noncomputable def f_J20_size (G : jG) (n : Nat) (σ : jH) (this : Nat) : Option (Int32) :=
  (gI σ (some this) 18 2).bind fun v1 => (gI σ (some this) 18 1).bind fun v5 => (gR σ (some this) 18 0).bind fun v9 => (aLen' σ v9).bind fun v12 => (f_J20_sub G n σ v1 v5 v12).bind fun v13 => some v13
set_option maxHeartbeats 4000000 in
set_option maxRecDepth 100000 in
theorem ct_f_J20_size (l : Launch) (G : jG) (n : Nat) (σ : jH) (this : Nat) : jCt l G yJ20_size (ws_ yJ20_size cJ20_size 1 (some .int)) 1 22 jrI [.ref this] σ (jrd σ (f_J20_size G n σ this)) := by
  refine jCt.rd (lv := [(0, .ref this)]) (plainFor_of_name (by decide)) (Nat.le_of_ble_eq_true rfl) rfl ?_
  intro t p e s m args below meth c ls X hr hnm hl
  have X : jCx p c cJ20_size 1 s m args RJ20 G meth := X
  unfold f_J20_size
  refine J.pu (fun _ _ _ _ k => lv_aload_n X.1.1 X.1.2.1 dJ20_size_0 rfl (lv_at hl 0 rfl) k) ?_
  refine J.getI (k := 2) (ci := 18) X in_J20 (show jCl[18]? = some (RJ20, TJ20, 3) from rfl) (by decide) q812 (fun _ h => h) dJ20_size_1 (fun v1 h1 => ?_)
  refine J.pu (fun _ _ _ _ k => lv_aload_n X.1.1 X.1.2.1 dJ20_size_4 rfl (lv_at hl 0 rfl) k) ?_
  refine J.getI (k := 1) (ci := 18) X in_J20 (show jCl[18]? = some (RJ20, TJ20, 3) from rfl) (by decide) q811 (fun _ h => h) dJ20_size_5 (fun v5 h5 => ?_)
  refine J.pu (fun _ _ _ _ k => lv_aload_n X.1.1 X.1.2.1 dJ20_size_8 rfl (lv_at hl 0 rfl) k) ?_
  refine J.getR (k := 0) (ci := 18) X in_J20 (show jCl[18]? = some (RJ20, TJ20, 3) from rfl) (by decide) q810 (fun _ h => h) dJ20_size_9 (fun v9 h9 => ?_)
  refine J.len X dJ20_size_12 (fun v12 h12 => ?_)
  refine J.bind (fun v13 h13 => ?_)
  refine J.cS (As := [.int v1, .int v5, .int v12]) (rest := []) (s2 := [.int v13]) X ⟨rfl, rfl⟩ (ct_f_J20_sub l G n σ v1 v5 v12) (jrd_of h13) (fun _ _ => va_cwS 3 X.1.2.2.2.2 (lw_S q1740 q1741 q164 q1742) rfl rfl rfl (by decide +kernel) ⟨(Nat.le_of_ble_eq_true rfl), (Nat.le_of_ble_eq_true rfl)⟩) rfl hl.1 rfl rfl (Nat.le_of_ble_eq_true rfl) dJ20_size_13 ?_
  exact J.iret (vr := jrI) (fin := fun _ : Int32 => σ) (t := t) X hr (by rfl) (by rfl) dJ20_size_16
noncomputable def f_J20_clear_b (G : jG) (n : Nat) (σ : jH) (this : Nat) : Option (Unit × jH) :=
  (gR σ (some this) 18 0).bind fun v1 => (gI σ (some this) 18 1).bind fun v5 => (gI σ (some this) 18 2).bind fun v9 => bd (f_J20_circularClear G n σ v1 v5 v9) fun v12 S12 => (pI G S12 (some this) 18 2 0).bind fun S19 => (pI G S19 (some this) 18 1 0).bind fun S22 => some ((), S22)
noncomputable def f_J20_clear (G : jG) (n : Nat) (σ : jH) (this : Nat) : Option (Unit × jH) := jck σ (f_J20_clear_b G n σ this)
set_option maxHeartbeats 4000000 in
set_option maxRecDepth 100000 in
theorem ct_f_J20_clear (l : Launch) (G : jG) (n : Nat) (σ : jH) (this : Nat) : jCt l G yJ20_clear (ws_ yJ20_clear cJ20_clear 1 none) 1 23 jrV [.ref this] σ (f_J20_clear G n σ this) := by
  refine jCt.wr (lv := [(0, .ref this)]) (plainFor_of_name (by decide)) (Nat.le_of_ble_eq_true rfl) rfl ?_
  intro t p e s m args below meth c ls X hr hnm hl
  have X : jCx p c cJ20_clear 1 s m args RJ20 G meth := X
  unfold f_J20_clear_b
  refine J.pu (fun _ _ _ _ k => lv_aload_n X.1.1 X.1.2.1 dJ20_clear_0 rfl (lv_at hl 0 rfl) k) ?_
  refine J.getR (k := 0) (ci := 18) X in_J20 (show jCl[18]? = some (RJ20, TJ20, 3) from rfl) (by decide) q810 (fun _ h => h) dJ20_clear_1 (fun v1 h1 => ?_)
  refine J.pu (fun _ _ _ _ k => lv_aload_n X.1.1 X.1.2.1 dJ20_clear_4 rfl (lv_at hl 0 rfl) k) ?_
  refine J.getI (k := 1) (ci := 18) X in_J20 (show jCl[18]? = some (RJ20, TJ20, 3) from rfl) (by decide) q811 (fun _ h => h) dJ20_clear_5 (fun v5 h5 => ?_)
  refine J.pu (fun _ _ _ _ k => lv_aload_n X.1.1 X.1.2.1 dJ20_clear_8 rfl (lv_at hl 0 rfl) k) ?_
  refine J.getI (k := 2) (ci := 18) X in_J20 (show jCl[18]? = some (RJ20, TJ20, 3) from rfl) (by decide) q812 (fun _ h => h) dJ20_clear_9 (fun v9 h9 => ?_)
  refine J.bd' (fun v12 S12 h12 => ?_)
  refine J.cS (As := [va_rf v1, .int v5, .int v9]) (rest := []) (s2 := []) X ⟨rfl, rfl⟩ (ct_f_J20_circularClear l G n σ v1 v5 v9) h12 (fun _ _ => va_cwS 3 X.1.2.2.2.2 (lw_S q1747 q1748 q164 q1749) rfl rfl rfl (by decide +kernel) ⟨(Nat.le_of_ble_eq_true rfl), (Nat.le_of_ble_eq_true rfl)⟩) rfl hl.1 rfl rfl (Nat.le_of_ble_eq_true rfl) dJ20_clear_12 ?_
  refine J.pu (fun _ _ _ _ k => lv_aload_n X.1.1 X.1.2.1 dJ20_clear_15 rfl (lv_at hl 0 rfl) k) ?_
  refine J.pu (fun _ _ _ _ k => lv_aload_n X.1.1 X.1.2.1 dJ20_clear_16 rfl (lv_at hl 0 rfl) k) ?_
  refine J.pu (fun _ _ _ _ k => lv_iconst (v := 0) X.1.1 X.1.2.1 dJ20_clear_17 (by decide) k) ?_
  refine J.pu (fun _ _ _ _ k => lv_dup_x1 X.1.1 X.1.2.1 dJ20_clear_18 rfl rfl k) ?_
  refine J.putI (k := 2) (ci := 18) X in_J20 (show jCl[18]? = some (RJ20, TJ20, 3) from rfl) tyJ20_ok (fun a ha b hb h => Or.inl (nmJ20 a ha b hb h)) (by decide) q812 (fun _ h => h) rfl rfl dJ20_clear_19 (fun S19 h19 => ?_)
  refine J.putI (k := 1) (ci := 18) X in_J20 (show jCl[18]? = some (RJ20, TJ20, 3) from rfl) tyJ20_ok (fun a ha b hb h => Or.inl (nmJ20 a ha b hb h)) (by decide) q811 (fun _ h => h) rfl rfl dJ20_clear_22 (fun S22 h22 => ?_)
  exact J.vret (vr := fun t : Unit × jH => jrV t.1) (fin := Prod.snd) (t := t) X hr (by rfl) (by rfl) dJ20_clear_25
noncomputable def f_J20_pollFirst_b (G : jG) (n : Nat) (σ : jH) (this : Nat) : Option ((Option Nat) × jH) :=
  (gR σ (some this) 18 0).bind fun v1 => (gI σ (some this) 18 1).bind fun v7 => (f_J20_elementAt G n σ v1 v7).bind fun v12 => if v12 = none then (some (v12, σ)) else ((sR G σ v1 v7 none).bind fun S23 => (aLen' S23 v1).bind fun v27 => (f_J20_inc G n S23 v7 v27).bind fun v28 => (pI G S23 (some this) 18 1 v28).bind fun S31 => some (v12, S31))
noncomputable def f_J20_pollFirst (G : jG) (n : Nat) (σ : jH) (this : Nat) : Option ((Option Nat) × jH) := jck σ (f_J20_pollFirst_b G n σ this)
set_option maxHeartbeats 4000000 in
set_option maxRecDepth 100000 in
theorem ct_f_J20_pollFirst (l : Launch) (G : jG) (n : Nat) (σ : jH) (this : Nat) : jCt l G yJ20_pollFirst (ws_ yJ20_pollFirst cJ20_pollFirst 4 (some (.object "java/lang/Object"))) 1 21 jrR [.ref this] σ (f_J20_pollFirst G n σ this) := by
  refine jCt.wr (lv := [(0, .ref this)]) (plainFor_of_name (by decide)) (Nat.le_of_ble_eq_true rfl) rfl ?_
  intro t p e s m args below meth c ls X hr hnm hl
  have X : jCx p c cJ20_pollFirst 4 s m args RJ20 G meth := X
  unfold f_J20_pollFirst_b
  refine J.pu (fun _ _ _ _ k => lv_aload_n X.1.1 X.1.2.1 dJ20_pollFirst_0 rfl (lv_at hl 0 rfl) k) ?_
  refine J.getR (k := 0) (ci := 18) X in_J20 (show jCl[18]? = some (RJ20, TJ20, 3) from rfl) (by decide) q810 (fun _ h => h) dJ20_pollFirst_1 (fun v1 h1 => ?_)
  refine J.pu (fun _ _ _ _ k => lv_dup X.1.1 X.1.2.1 dJ20_pollFirst_4 (va_rf_cat _) k) ?_
  refine J.astore_n (r := v1) (i := 1) (lv' := [(1, va_rf v1), (0, .ref this)]) X.1.1 X.1.2.1 dJ20_pollFirst_5 rfl hl (by decide) (by first | rfl | simp [va_rf_cat, jcI, jcA, jcJ, jcD, jcF]) (fun ls hl => ?_)
  refine J.pu (fun _ _ _ _ k => lv_aload_n X.1.1 X.1.2.1 dJ20_pollFirst_6 rfl (lv_at hl 1 rfl) k) ?_
  refine J.getI (k := 1) (ci := 18) X in_J20 (show jCl[18]? = some (RJ20, TJ20, 3) from rfl) (by decide) q811 (fun _ h => h) dJ20_pollFirst_7 (fun v7 h7 => ?_)
  refine J.pu (fun _ _ _ _ k => lv_dup X.1.1 X.1.2.1 dJ20_pollFirst_10 rfl k) ?_
  refine J.istore_n (i := 2) (lv' := [(2, .int v7), (1, va_rf v1), (0, .ref this)]) X.1.1 X.1.2.1 dJ20_pollFirst_11 rfl hl (by decide) (by first | rfl | simp [va_rf_cat, jcI, jcA, jcJ, jcD, jcF]) (fun ls hl => ?_)
  refine J.bind (fun v12 h12 => ?_)
  refine J.cS (As := [va_rf v1, .int v7]) (rest := []) (s2 := [va_rf v12]) X ⟨rfl, rfl⟩ (ct_f_J20_elementAt l G n σ v1 v7) (jrd_of h12) (fun _ _ => va_cwS 2 X.1.2.2.2.2 (lw_S q1915 q1916 q164 q1917) rfl rfl rfl (by decide +kernel) ⟨(Nat.le_of_ble_eq_true rfl), (Nat.le_of_ble_eq_true rfl)⟩) rfl hl.1 rfl rfl (Nat.le_of_ble_eq_true rfl) dJ20_pollFirst_12 ?_
  refine J.astore_n (r := v12) (i := 3) (lv' := [(3, va_rf v12), (2, .int v7), (1, va_rf v1), (0, .ref this)]) X.1.1 X.1.2.1 dJ20_pollFirst_15 rfl hl (by decide) (by first | rfl | simp [va_rf_cat, jcI, jcA, jcJ, jcD, jcF]) (fun ls hl => ?_)
  refine J.pu (fun _ _ _ _ k => W.rload_n X.1.1 X.1.2.1 dJ20_pollFirst_16 rfl (lv_at hl 0 rfl) k) ?_
  refine J.br (fun _ _ _ _ ka kb => W.rnull (tgt := 34) X.1.1 X.1.2.1 dJ20_pollFirst_17 (by decide) ka kb) (fun c17 => ?_) (fun c17 => ?_)
  · refine J.pu (fun _ _ _ _ k => W.rload_n X.1.1 X.1.2.1 dJ20_pollFirst_34 rfl (lv_at hl 0 rfl) k) ?_
    exact J.aret (vr := fun t : (Option Nat) × jH => jrR t.1) (fin := Prod.snd) (t := t) X hr (Or.inl ⟨_, rfl⟩) (by rfl) (by rfl) dJ20_pollFirst_35
  · refine J.pu (fun _ _ _ _ k => W.rload_n X.1.1 X.1.2.1 dJ20_pollFirst_20 rfl (lv_at hl 2 rfl) k) ?_
    refine J.pu (fun _ _ _ _ k => lv_iload_n X.1.1 X.1.2.1 dJ20_pollFirst_21 rfl (lv_at hl 1 rfl) k) ?_
    refine J.pu (fun _ _ _ _ k => lv_null X.1.1 X.1.2.1 dJ20_pollFirst_22 k) ?_
    refine J.sR' X dJ20_pollFirst_23 (fun S23 h23 => ?_)
    refine J.pu (fun _ _ _ _ k => lv_aload_n X.1.1 X.1.2.1 dJ20_pollFirst_24 rfl (lv_at hl 3 rfl) k) ?_
    refine J.pu (fun _ _ _ _ k => lv_iload_n X.1.1 X.1.2.1 dJ20_pollFirst_25 rfl (lv_at hl 1 rfl) k) ?_
    refine J.pu (fun _ _ _ _ k => W.rload_n X.1.1 X.1.2.1 dJ20_pollFirst_26 rfl (lv_at hl 2 rfl) k) ?_
    refine J.len X dJ20_pollFirst_27 (fun v27 h27 => ?_)
    refine J.bind (fun v28 h28 => ?_)
    refine J.cS (As := [.int v7, .int v27]) (rest := [.ref this]) (s2 := [.int v28, .ref this]) X ⟨rfl, rfl⟩ (ct_f_J20_inc l G n S23 v7 v27) (jrd_of h28) (fun _ _ => va_cwS 2 X.1.2.2.2.2 (lw_S q1918 q1919 q164 q1920) rfl rfl rfl (by decide +kernel) ⟨(Nat.le_of_ble_eq_true rfl), (Nat.le_of_ble_eq_true rfl)⟩) rfl hl.1 rfl rfl (Nat.le_of_ble_eq_true rfl) dJ20_pollFirst_28 ?_
    refine J.putI (k := 1) (ci := 18) X in_J20 (show jCl[18]? = some (RJ20, TJ20, 3) from rfl) tyJ20_ok (fun a ha b hb h => Or.inl (nmJ20 a ha b hb h)) (by decide) q811 (fun _ h => h) rfl rfl dJ20_pollFirst_31 (fun S31 h31 => ?_)
    refine J.pu (fun _ _ _ _ k => W.rload_n X.1.1 X.1.2.1 dJ20_pollFirst_34 rfl (lv_at hl 0 rfl) k) ?_
    exact J.aret (vr := fun t : (Option Nat) × jH => jrR t.1) (fin := Prod.snd) (t := t) X hr (Or.inl ⟨_, rfl⟩) (by rfl) (by rfl) dJ20_pollFirst_35
noncomputable def f_J20_pollLast_b (G : jG) (n : Nat) (σ : jH) (this : Nat) : Option ((Option Nat) × jH) :=
  (gR σ (some this) 18 0).bind fun v1 => (gI σ (some this) 18 2).bind fun v7 => (aLen' σ v1).bind fun v11 => (f_J20_dec G n σ v7 v11).bind fun v12 => (f_J20_elementAt G n σ v1 v12).bind fun v17 => if v17 = none then (some (v17, σ)) else ((pI G σ (some this) 18 2 v12).bind fun S29 => (sR G S29 v1 v12 none).bind fun S33 => some (v17, S33))
noncomputable def f_J20_pollLast (G : jG) (n : Nat) (σ : jH) (this : Nat) : Option ((Option Nat) × jH) := jck σ (f_J20_pollLast_b G n σ this)
set_option maxHeartbeats 4000000 in
set_option maxRecDepth 100000 in
theorem ct_f_J20_pollLast (l : Launch) (G : jG) (n : Nat) (σ : jH) (this : Nat) : jCt l G yJ20_pollLast (ws_ yJ20_pollLast cJ20_pollLast 4 (some (.object "java/lang/Object"))) 1 21 jrR [.ref this] σ (f_J20_pollLast G n σ this) := by
  refine jCt.wr (lv := [(0, .ref this)]) (plainFor_of_name (by decide)) (Nat.le_of_ble_eq_true rfl) rfl ?_
  intro t p e s m args below meth c ls X hr hnm hl
  have X : jCx p c cJ20_pollLast 4 s m args RJ20 G meth := X
  unfold f_J20_pollLast_b
  refine J.pu (fun _ _ _ _ k => lv_aload_n X.1.1 X.1.2.1 dJ20_pollLast_0 rfl (lv_at hl 0 rfl) k) ?_
  refine J.getR (k := 0) (ci := 18) X in_J20 (show jCl[18]? = some (RJ20, TJ20, 3) from rfl) (by decide) q810 (fun _ h => h) dJ20_pollLast_1 (fun v1 h1 => ?_)
  refine J.pu (fun _ _ _ _ k => lv_dup X.1.1 X.1.2.1 dJ20_pollLast_4 (va_rf_cat _) k) ?_
  refine J.astore_n (r := v1) (i := 1) (lv' := [(1, va_rf v1), (0, .ref this)]) X.1.1 X.1.2.1 dJ20_pollLast_5 rfl hl (by decide) (by first | rfl | simp [va_rf_cat, jcI, jcA, jcJ, jcD, jcF]) (fun ls hl => ?_)
  refine J.pu (fun _ _ _ _ k => lv_aload_n X.1.1 X.1.2.1 dJ20_pollLast_6 rfl (lv_at hl 1 rfl) k) ?_
  refine J.getI (k := 2) (ci := 18) X in_J20 (show jCl[18]? = some (RJ20, TJ20, 3) from rfl) (by decide) q812 (fun _ h => h) dJ20_pollLast_7 (fun v7 h7 => ?_)
  refine J.pu (fun _ _ _ _ k => W.rload_n X.1.1 X.1.2.1 dJ20_pollLast_10 rfl (lv_at hl 0 rfl) k) ?_
  refine J.len X dJ20_pollLast_11 (fun v11 h11 => ?_)
  refine J.bind (fun v12 h12 => ?_)
  refine J.cS (As := [.int v7, .int v11]) (rest := [va_rf v1]) (s2 := [.int v12, va_rf v1]) X ⟨rfl, rfl⟩ (ct_f_J20_dec l G n σ v7 v11) (jrd_of h12) (fun _ _ => va_cwS 2 X.1.2.2.2.2 (lw_S q2702 q2703 q164 q2704) rfl rfl rfl (by decide +kernel) ⟨(Nat.le_of_ble_eq_true rfl), (Nat.le_of_ble_eq_true rfl)⟩) rfl hl.1 rfl rfl (by simp [va_rf_cat, jcI, jcA, jcJ, jcD, jcF]) dJ20_pollLast_12 ?_
  refine J.pu (fun _ _ _ _ k => lv_dup X.1.1 X.1.2.1 dJ20_pollLast_15 rfl k) ?_
  refine J.istore_n (i := 2) (lv' := [(2, .int v12), (1, va_rf v1), (0, .ref this)]) X.1.1 X.1.2.1 dJ20_pollLast_16 rfl hl (by decide) (by first | rfl | simp [va_rf_cat, jcI, jcA, jcJ, jcD, jcF]) (fun ls hl => ?_)
  refine J.bind (fun v17 h17 => ?_)
  refine J.cS (As := [va_rf v1, .int v12]) (rest := []) (s2 := [va_rf v17]) X ⟨rfl, rfl⟩ (ct_f_J20_elementAt l G n σ v1 v12) (jrd_of h17) (fun _ _ => va_cwS 2 X.1.2.2.2.2 (lw_S q1915 q1916 q164 q1917) rfl rfl rfl (by decide +kernel) ⟨(Nat.le_of_ble_eq_true rfl), (Nat.le_of_ble_eq_true rfl)⟩) rfl hl.1 rfl rfl (Nat.le_of_ble_eq_true rfl) dJ20_pollLast_17 ?_
  refine J.astore_n (r := v17) (i := 3) (lv' := [(3, va_rf v17), (2, .int v12), (1, va_rf v1), (0, .ref this)]) X.1.1 X.1.2.1 dJ20_pollLast_20 rfl hl (by decide) (by first | rfl | simp [va_rf_cat, jcI, jcA, jcJ, jcD, jcF]) (fun ls hl => ?_)
  refine J.pu (fun _ _ _ _ k => W.rload_n X.1.1 X.1.2.1 dJ20_pollLast_21 rfl (lv_at hl 0 rfl) k) ?_
  refine J.br (fun _ _ _ _ ka kb => W.rnull (tgt := 34) X.1.1 X.1.2.1 dJ20_pollLast_22 (by decide) ka kb) (fun c22 => ?_) (fun c22 => ?_)
  · refine J.pu (fun _ _ _ _ k => W.rload_n X.1.1 X.1.2.1 dJ20_pollLast_34 rfl (lv_at hl 0 rfl) k) ?_
    exact J.aret (vr := fun t : (Option Nat) × jH => jrR t.1) (fin := Prod.snd) (t := t) X hr (Or.inl ⟨_, rfl⟩) (by rfl) (by rfl) dJ20_pollLast_35
  · refine J.pu (fun _ _ _ _ k => W.rload_n X.1.1 X.1.2.1 dJ20_pollLast_25 rfl (lv_at hl 2 rfl) k) ?_
    refine J.pu (fun _ _ _ _ k => lv_aload_n X.1.1 X.1.2.1 dJ20_pollLast_26 rfl (lv_at hl 3 rfl) k) ?_
    refine J.pu (fun _ _ _ _ k => lv_iload_n X.1.1 X.1.2.1 dJ20_pollLast_27 rfl (lv_at hl 1 rfl) k) ?_
    refine J.pu (fun _ _ _ _ k => lv_dup_x1 X.1.1 X.1.2.1 dJ20_pollLast_28 rfl rfl k) ?_
    refine J.putI (k := 2) (ci := 18) X in_J20 (show jCl[18]? = some (RJ20, TJ20, 3) from rfl) tyJ20_ok (fun a ha b hb h => Or.inl (nmJ20 a ha b hb h)) (by decide) q812 (fun _ h => h) rfl rfl dJ20_pollLast_29 (fun S29 h29 => ?_)
    refine J.pu (fun _ _ _ _ k => lv_null X.1.1 X.1.2.1 dJ20_pollLast_32 k) ?_
    refine J.sR' X dJ20_pollLast_33 (fun S33 h33 => ?_)
    refine J.pu (fun _ _ _ _ k => W.rload_n X.1.1 X.1.2.1 dJ20_pollLast_34 rfl (lv_at hl 0 rfl) k) ?_
    exact J.aret (vr := fun t : (Option Nat) × jH => jrR t.1) (fin := Prod.snd) (t := t) X hr (Or.inl ⟨_, rfl⟩) (by rfl) (by rfl) dJ20_pollLast_35
noncomputable def f_J26_next_b (G : jG) (n : Nat) (σ : jH) (this : Nat) : Option ((Option Nat) × jH) :=
  (rc σ (some this) 19).bind fun o1 => (f_J26_checkForComodification G n σ o1).bind fun v1 => (rc σ (some this) 19).bind fun o5 => (f_J26_hasNext G n σ o5).bind fun v5 => if v5 = 0 then (none) else ((gR σ (some this) 19 1).bind fun v21 => (pR G σ (some this) 19 0 v21).bind fun S24 => (gR S24 (some this) 19 1).bind fun v29 => (gR S24 v29 17 1).bind fun v32 => (pR G S24 (some this) 19 1 v32).bind fun S35 => (gI S35 (some this) 19 2).bind fun v40 => (pI G S35 (some this) 19 2 (v40 + 1)).bind fun S45 => (gR S45 (some this) 19 0).bind fun v49 => (gR S45 v49 17 0).bind fun v52 => some (v52, S45))
noncomputable def f_J26_next (G : jG) (n : Nat) (σ : jH) (this : Nat) : Option ((Option Nat) × jH) := jck σ (f_J26_next_b G n σ this)
set_option maxHeartbeats 4000000 in
set_option maxRecDepth 100000 in
theorem ct_f_J26_next (l : Launch) (G : jG) (n : Nat) (σ : jH) (this : Nat) : jCt l G yJ26_next (ws_ yJ26_next cJ26_next 1 (some (.object "java/lang/Object"))) 1 20 jrR [.ref this] σ (f_J26_next G n σ this) := by
  refine jCt.wr (lv := [(0, .ref this)]) (plainFor_of_name (by decide)) (Nat.le_of_ble_eq_true rfl) rfl ?_
  intro t p e s m args below meth c ls X hr hnm hl
  have X : jCx p c cJ26_next 1 s m args RJ26 G meth := X
  unfold f_J26_next_b
  refine J.pu (fun _ _ _ _ k => lv_aload_n X.1.1 X.1.2.1 dJ26_next_0 rfl (lv_at hl 0 rfl) k) ?_
  refine J.bind (fun o1 g1 => ?_)
  refine J.bind (fun v1 h1 => ?_)
  refine J.cV (q := (RJ26, TJ26, 5)) (ci := 19) (As := []) (rest := []) (s2 := []) X ⟨rfl, rfl⟩ (ct_f_J26_checkForComodification l G n σ o1) (jrd_of h1) (fun _ _ => cwV 0 X.1.2.2.2.2 (lw_V q1314 q1315 q1316 q172 q1317) rfl rfl rfl (by decide +kernel) ⟨(Nat.le_of_ble_eq_true rfl), (Nat.le_of_ble_eq_true rfl)⟩) g1 rfl rfl hl.1 rfl rfl (Nat.le_of_ble_eq_true rfl) dJ26_next_1 ?_
  refine J.pu (fun _ _ _ _ k => lv_aload_n X.1.1 X.1.2.1 dJ26_next_4 rfl (lv_at hl 0 rfl) k) ?_
  refine J.bind (fun o5 g5 => ?_)
  refine J.bind (fun v5 h5 => ?_)
  refine J.cV (q := (RJ26, TJ26, 5)) (ci := 19) (As := []) (rest := []) (s2 := [.int v5]) X ⟨rfl, rfl⟩ (ct_f_J26_hasNext l G n σ o5) (jrd_of h5) (fun _ _ => cwV 0 X.1.2.2.2.2 (lw_V q1318 q1198 q3330 q172 q1200) rfl rfl rfl (by decide +kernel) ⟨(Nat.le_of_ble_eq_true rfl), (Nat.le_of_ble_eq_true rfl)⟩) g5 rfl rfl hl.1 rfl rfl (Nat.le_of_ble_eq_true rfl) dJ26_next_5 ?_
  refine J.br (fun _ _ _ _ ka kb => lv_if_ne (tgt := 19) X.1.1 X.1.2.1 dJ26_next_8 (by decide) kb ka) (fun c8 => ?_) (fun c8 => ?_)
  · exact J.nil_
  · refine J.pu (fun _ _ _ _ k => lv_aload_n X.1.1 X.1.2.1 dJ26_next_19 rfl (lv_at hl 0 rfl) k) ?_
    refine J.pu (fun _ _ _ _ k => lv_aload_n X.1.1 X.1.2.1 dJ26_next_20 rfl (lv_at hl 0 rfl) k) ?_
    refine J.getR (k := 1) (ci := 19) X in_J26 (show jCl[19]? = some (RJ26, TJ26, 5) from rfl) (by decide) q1155 (fun _ h => h) dJ26_next_21 (fun v21 h21 => ?_)
    refine J.putR (k := 0) (ci := 19) X in_J26 (show jCl[19]? = some (RJ26, TJ26, 5) from rfl) tyJ26_ok (fun a ha b hb h => Or.inl (nmJ26 a ha b hb h)) (by decide) q1154 (fun _ h => h) rfl (Or.inl ⟨_, rfl⟩) dJ26_next_24 (fun S24 h24 => ?_)
    refine J.pu (fun _ _ _ _ k => lv_aload_n X.1.1 X.1.2.1 dJ26_next_27 rfl (lv_at hl 0 rfl) k) ?_
    refine J.pu (fun _ _ _ _ k => lv_aload_n X.1.1 X.1.2.1 dJ26_next_28 rfl (lv_at hl 0 rfl) k) ?_
    refine J.getR (k := 1) (ci := 19) X in_J26 (show jCl[19]? = some (RJ26, TJ26, 5) from rfl) (by decide) q1155 (fun _ h => h) dJ26_next_29 (fun v29 h29 => ?_)
    refine J.getR (k := 1) (ci := 17) X in_J17 (show jCl[17]? = some (RJ17, TJ17, 3) from rfl) (by decide) q667 (fun _ h => h) dJ26_next_32 (fun v32 h32 => ?_)
    refine J.putR (k := 1) (ci := 19) X in_J26 (show jCl[19]? = some (RJ26, TJ26, 5) from rfl) tyJ26_ok (fun a ha b hb h => Or.inl (nmJ26 a ha b hb h)) (by decide) q1155 (fun _ h => h) rfl (Or.inl ⟨_, rfl⟩) dJ26_next_35 (fun S35 h35 => ?_)
    refine J.pu (fun _ _ _ _ k => lv_aload_n X.1.1 X.1.2.1 dJ26_next_38 rfl (lv_at hl 0 rfl) k) ?_
    refine J.pu (fun _ _ _ _ k => lv_dup X.1.1 X.1.2.1 dJ26_next_39 rfl k) ?_
    refine J.getI (k := 2) (ci := 19) X in_J26 (show jCl[19]? = some (RJ26, TJ26, 5) from rfl) (by decide) q1156 (fun _ h => h) dJ26_next_40 (fun v40 h40 => ?_)
    refine J.pu (fun _ _ _ _ k => lv_iconst (v := 1) X.1.1 X.1.2.1 dJ26_next_43 (by decide) k) ?_
    refine J.pu (fun _ _ _ _ k => lv_iadd X.1.1 X.1.2.1 dJ26_next_44 k) ?_
    refine J.putI (k := 2) (ci := 19) X in_J26 (show jCl[19]? = some (RJ26, TJ26, 5) from rfl) tyJ26_ok (fun a ha b hb h => Or.inl (nmJ26 a ha b hb h)) (by decide) q1156 (fun _ h => h) rfl rfl dJ26_next_45 (fun S45 h45 => ?_)
    refine J.pu (fun _ _ _ _ k => lv_aload_n X.1.1 X.1.2.1 dJ26_next_48 rfl (lv_at hl 0 rfl) k) ?_
    refine J.getR (k := 0) (ci := 19) X in_J26 (show jCl[19]? = some (RJ26, TJ26, 5) from rfl) (by decide) q1154 (fun _ h => h) dJ26_next_49 (fun v49 h49 => ?_)
    refine J.getR (k := 0) (ci := 17) X in_J17 (show jCl[17]? = some (RJ17, TJ17, 3) from rfl) (by decide) q664 (fun _ h => h) dJ26_next_52 (fun v52 h52 => ?_)
    exact J.aret (vr := fun t : (Option Nat) × jH => jrR t.1) (fin := Prod.snd) (t := t) X hr (Or.inl ⟨_, rfl⟩) (by rfl) (by rfl) dJ26_next_55
noncomputable def f_J29_digit_2 (G : jG) (n : Nat) (σ : jH) (a0 : Int32) (a1 : Int32) : Option (Int32) :=
  (f_J30_of_J31 G n σ a0).bind fun v1 => (cdr G v1).bind fun o6 => (f_J31_digit G n σ o6 a0 a1).bind fun v6 => some v6
set_option maxHeartbeats 4000000 in
set_option maxRecDepth 100000 in
theorem ct_f_J29_digit_2 (l : Launch) (G : jG) (n : Nat) (σ : jH) (a0 : Int32) (a1 : Int32) : jCt l G yJ29_digit_2 (ws_ yJ29_digit_2 cJ29_digit_2 2 (some .int)) 1 23 jrI [.int a0, .int a1] σ (jrd σ (f_J29_digit_2 G n σ a0 a1)) := by
  refine jCt.rd (lv := [(0, .int a0), (1, .int a1)]) (plainFor_of_name (by decide)) (Nat.le_of_ble_eq_true rfl) rfl ?_
  intro t p e s m args below meth c ls X hr hnm hl
  have X : jCx p c cJ29_digit_2 2 s m args RJ29 G meth := X
  unfold f_J29_digit_2
  refine J.pu (fun _ _ _ _ k => lv_iload_n X.1.1 X.1.2.1 dJ29_digit_2_0 rfl (lv_at hl 0 rfl) k) ?_
  refine J.bind (fun v1 h1 => ?_)
  refine J.cS (As := [.int a0]) (rest := []) (s2 := [va_rf v1]) X ⟨rfl, rfl⟩ (ct_f_J30_of_J31 l G n σ a0) (jrd_of h1) (fun _ _ => va_cwS 1 X.1.2.2.2.2 (lw_S q1504 q1505 q179 q1506) rfl rfl rfl (by decide +kernel) ⟨(Nat.le_of_ble_eq_true rfl), (Nat.le_of_ble_eq_true rfl)⟩) rfl hl.1 rfl rfl (Nat.le_of_ble_eq_true rfl) dJ29_digit_2_1 ?_
  refine J.pu (fun _ _ _ _ k => lv_iload_n X.1.1 X.1.2.1 dJ29_digit_2_4 rfl (lv_at hl 0 rfl) k) ?_
  refine J.pu (fun _ _ _ _ k => lv_iload_n X.1.1 X.1.2.1 dJ29_digit_2_5 rfl (lv_at hl 1 rfl) k) ?_
  refine J.bind (fun o6 g6 => ?_)
  refine J.bind (fun v6 h6 => ?_)
  refine J.cUK (As := [.int a0, .int a1]) (rest := []) (s2 := [.int v6]) X ⟨rfl, rfl⟩ (ct_f_J31_digit l G n σ o6 a0 a1) (jrd_of h6) (fun _ _ => va_cwA (owner := "java/lang/CharacterData") 2 X.1.2.2.2.2 (lw_U q1509 q1511 q1512 q1513 q180 q1514) rfl rfl rfl (X.2.1.2.2.2.2.2.2.2.2.2.2.2.1 ⟨"java/lang/CharacterData", "digit", "(II)I"⟩ (List.mem_of_getElem? (i := 21) rfl)) (by decide +kernel) ⟨(Nat.le_of_ble_eq_true rfl), (Nat.le_of_ble_eq_true rfl)⟩) g6 rfl hl.1 rfl rfl (Nat.le_of_ble_eq_true rfl) dJ29_digit_2_6 ?_
  exact J.iret (vr := jrI) (fin := fun _ : Int32 => σ) (t := t) X hr (by rfl) (by rfl) dJ29_digit_2_9
noncomputable def f_J7_ensureCapacityInternal_J8_b (G : jG) (n : Nat) (σ : jH) (this : Nat) (a1 : Int32) : Option (Unit × jH) :=
  (gR σ (some this) 20 0).bind fun v1 => (aLen' σ v1).bind fun v4 => (gI σ (some this) 20 1).bind fun v6 => if (a1 - (v4 >>> (v6 &&& 31))) ≤ 0 then (some ((), σ)) else ((gR σ (some this) 20 0).bind fun v19 => (rc σ (some this) 20).bind fun o24 => (f_J7_newCapacity_J8 G n σ o24 a1).bind fun v24 => (gI σ (some this) 20 1).bind fun v28 => bd (f_J13_copyOf G n σ v19 (v24 <<< (v28 &&& 31))) fun v32 S32 => (pR G S32 (some this) 20 0 v32).bind fun S35 => some ((), S35))
noncomputable def f_J7_ensureCapacityInternal_J8 (G : jG) (n : Nat) (σ : jH) (this : Nat) (a1 : Int32) : Option (Unit × jH) := jck σ (f_J7_ensureCapacityInternal_J8_b G n σ this a1)
set_option maxHeartbeats 4000000 in
set_option maxRecDepth 100000 in
theorem ct_f_J7_ensureCapacityInternal_J8 (l : Launch) (G : jG) (n : Nat) (σ : jH) (this : Nat) (a1 : Int32) : jCt l G yJ7_ensureCapacityInternal (ws_ yJ7_ensureCapacityInternal cJ7_ensureCapacityInternal 3 none) 3 422 jrV [.ref this, .int a1] σ (f_J7_ensureCapacityInternal_J8 G n σ this a1) := by
  refine jCt.wr (lv := [(0, .ref this), (1, .int a1)]) (plainFor_of_name (by decide)) (Nat.le_of_ble_eq_true rfl) rfl ?_
  intro t p e s m args below meth c ls X hr hnm hl
  have X : jCx p c cJ7_ensureCapacityInternal 3 s m args RJ7 G meth := X
  unfold f_J7_ensureCapacityInternal_J8_b
  refine J.pu (fun _ _ _ _ k => lv_aload_n X.1.1 X.1.2.1 dJ7_ensureCapacityInternal_0 rfl (lv_at hl 0 rfl) k) ?_
  refine J.getR (k := 0) (ci := 20) X in_J8 (show jCl[20]? = some (RJ8, TJ8, 4) from rfl) (by decide) q290 (fun _ h => h) dJ7_ensureCapacityInternal_1 (fun v1 h1 => ?_)
  refine J.len X dJ7_ensureCapacityInternal_4 (fun v4 h4 => ?_)
  refine J.pu (fun _ _ _ _ k => lv_aload_n X.1.1 X.1.2.1 dJ7_ensureCapacityInternal_5 rfl (lv_at hl 0 rfl) k) ?_
  refine J.getI (k := 1) (ci := 20) X in_J8 (show jCl[20]? = some (RJ8, TJ8, 4) from rfl) (by decide) q291 (fun _ h => h) dJ7_ensureCapacityInternal_6 (fun v6 h6 => ?_)
  refine J.pu (fun _ _ _ _ k => lv_ishr X.1.1 X.1.2.1 dJ7_ensureCapacityInternal_9 k) ?_
  refine J.istore_n (i := 2) (lv' := [(2, .int (v4 >>> (v6 &&& 31))), (0, .ref this), (1, .int a1)]) X.1.1 X.1.2.1 dJ7_ensureCapacityInternal_10 rfl hl (by decide) (by first | rfl | simp [va_rf_cat, jcI, jcA, jcJ, jcD, jcF]) (fun ls hl => ?_)
  refine J.pu (fun _ _ _ _ k => lv_iload_n X.1.1 X.1.2.1 dJ7_ensureCapacityInternal_11 rfl (lv_at hl 2 rfl) k) ?_
  refine J.pu (fun _ _ _ _ k => lv_iload_n X.1.1 X.1.2.1 dJ7_ensureCapacityInternal_12 rfl (lv_at hl 0 rfl) k) ?_
  refine J.pu (fun _ _ _ _ k => lv_isub X.1.1 X.1.2.1 dJ7_ensureCapacityInternal_13 k) ?_
  refine J.br (fun _ _ _ _ ka kb => lv_if_le (tgt := 38) X.1.1 X.1.2.1 dJ7_ensureCapacityInternal_14 (by decide) ka kb) (fun c14 => ?_) (fun c14 => ?_)
  · exact J.vret (vr := fun t : Unit × jH => jrV t.1) (fin := Prod.snd) (t := t) X hr (by rfl) (by rfl) dJ7_ensureCapacityInternal_38
  · refine J.pu (fun _ _ _ _ k => lv_aload_n X.1.1 X.1.2.1 dJ7_ensureCapacityInternal_17 rfl (lv_at hl 1 rfl) k) ?_
    refine J.pu (fun _ _ _ _ k => lv_aload_n X.1.1 X.1.2.1 dJ7_ensureCapacityInternal_18 rfl (lv_at hl 1 rfl) k) ?_
    refine J.getR (k := 0) (ci := 20) X in_J8 (show jCl[20]? = some (RJ8, TJ8, 4) from rfl) (by decide) q290 (fun _ h => h) dJ7_ensureCapacityInternal_19 (fun v19 h19 => ?_)
    refine J.pu (fun _ _ _ _ k => lv_aload_n X.1.1 X.1.2.1 dJ7_ensureCapacityInternal_22 rfl (lv_at hl 1 rfl) k) ?_
    refine J.pu (fun _ _ _ _ k => lv_iload_n X.1.1 X.1.2.1 dJ7_ensureCapacityInternal_23 rfl (lv_at hl 2 rfl) k) ?_
    refine J.bind (fun o24 g24 => ?_)
    refine J.bind (fun v24 h24 => ?_)
    refine J.cV (q := (RJ8, TJ8, 4)) (ci := 20) (As := [.int a1]) (rest := [va_rf v19, .ref this]) (s2 := [.int v24, va_rf v19, .ref this]) X ⟨rfl, rfl⟩ (ct_f_J7_newCapacity_J8 l G n σ o24 a1) (jrd_of h24) (fun _ _ => jcwQ 1 X.1.2.2.2.2 q321 q323 q147 q324 rfl rfl (by decide +kernel) ⟨(Nat.le_of_ble_eq_true rfl), (Nat.le_of_ble_eq_true rfl)⟩ (jsl8 X.2.1)) g24 rfl rfl hl.1 rfl rfl (by simp [va_rf_cat, jcI, jcA, jcJ, jcD, jcF]) dJ7_ensureCapacityInternal_24 ?_
    refine J.pu (fun _ _ _ _ k => lv_aload_n X.1.1 X.1.2.1 dJ7_ensureCapacityInternal_27 rfl (lv_at hl 1 rfl) k) ?_
    refine J.getI (k := 1) (ci := 20) X in_J8 (show jCl[20]? = some (RJ8, TJ8, 4) from rfl) (by decide) q291 (fun _ h => h) dJ7_ensureCapacityInternal_28 (fun v28 h28 => ?_)
    refine J.pu (fun _ _ _ _ k => lv_ishl X.1.1 X.1.2.1 dJ7_ensureCapacityInternal_31 k) ?_
    refine J.bd' (fun v32 S32 h32 => ?_)
    refine J.cS (As := [va_rf v19, .int (v24 <<< (v28 &&& 31))]) (rest := [.ref this]) (s2 := [va_rf v32, .ref this]) X ⟨rfl, rfl⟩ (ct_f_J13_copyOf l G n σ v19 (v24 <<< (v28 &&& 31))) h32 (fun _ _ => va_cwS 2 X.1.2.2.2.2 (lw_S q336 q337 q153 q338) rfl rfl rfl (by decide +kernel) ⟨(Nat.le_of_ble_eq_true rfl), (Nat.le_of_ble_eq_true rfl)⟩) rfl hl.1 rfl rfl (Nat.le_of_ble_eq_true rfl) dJ7_ensureCapacityInternal_32 ?_
    refine J.putR (k := 0) (ci := 20) X in_J8 (show jCl[20]? = some (RJ8, TJ8, 4) from rfl) tyJ8_ok (fun a ha b hb h => Or.inl (nmJ8 a ha b hb h)) (by decide) q290 (fun _ h => h) rfl (Or.inr ⟨_, rfl⟩) dJ7_ensureCapacityInternal_35 (fun S35 h35 => ?_)
    exact J.vret (vr := fun t : Unit × jH => jrV t.1) (fin := Prod.snd) (t := t) X hr (by rfl) (by rfl) dJ7_ensureCapacityInternal_38
noncomputable def f_J7_append_2_J8_b (G : jG) (n : Nat) (σ : jH) (this : Nat) (a1 : Int32) : Option ((Option Nat) × jH) :=
  (gI σ (some this) 20 3).bind fun v1 => (f_J16_stringSize G n σ a1).bind fun v7 => (rc σ (some this) 20).bind fun o14 => bd (f_J7_ensureCapacityInternal_J8 G n σ o14 (v1 + v7)) fun v14 S14 => (rc S14 (some this) 20).bind fun o18 => (f_J7_isLatin1_J8 G n S14 o18).bind fun v18 => if v18 = 0 then ((gR S14 (some this) 20 0).bind fun v41 => none) else ((gR S14 (some this) 20 0).bind fun v27 => bd (f_J16_getChars G n S14 a1 (v1 + v7) v27) fun v30 S30 => (pI G S30 (some this) 20 3 (v1 + v7)).bind fun S50 => some ((some this), S50))
noncomputable def f_J7_append_2_J8 (G : jG) (n : Nat) (σ : jH) (this : Nat) (a1 : Int32) : Option ((Option Nat) × jH) := jck σ (f_J7_append_2_J8_b G n σ this a1)
set_option maxHeartbeats 4000000 in
set_option maxRecDepth 100000 in
theorem ct_f_J7_append_2_J8 (l : Launch) (G : jG) (n : Nat) (σ : jH) (this : Nat) (a1 : Int32) : jCt l G yJ7_append_2 (ws_ yJ7_append_2 cJ7_append_2 4 (some (.object "java/lang/AbstractStringBuilder"))) 4 444 jrR [.ref this, .int a1] σ (f_J7_append_2_J8 G n σ this a1) := by
  refine jCt.wr (lv := [(0, .ref this), (1, .int a1)]) (plainFor_of_name (by decide)) (Nat.le_of_ble_eq_true rfl) rfl ?_
  intro t p e s m args below meth c ls X hr hnm hl
  have X : jCx p c cJ7_append_2 4 s m args RJ7 G meth := X
  unfold f_J7_append_2_J8_b
  refine J.pu (fun _ _ _ _ k => lv_aload_n X.1.1 X.1.2.1 dJ7_append_2_0 rfl (lv_at hl 0 rfl) k) ?_
  refine J.getI (k := 3) (ci := 20) X in_J8 (show jCl[20]? = some (RJ8, TJ8, 4) from rfl) (by decide) q294 (fun _ h => h) dJ7_append_2_1 (fun v1 h1 => ?_)
  refine J.istore_n (i := 2) (lv' := [(2, .int v1), (0, .ref this), (1, .int a1)]) X.1.1 X.1.2.1 dJ7_append_2_4 rfl hl (by decide) (by first | rfl | simp [va_rf_cat, jcI, jcA, jcJ, jcD, jcF]) (fun ls hl => ?_)
  refine J.pu (fun _ _ _ _ k => lv_iload_n X.1.1 X.1.2.1 dJ7_append_2_5 rfl (lv_at hl 0 rfl) k) ?_
  refine J.pu (fun _ _ _ _ k => lv_iload_n X.1.1 X.1.2.1 dJ7_append_2_6 rfl (lv_at hl 2 rfl) k) ?_
  refine J.bind (fun v7 h7 => ?_)
  refine J.cS (As := [.int a1]) (rest := [.int v1]) (s2 := [.int v7, .int v1]) X ⟨rfl, rfl⟩ (ct_f_J16_stringSize l G n σ a1) (jrd_of h7) (fun _ _ => va_cwS 1 X.1.2.2.2.2 (lw_S q433 q434 q158 q435) rfl rfl rfl (by decide +kernel) ⟨(Nat.le_of_ble_eq_true rfl), (Nat.le_of_ble_eq_true rfl)⟩) rfl hl.1 rfl rfl (Nat.le_of_ble_eq_true rfl) dJ7_append_2_7 ?_
  refine J.pu (fun _ _ _ _ k => lv_iadd X.1.1 X.1.2.1 dJ7_append_2_10 k) ?_
  refine J.istore_n (i := 3) (lv' := [(3, .int (v1 + v7)), (2, .int v1), (0, .ref this), (1, .int a1)]) X.1.1 X.1.2.1 dJ7_append_2_11 rfl hl (by decide) (by first | rfl | simp [va_rf_cat, jcI, jcA, jcJ, jcD, jcF]) (fun ls hl => ?_)
  refine J.pu (fun _ _ _ _ k => lv_aload_n X.1.1 X.1.2.1 dJ7_append_2_12 rfl (lv_at hl 2 rfl) k) ?_
  refine J.pu (fun _ _ _ _ k => lv_iload_n X.1.1 X.1.2.1 dJ7_append_2_13 rfl (lv_at hl 0 rfl) k) ?_
  refine J.bind (fun o14 g14 => ?_)
  refine J.bd' (fun v14 S14 h14 => ?_)
  refine J.cV (q := (RJ8, TJ8, 4)) (ci := 20) (As := [.int (v1 + v7)]) (rest := []) (s2 := []) X ⟨rfl, rfl⟩ (ct_f_J7_ensureCapacityInternal_J8 l G n σ o14 (v1 + v7)) h14 (fun _ _ => jcwQ 1 X.1.2.2.2.2 q317 q319 q147 q320 rfl rfl (by decide +kernel) ⟨(Nat.le_of_ble_eq_true rfl), (Nat.le_of_ble_eq_true rfl)⟩ (jsl9 X.2.1)) g14 rfl rfl hl.1 rfl rfl (Nat.le_of_ble_eq_true rfl) dJ7_append_2_14 ?_
  refine J.pu (fun _ _ _ _ k => lv_aload_n X.1.1 X.1.2.1 dJ7_append_2_17 rfl (lv_at hl 2 rfl) k) ?_
  refine J.bind (fun o18 g18 => ?_)
  refine J.bind (fun v18 h18 => ?_)
  refine J.cU (q := (RJ8, TJ8, 4)) (ci := 20) (As := []) (rest := []) (s2 := [.int v18]) X ⟨rfl, rfl⟩ (ct_f_J7_isLatin1_J8 l G n S14 o18) (jrd_of h18) (fun _ _ => va_cwU 0 X.1.2.2.2.2 (lw_U q352 q354 q355 q353 q147 q356) rfl rfl rfl rfl (by decide +kernel) ⟨(Nat.le_of_ble_eq_true rfl), (Nat.le_of_ble_eq_true rfl)⟩) g18 rfl rfl hl.1 rfl rfl (Nat.le_of_ble_eq_true rfl) dJ7_append_2_18 ?_
  refine J.br (fun _ _ _ _ ka kb => lv_if_eq (tgt := 37) X.1.1 X.1.2.1 dJ7_append_2_21 (by decide) ka kb) (fun c21 => ?_) (fun c21 => ?_)
  · refine J.pu (fun _ _ _ _ k => lv_iload_n X.1.1 X.1.2.1 dJ7_append_2_37 rfl (lv_at hl 3 rfl) k) ?_
    refine J.pu (fun _ _ _ _ k => lv_iload_n X.1.1 X.1.2.1 dJ7_append_2_38 rfl (lv_at hl 1 rfl) k) ?_
    refine J.pu (fun _ _ _ _ k => lv_iload_n X.1.1 X.1.2.1 dJ7_append_2_39 rfl (lv_at hl 0 rfl) k) ?_
    refine J.pu (fun _ _ _ _ k => lv_aload_n X.1.1 X.1.2.1 dJ7_append_2_40 rfl (lv_at hl 2 rfl) k) ?_
    refine J.getR (k := 0) (ci := 20) X in_J8 (show jCl[20]? = some (RJ8, TJ8, 4) from rfl) (by decide) q290 (fun _ h => h) dJ7_append_2_41 (fun v41 h41 => ?_)
    exact J.nil_
  · refine J.pu (fun _ _ _ _ k => lv_iload_n X.1.1 X.1.2.1 dJ7_append_2_24 rfl (lv_at hl 3 rfl) k) ?_
    refine J.pu (fun _ _ _ _ k => lv_iload_n X.1.1 X.1.2.1 dJ7_append_2_25 rfl (lv_at hl 0 rfl) k) ?_
    refine J.pu (fun _ _ _ _ k => lv_aload_n X.1.1 X.1.2.1 dJ7_append_2_26 rfl (lv_at hl 2 rfl) k) ?_
    refine J.getR (k := 0) (ci := 20) X in_J8 (show jCl[20]? = some (RJ8, TJ8, 4) from rfl) (by decide) q290 (fun _ h => h) dJ7_append_2_27 (fun v27 h27 => ?_)
    refine J.bd' (fun v30 S30 h30 => ?_)
    refine J.cS (As := [.int a1, .int (v1 + v7), va_rf v27]) (rest := []) (s2 := [.int v30]) X ⟨rfl, rfl⟩ (ct_f_J16_getChars l G n S14 a1 (v1 + v7) v27) h30 (fun _ _ => va_cwS 3 X.1.2.2.2.2 (lw_S q436 q437 q158 q438) rfl rfl rfl (by decide +kernel) ⟨(Nat.le_of_ble_eq_true rfl), (Nat.le_of_ble_eq_true rfl)⟩) rfl hl.1 rfl rfl (Nat.le_of_ble_eq_true rfl) dJ7_append_2_30 ?_
    refine J.pu (fun _ _ _ _ k => lv_pop X.1.1 X.1.2.1 dJ7_append_2_33 rfl k) ?_
    refine J.pu (fun _ _ _ _ k => lv_goto (tgt := 48) X.1.1 X.1.2.1 dJ7_append_2_34 (by decide) k) ?_
    refine J.pu (fun _ _ _ _ k => lv_aload_n X.1.1 X.1.2.1 dJ7_append_2_48 rfl (lv_at hl 2 rfl) k) ?_
    refine J.pu (fun _ _ _ _ k => lv_iload_n X.1.1 X.1.2.1 dJ7_append_2_49 rfl (lv_at hl 0 rfl) k) ?_
    refine J.putI (k := 3) (ci := 20) X in_J8 (show jCl[20]? = some (RJ8, TJ8, 4) from rfl) tyJ8_ok (fun a ha b hb h => Or.inl (nmJ8 a ha b hb h)) (by decide) q294 (fun _ h => h) rfl rfl dJ7_append_2_50 (fun S50 h50 => ?_)
    refine J.pu (fun _ _ _ _ k => lv_aload_n X.1.1 X.1.2.1 dJ7_append_2_53 rfl (lv_at hl 2 rfl) k) ?_
    exact J.aret (vr := fun t : (Option Nat) × jH => jrR t.1) (fin := Prod.snd) (t := t) X hr (Or.inl ⟨_, rfl⟩) (by rfl) (by rfl) dJ7_append_2_54
noncomputable def f_J7_append_3_J8_j45 (G : jG) (n : Nat) (this : Nat) (a1 : Int32) (B45 : jH) : Option ((Option Nat) × jH) :=
  (rc B45 (some this) 20).bind fun o46 => (f_J7_isLatin1_J8 G n B45 o46).bind fun v46 => if v46 = 0 then ((gR B45 (some this) 20 0).bind fun v57 => (gI B45 (some this) 20 3).bind fun v62 => (pI G B45 (some this) 20 3 (v62 + 1)).bind fun S68 => none) else (none)
noncomputable def f_J7_append_3_J8_b (G : jG) (n : Nat) (σ : jH) (this : Nat) (a1 : Int32) : Option ((Option Nat) × jH) :=
  (gI σ (some this) 20 3).bind fun v2 => (rc σ (some this) 20).bind fun o7 => bd (f_J7_ensureCapacityInternal_J8 G n σ o7 (v2 + 1)) fun v7 S7 => (rc S7 (some this) 20).bind fun o11 => (f_J7_isLatin1_J8 G n S7 o11).bind fun v11 => if v11 = 0 then (f_J7_append_3_J8_j45 G n this a1 S7) else ((f_J15_canEncode G n S7 a1).bind fun v18 => if v18 = 0 then (f_J7_append_3_J8_j45 G n this a1 S7) else ((gR S7 (some this) 20 0).bind fun v25 => (gI S7 (some this) 20 3).bind fun v30 => (pI G S7 (some this) 20 3 (v30 + 1)).bind fun S36 => (sI G S36 v25 1 v30 a1.toInt8.toInt32).bind fun S41 => some ((some this), S41)))
noncomputable def f_J7_append_3_J8 (G : jG) (n : Nat) (σ : jH) (this : Nat) (a1 : Int32) : Option ((Option Nat) × jH) := jck σ (f_J7_append_3_J8_b G n σ this a1)
set_option maxHeartbeats 4000000 in
set_option maxRecDepth 100000 in
theorem ct_f_J7_append_3_J8 (l : Launch) (G : jG) (n : Nat) (σ : jH) (this : Nat) (a1 : Int32) : jCt l G yJ7_append_3 (ws_ yJ7_append_3 cJ7_append_3 2 (some (.object "java/lang/AbstractStringBuilder"))) 4 444 jrR [.ref this, .int a1] σ (f_J7_append_3_J8 G n σ this a1) := by
  refine jCt.wr (lv := [(0, .ref this), (1, .int a1)]) (plainFor_of_name (by decide)) (Nat.le_of_ble_eq_true rfl) rfl ?_
  intro t p e s m args below meth c ls X hr hnm hl
  have X : jCx p c cJ7_append_3 2 s m args RJ7 G meth := X
  have j45 : ∀ (B45 : jH) (ls : Array Slot), lv_has ls 2 [(0, .ref this), (1, .int a1)] → jGo l G 4 444 σ (Prod.snd : (Option Nat) × jH → jH) (fun t => jrR t.1) t p e s m args below meth c (f_J7_append_3_J8_j45 G n this a1 B45) B45 (F0 m 45 ls []) := by
    intro B45 ls hl
    unfold f_J7_append_3_J8_j45
    refine J.pu (fun _ _ _ _ k => lv_aload_n X.1.1 X.1.2.1 dJ7_append_3_45 rfl (lv_at hl 0 rfl) k) ?_
    refine J.bind (fun o46 g46 => ?_)
    refine J.bind (fun v46 h46 => ?_)
    refine J.cU (q := (RJ8, TJ8, 4)) (ci := 20) (As := []) (rest := []) (s2 := [.int v46]) X ⟨rfl, rfl⟩ (ct_f_J7_isLatin1_J8 l G n B45 o46) (jrd_of h46) (fun _ _ => va_cwU 0 X.1.2.2.2.2 (lw_U q352 q354 q355 q353 q147 q356) rfl rfl rfl rfl (by decide +kernel) ⟨(Nat.le_of_ble_eq_true rfl), (Nat.le_of_ble_eq_true rfl)⟩) g46 rfl rfl hl.1 rfl rfl (Nat.le_of_ble_eq_true rfl) dJ7_append_3_46 ?_
    refine J.br (fun _ _ _ _ ka kb => lv_if_eq (tgt := 56) X.1.1 X.1.2.1 dJ7_append_3_49 (by decide) ka kb) (fun c49 => ?_) (fun c49 => ?_)
    · refine J.pu (fun _ _ _ _ k => lv_aload_n X.1.1 X.1.2.1 dJ7_append_3_56 rfl (lv_at hl 0 rfl) k) ?_
      refine J.getR (k := 0) (ci := 20) X in_J8 (show jCl[20]? = some (RJ8, TJ8, 4) from rfl) (by decide) q290 (fun _ h => h) dJ7_append_3_57 (fun v57 h57 => ?_)
      refine J.pu (fun _ _ _ _ k => lv_aload_n X.1.1 X.1.2.1 dJ7_append_3_60 rfl (lv_at hl 0 rfl) k) ?_
      refine J.pu (fun _ _ _ _ k => lv_dup X.1.1 X.1.2.1 dJ7_append_3_61 rfl k) ?_
      refine J.getI (k := 3) (ci := 20) X in_J8 (show jCl[20]? = some (RJ8, TJ8, 4) from rfl) (by decide) q294 (fun _ h => h) dJ7_append_3_62 (fun v62 h62 => ?_)
      refine J.pu (fun _ _ _ _ k => lv_dup_x1 X.1.1 X.1.2.1 dJ7_append_3_65 rfl rfl k) ?_
      refine J.pu (fun _ _ _ _ k => lv_iconst (v := 1) X.1.1 X.1.2.1 dJ7_append_3_66 (by decide) k) ?_
      refine J.pu (fun _ _ _ _ k => lv_iadd X.1.1 X.1.2.1 dJ7_append_3_67 k) ?_
      refine J.putI (k := 3) (ci := 20) X in_J8 (show jCl[20]? = some (RJ8, TJ8, 4) from rfl) tyJ8_ok (fun a ha b hb h => Or.inl (nmJ8 a ha b hb h)) (by decide) q294 (fun _ h => h) rfl rfl dJ7_append_3_68 (fun S68 h68 => ?_)
      refine J.pu (fun _ _ _ _ k => lv_iload_n X.1.1 X.1.2.1 dJ7_append_3_71 rfl (lv_at hl 1 rfl) k) ?_
      exact J.nil_
    · refine J.pu (fun _ _ _ _ k => lv_aload_n X.1.1 X.1.2.1 dJ7_append_3_52 rfl (lv_at hl 0 rfl) k) ?_
      exact J.nil_
  unfold f_J7_append_3_J8_b
  refine J.pu (fun _ _ _ _ k => lv_aload_n X.1.1 X.1.2.1 dJ7_append_3_0 rfl (lv_at hl 0 rfl) k) ?_
  refine J.pu (fun _ _ _ _ k => lv_aload_n X.1.1 X.1.2.1 dJ7_append_3_1 rfl (lv_at hl 0 rfl) k) ?_
  refine J.getI (k := 3) (ci := 20) X in_J8 (show jCl[20]? = some (RJ8, TJ8, 4) from rfl) (by decide) q294 (fun _ h => h) dJ7_append_3_2 (fun v2 h2 => ?_)
  refine J.pu (fun _ _ _ _ k => lv_iconst (v := 1) X.1.1 X.1.2.1 dJ7_append_3_5 (by decide) k) ?_
  refine J.pu (fun _ _ _ _ k => lv_iadd X.1.1 X.1.2.1 dJ7_append_3_6 k) ?_
  refine J.bind (fun o7 g7 => ?_)
  refine J.bd' (fun v7 S7 h7 => ?_)
  refine J.cV (q := (RJ8, TJ8, 4)) (ci := 20) (As := [.int (v2 + 1)]) (rest := []) (s2 := []) X ⟨rfl, rfl⟩ (ct_f_J7_ensureCapacityInternal_J8 l G n σ o7 (v2 + 1)) h7 (fun _ _ => jcwQ 1 X.1.2.2.2.2 q317 q319 q147 q320 rfl rfl (by decide +kernel) ⟨(Nat.le_of_ble_eq_true rfl), (Nat.le_of_ble_eq_true rfl)⟩ (jsl9 X.2.1)) g7 rfl rfl hl.1 rfl rfl (Nat.le_of_ble_eq_true rfl) dJ7_append_3_7 ?_
  refine J.pu (fun _ _ _ _ k => lv_aload_n X.1.1 X.1.2.1 dJ7_append_3_10 rfl (lv_at hl 0 rfl) k) ?_
  refine J.bind (fun o11 g11 => ?_)
  refine J.bind (fun v11 h11 => ?_)
  refine J.cU (q := (RJ8, TJ8, 4)) (ci := 20) (As := []) (rest := []) (s2 := [.int v11]) X ⟨rfl, rfl⟩ (ct_f_J7_isLatin1_J8 l G n S7 o11) (jrd_of h11) (fun _ _ => va_cwU 0 X.1.2.2.2.2 (lw_U q352 q354 q355 q353 q147 q356) rfl rfl rfl rfl (by decide +kernel) ⟨(Nat.le_of_ble_eq_true rfl), (Nat.le_of_ble_eq_true rfl)⟩) g11 rfl rfl hl.1 rfl rfl (Nat.le_of_ble_eq_true rfl) dJ7_append_3_11 ?_
  refine J.br (fun _ _ _ _ ka kb => lv_if_eq (tgt := 45) X.1.1 X.1.2.1 dJ7_append_3_14 (by decide) ka kb) (fun c14 => ?_) (fun c14 => ?_)
  · exact j45 S7 ls (lv_sub hl [0, 1] rfl)
  · refine J.pu (fun _ _ _ _ k => lv_iload_n X.1.1 X.1.2.1 dJ7_append_3_17 rfl (lv_at hl 1 rfl) k) ?_
    refine J.bind (fun v18 h18 => ?_)
    refine J.cS (As := [.int a1]) (rest := []) (s2 := [.int v18]) X ⟨rfl, rfl⟩ (ct_f_J15_canEncode l G n S7 a1) (jrd_of h18) (fun _ _ => va_cwS 1 X.1.2.2.2.2 (lw_S q1418 q1419 q156 q1420) rfl rfl rfl (by decide +kernel) ⟨(Nat.le_of_ble_eq_true rfl), (Nat.le_of_ble_eq_true rfl)⟩) rfl hl.1 rfl rfl (Nat.le_of_ble_eq_true rfl) dJ7_append_3_18 ?_
    refine J.br (fun _ _ _ _ ka kb => lv_if_eq (tgt := 45) X.1.1 X.1.2.1 dJ7_append_3_21 (by decide) ka kb) (fun c21 => ?_) (fun c21 => ?_)
    · exact j45 S7 ls (lv_sub hl [0, 1] rfl)
    · refine J.pu (fun _ _ _ _ k => lv_aload_n X.1.1 X.1.2.1 dJ7_append_3_24 rfl (lv_at hl 0 rfl) k) ?_
      refine J.getR (k := 0) (ci := 20) X in_J8 (show jCl[20]? = some (RJ8, TJ8, 4) from rfl) (by decide) q290 (fun _ h => h) dJ7_append_3_25 (fun v25 h25 => ?_)
      refine J.pu (fun _ _ _ _ k => lv_aload_n X.1.1 X.1.2.1 dJ7_append_3_28 rfl (lv_at hl 0 rfl) k) ?_
      refine J.pu (fun _ _ _ _ k => lv_dup X.1.1 X.1.2.1 dJ7_append_3_29 rfl k) ?_
      refine J.getI (k := 3) (ci := 20) X in_J8 (show jCl[20]? = some (RJ8, TJ8, 4) from rfl) (by decide) q294 (fun _ h => h) dJ7_append_3_30 (fun v30 h30 => ?_)
      refine J.pu (fun _ _ _ _ k => lv_dup_x1 X.1.1 X.1.2.1 dJ7_append_3_33 rfl rfl k) ?_
      refine J.pu (fun _ _ _ _ k => lv_iconst (v := 1) X.1.1 X.1.2.1 dJ7_append_3_34 (by decide) k) ?_
      refine J.pu (fun _ _ _ _ k => lv_iadd X.1.1 X.1.2.1 dJ7_append_3_35 k) ?_
      refine J.putI (k := 3) (ci := 20) X in_J8 (show jCl[20]? = some (RJ8, TJ8, 4) from rfl) tyJ8_ok (fun a ha b hb h => Or.inl (nmJ8 a ha b hb h)) (by decide) q294 (fun _ h => h) rfl rfl dJ7_append_3_36 (fun S36 h36 => ?_)
      refine J.pu (fun _ _ _ _ k => lv_iload_n X.1.1 X.1.2.1 dJ7_append_3_39 rfl (lv_at hl 1 rfl) k) ?_
      refine J.pu (fun _ _ _ _ k => lv_i2b (v := a1.toInt8.toInt32) X.1.1 X.1.2.1 dJ7_append_3_40 rfl k) ?_
      refine J.sI1 X dJ7_append_3_41 (fun S41 h41 => ?_)
      refine J.pu (fun _ _ _ _ k => lv_goto (tgt := 75) X.1.1 X.1.2.1 dJ7_append_3_42 (by decide) k) ?_
      refine J.pu (fun _ _ _ _ k => lv_aload_n X.1.1 X.1.2.1 dJ7_append_3_75 rfl (lv_at hl 0 rfl) k) ?_
      exact J.aret (vr := fun t : (Option Nat) × jH => jrR t.1) (fin := Prod.snd) (t := t) X hr (Or.inl ⟨_, rfl⟩) (by rfl) (by rfl) dJ7_append_3_76
noncomputable def f_J7_setLength_J8_j76 (G : jG) (n : Nat) (this : Nat) (a1 : Int32) (B76 : jH) : Option (Unit × jH) :=
  (pI G B76 (some this) 20 3 a1).bind fun S78 => some ((), S78)
noncomputable def f_J7_setLength_J8_b (G : jG) (n : Nat) (σ : jH) (this : Nat) (a1 : Int32) : Option (Unit × jH) :=
  if 0 ≤ a1 then ((rc σ (some this) 20).bind fun o15 => bd (f_J7_ensureCapacityInternal_J8 G n σ o15 a1) fun v15 S15 => (gI S15 (some this) 20 3).bind fun v19 => if a1 ≤ v19 then ((gI S15 (some this) 20 3).bind fun v64 => if v64 ≤ a1 then (f_J7_setLength_J8_j76 G n this a1 S15) else ((pB G S15 (some this) 20 2 1).bind fun S73 => f_J7_setLength_J8_j76 G n this a1 S73)) else ((rc S15 (some this) 20).bind fun o27 => (f_J7_isLatin1_J8 G n S15 o27).bind fun v27 => if v27 = 0 then ((gR S15 (some this) 20 0).bind fun v49 => (gI S15 (some this) 20 3).bind fun v53 => none) else ((gR S15 (some this) 20 0).bind fun v34 => (gI S15 (some this) 20 3).bind fun v38 => bd (f_J15_fillNull G n S15 v34 v38 a1) fun v42 S42 => f_J7_setLength_J8_j76 G n this a1 S42))) else (none)
noncomputable def f_J7_setLength_J8 (G : jG) (n : Nat) (σ : jH) (this : Nat) (a1 : Int32) : Option (Unit × jH) := jck σ (f_J7_setLength_J8_b G n σ this a1)
set_option maxHeartbeats 4000000 in
set_option maxRecDepth 100000 in
theorem ct_f_J7_setLength_J8 (l : Launch) (G : jG) (n : Nat) (σ : jH) (this : Nat) (a1 : Int32) : jCt l G yJ7_setLength (ws_ yJ7_setLength cJ7_setLength 2 none) 4 444 jrV [.ref this, .int a1] σ (f_J7_setLength_J8 G n σ this a1) := by
  refine jCt.wr (lv := [(0, .ref this), (1, .int a1)]) (plainFor_of_name (by decide)) (Nat.le_of_ble_eq_true rfl) rfl ?_
  intro t p e s m args below meth c ls X hr hnm hl
  have X : jCx p c cJ7_setLength 2 s m args RJ7 G meth := X
  have j76 : ∀ (B76 : jH) (ls : Array Slot), lv_has ls 2 [(0, .ref this), (1, .int a1)] → jGo l G 4 444 σ (Prod.snd : Unit × jH → jH) (fun t => jrV t.1) t p e s m args below meth c (f_J7_setLength_J8_j76 G n this a1 B76) B76 (F0 m 76 ls []) := by
    intro B76 ls hl
    unfold f_J7_setLength_J8_j76
    refine J.pu (fun _ _ _ _ k => lv_aload_n X.1.1 X.1.2.1 dJ7_setLength_76 rfl (lv_at hl 0 rfl) k) ?_
    refine J.pu (fun _ _ _ _ k => lv_iload_n X.1.1 X.1.2.1 dJ7_setLength_77 rfl (lv_at hl 1 rfl) k) ?_
    refine J.putI (k := 3) (ci := 20) X in_J8 (show jCl[20]? = some (RJ8, TJ8, 4) from rfl) tyJ8_ok (fun a ha b hb h => Or.inl (nmJ8 a ha b hb h)) (by decide) q294 (fun _ h => h) rfl rfl dJ7_setLength_78 (fun S78 h78 => ?_)
    exact J.vret (vr := fun t : Unit × jH => jrV t.1) (fin := Prod.snd) (t := t) X hr (by rfl) (by rfl) dJ7_setLength_81
  unfold f_J7_setLength_J8_b
  refine J.pu (fun _ _ _ _ k => lv_iload_n X.1.1 X.1.2.1 dJ7_setLength_0 rfl (lv_at hl 1 rfl) k) ?_
  refine J.br (fun _ _ _ _ ka kb => lv_if_ge (tgt := 13) X.1.1 X.1.2.1 dJ7_setLength_1 (by decide) ka kb) (fun c1 => ?_) (fun c1 => ?_)
  · refine J.pu (fun _ _ _ _ k => lv_aload_n X.1.1 X.1.2.1 dJ7_setLength_13 rfl (lv_at hl 0 rfl) k) ?_
    refine J.pu (fun _ _ _ _ k => lv_iload_n X.1.1 X.1.2.1 dJ7_setLength_14 rfl (lv_at hl 1 rfl) k) ?_
    refine J.bind (fun o15 g15 => ?_)
    refine J.bd' (fun v15 S15 h15 => ?_)
    refine J.cV (q := (RJ8, TJ8, 4)) (ci := 20) (As := [.int a1]) (rest := []) (s2 := []) X ⟨rfl, rfl⟩ (ct_f_J7_ensureCapacityInternal_J8 l G n σ o15 a1) h15 (fun _ _ => jcwQ 1 X.1.2.2.2.2 q317 q319 q147 q320 rfl rfl (by decide +kernel) ⟨(Nat.le_of_ble_eq_true rfl), (Nat.le_of_ble_eq_true rfl)⟩ (jsl9 X.2.1)) g15 rfl rfl hl.1 rfl rfl (Nat.le_of_ble_eq_true rfl) dJ7_setLength_15 ?_
    refine J.pu (fun _ _ _ _ k => lv_aload_n X.1.1 X.1.2.1 dJ7_setLength_18 rfl (lv_at hl 0 rfl) k) ?_
    refine J.getI (k := 3) (ci := 20) X in_J8 (show jCl[20]? = some (RJ8, TJ8, 4) from rfl) (by decide) q294 (fun _ h => h) dJ7_setLength_19 (fun v19 h19 => ?_)
    refine J.pu (fun _ _ _ _ k => lv_iload_n X.1.1 X.1.2.1 dJ7_setLength_22 rfl (lv_at hl 1 rfl) k) ?_
    refine J.br (fun _ _ _ _ ka kb => lv_icmp_ge (tgt := 63) X.1.1 X.1.2.1 dJ7_setLength_23 (by decide) ka kb) (fun c23 => ?_) (fun c23 => ?_)
    · refine J.pu (fun _ _ _ _ k => lv_aload_n X.1.1 X.1.2.1 dJ7_setLength_63 rfl (lv_at hl 0 rfl) k) ?_
      refine J.getI (k := 3) (ci := 20) X in_J8 (show jCl[20]? = some (RJ8, TJ8, 4) from rfl) (by decide) q294 (fun _ h => h) dJ7_setLength_64 (fun v64 h64 => ?_)
      refine J.pu (fun _ _ _ _ k => lv_iload_n X.1.1 X.1.2.1 dJ7_setLength_67 rfl (lv_at hl 1 rfl) k) ?_
      refine J.br (fun _ _ _ _ ka kb => lv_icmp_le (tgt := 76) X.1.1 X.1.2.1 dJ7_setLength_68 (by decide) ka kb) (fun c68 => ?_) (fun c68 => ?_)
      · exact j76 S15 ls (lv_sub hl [0, 1] rfl)
      · refine J.pu (fun _ _ _ _ k => lv_aload_n X.1.1 X.1.2.1 dJ7_setLength_71 rfl (lv_at hl 0 rfl) k) ?_
        refine J.pu (fun _ _ _ _ k => lv_iconst (v := 1) X.1.1 X.1.2.1 dJ7_setLength_72 (by decide) k) ?_
        refine J.putB (k := 2) (ci := 20) X in_J8 (show jCl[20]? = some (RJ8, TJ8, 4) from rfl) tyJ8_ok (fun a ha b hb h => Or.inl (nmJ8 a ha b hb h)) (by decide) q292 (fun _ h => h) rfl (Or.inl rfl) dJ7_setLength_73 (fun S73 h73 => ?_)
        exact j76 S73 ls (lv_sub hl [0, 1] rfl)
    · refine J.pu (fun _ _ _ _ k => lv_aload_n X.1.1 X.1.2.1 dJ7_setLength_26 rfl (lv_at hl 0 rfl) k) ?_
      refine J.bind (fun o27 g27 => ?_)
      refine J.bind (fun v27 h27 => ?_)
      refine J.cU (q := (RJ8, TJ8, 4)) (ci := 20) (As := []) (rest := []) (s2 := [.int v27]) X ⟨rfl, rfl⟩ (ct_f_J7_isLatin1_J8 l G n S15 o27) (jrd_of h27) (fun _ _ => va_cwU 0 X.1.2.2.2.2 (lw_U q352 q354 q355 q353 q147 q356) rfl rfl rfl rfl (by decide +kernel) ⟨(Nat.le_of_ble_eq_true rfl), (Nat.le_of_ble_eq_true rfl)⟩) g27 rfl rfl hl.1 rfl rfl (Nat.le_of_ble_eq_true rfl) dJ7_setLength_27 ?_
      refine J.br (fun _ _ _ _ ka kb => lv_if_eq (tgt := 48) X.1.1 X.1.2.1 dJ7_setLength_30 (by decide) ka kb) (fun c30 => ?_) (fun c30 => ?_)
      · refine J.pu (fun _ _ _ _ k => lv_aload_n X.1.1 X.1.2.1 dJ7_setLength_48 rfl (lv_at hl 0 rfl) k) ?_
        refine J.getR (k := 0) (ci := 20) X in_J8 (show jCl[20]? = some (RJ8, TJ8, 4) from rfl) (by decide) q290 (fun _ h => h) dJ7_setLength_49 (fun v49 h49 => ?_)
        refine J.pu (fun _ _ _ _ k => lv_aload_n X.1.1 X.1.2.1 dJ7_setLength_52 rfl (lv_at hl 0 rfl) k) ?_
        refine J.getI (k := 3) (ci := 20) X in_J8 (show jCl[20]? = some (RJ8, TJ8, 4) from rfl) (by decide) q294 (fun _ h => h) dJ7_setLength_53 (fun v53 h53 => ?_)
        refine J.pu (fun _ _ _ _ k => lv_iload_n X.1.1 X.1.2.1 dJ7_setLength_56 rfl (lv_at hl 1 rfl) k) ?_
        exact J.nil_
      · refine J.pu (fun _ _ _ _ k => lv_aload_n X.1.1 X.1.2.1 dJ7_setLength_33 rfl (lv_at hl 0 rfl) k) ?_
        refine J.getR (k := 0) (ci := 20) X in_J8 (show jCl[20]? = some (RJ8, TJ8, 4) from rfl) (by decide) q290 (fun _ h => h) dJ7_setLength_34 (fun v34 h34 => ?_)
        refine J.pu (fun _ _ _ _ k => lv_aload_n X.1.1 X.1.2.1 dJ7_setLength_37 rfl (lv_at hl 0 rfl) k) ?_
        refine J.getI (k := 3) (ci := 20) X in_J8 (show jCl[20]? = some (RJ8, TJ8, 4) from rfl) (by decide) q294 (fun _ h => h) dJ7_setLength_38 (fun v38 h38 => ?_)
        refine J.pu (fun _ _ _ _ k => lv_iload_n X.1.1 X.1.2.1 dJ7_setLength_41 rfl (lv_at hl 1 rfl) k) ?_
        refine J.bd' (fun v42 S42 h42 => ?_)
        refine J.cS (As := [va_rf v34, .int v38, .int a1]) (rest := []) (s2 := []) X ⟨rfl, rfl⟩ (ct_f_J15_fillNull l G n S15 v34 v38 a1) h42 (fun _ _ => va_cwS 3 X.1.2.2.2.2 (lw_S q2307 q2308 q156 q2309) rfl rfl rfl (by decide +kernel) ⟨(Nat.le_of_ble_eq_true rfl), (Nat.le_of_ble_eq_true rfl)⟩) rfl hl.1 rfl rfl (Nat.le_of_ble_eq_true rfl) dJ7_setLength_42 ?_
        refine J.pu (fun _ _ _ _ k => lv_goto (tgt := 76) X.1.1 X.1.2.1 dJ7_setLength_45 (by decide) k) ?_
        exact j76 S42 ls (lv_sub hl [0, 1] rfl)
  · exact J.nil_
noncomputable def f_J7_charAt_J8 (G : jG) (n : Nat) (σ : jH) (this : Nat) (a1 : Int32) : Option (Int32) :=
  (gI σ (some this) 20 1).bind fun v1 => (gR σ (some this) 20 0).bind fun v6 => (gI σ (some this) 20 3).bind fun v11 => (aLen' σ v6).bind fun v15 => (J12_min n v11 (v15 >>> (v1 &&& 31))).bind fun v18 => (f_J9_checkIndex G n σ a1 v18).bind fun v26 => if v1 = 0 then ((aI σ v6 1 a1).bind fun v35 => jbo .char (((v35 &&& 255).toUInt32 % 65536).toInt32) (some (((v35 &&& 255).toUInt32 % 65536).toInt32))) else (none)
set_option maxHeartbeats 4000000 in
set_option maxRecDepth 100000 in
theorem ct_f_J7_charAt_J8 (l : Launch) (G : jG) (n : Nat) (σ : jH) (this : Nat) (a1 : Int32) : jCt l G yJ7_charAt (ws_ yJ7_charAt cJ7_charAt 5 (some .char)) 2 43 jrI [.ref this, .int a1] σ (jrd σ (f_J7_charAt_J8 G n σ this a1)) := by
  refine jCt.rd (lv := [(0, .ref this), (1, .int a1)]) (plainFor_of_name (by decide)) (Nat.le_of_ble_eq_true rfl) rfl ?_
  intro t p e s m args below meth c ls X hr hnm hl
  have X : jCx p c cJ7_charAt 5 s m args RJ7 G meth := X
  unfold f_J7_charAt_J8
  refine J.pu (fun _ _ _ _ k => lv_aload_n X.1.1 X.1.2.1 dJ7_charAt_0 rfl (lv_at hl 0 rfl) k) ?_
  refine J.getI (k := 1) (ci := 20) X in_J8 (show jCl[20]? = some (RJ8, TJ8, 4) from rfl) (by decide) q291 (fun _ h => h) dJ7_charAt_1 (fun v1 h1 => ?_)
  refine J.istore_n (i := 2) (lv' := [(2, .int v1), (0, .ref this), (1, .int a1)]) X.1.1 X.1.2.1 dJ7_charAt_4 rfl hl (by decide) (by first | rfl | simp [va_rf_cat, jcI, jcA, jcJ, jcD, jcF]) (fun ls hl => ?_)
  refine J.pu (fun _ _ _ _ k => lv_aload_n X.1.1 X.1.2.1 dJ7_charAt_5 rfl (lv_at hl 1 rfl) k) ?_
  refine J.getR (k := 0) (ci := 20) X in_J8 (show jCl[20]? = some (RJ8, TJ8, 4) from rfl) (by decide) q290 (fun _ h => h) dJ7_charAt_6 (fun v6 h6 => ?_)
  refine J.astore_n (r := v6) (i := 3) (lv' := [(3, va_rf v6), (2, .int v1), (0, .ref this), (1, .int a1)]) X.1.1 X.1.2.1 dJ7_charAt_9 rfl hl (by decide) (by first | rfl | simp [va_rf_cat, jcI, jcA, jcJ, jcD, jcF]) (fun ls hl => ?_)
  refine J.pu (fun _ _ _ _ k => lv_aload_n X.1.1 X.1.2.1 dJ7_charAt_10 rfl (lv_at hl 2 rfl) k) ?_
  refine J.getI (k := 3) (ci := 20) X in_J8 (show jCl[20]? = some (RJ8, TJ8, 4) from rfl) (by decide) q294 (fun _ h => h) dJ7_charAt_11 (fun v11 h11 => ?_)
  refine J.pu (fun _ _ _ _ k => W.rload_n X.1.1 X.1.2.1 dJ7_charAt_14 rfl (lv_at hl 0 rfl) k) ?_
  refine J.len X dJ7_charAt_15 (fun v15 h15 => ?_)
  refine J.pu (fun _ _ _ _ k => lv_iload_n X.1.1 X.1.2.1 dJ7_charAt_16 rfl (lv_at hl 1 rfl) k) ?_
  refine J.pu (fun _ _ _ _ k => lv_ishr X.1.1 X.1.2.1 dJ7_charAt_17 k) ?_
  refine J.bind (fun v18 h18 => ?_)
  refine J.cS (As := [.int v11, .int (v15 >>> (v1 &&& 31))]) (rest := []) (s2 := [.int v18]) X ⟨rfl, rfl⟩ (ct_J12_min l G σ n v11 (v15 >>> (v1 &&& 31))) (jrd_of h18) (fun _ _ => va_cwS 2 X.1.2.2.2.2 (lw_S q2375 q347 q152 q348) rfl rfl rfl (by decide +kernel) ⟨(Nat.le_of_ble_eq_true rfl), (Nat.le_of_ble_eq_true rfl)⟩) rfl hl.1 rfl rfl (Nat.le_of_ble_eq_true rfl) dJ7_charAt_18 ?_
  refine J.istore (lv' := [(4, .int v18), (3, va_rf v6), (2, .int v1), (0, .ref this), (1, .int a1)]) X.1.1 X.1.2.1 dJ7_charAt_21 hl (by decide) (by first | rfl | simp [va_rf_cat, jcI, jcA, jcJ, jcD, jcF]) (fun ls hl => ?_)
  refine J.pu (fun _ _ _ _ k => lv_iload_n X.1.1 X.1.2.1 dJ7_charAt_23 rfl (lv_at hl 4 rfl) k) ?_
  refine J.pu (fun _ _ _ _ k => lv_iload X.1.1 X.1.2.1 dJ7_charAt_24 (lv_at hl 0 rfl) k) ?_
  refine J.bind (fun v26 h26 => ?_)
  refine J.cS (As := [.int a1, .int v18]) (rest := []) (s2 := []) X ⟨rfl, rfl⟩ (ct_f_J9_checkIndex l G n σ a1 v18) (jrd_of h26) (fun _ _ => va_cwS 2 X.1.2.2.2.2 (lw_S q2376 q1428 q149 q1429) rfl rfl rfl (by decide +kernel) ⟨(Nat.le_of_ble_eq_true rfl), (Nat.le_of_ble_eq_true rfl)⟩) rfl hl.1 rfl rfl (Nat.le_of_ble_eq_true rfl) dJ7_charAt_26 ?_
  refine J.pu (fun _ _ _ _ k => lv_iload_n X.1.1 X.1.2.1 dJ7_charAt_29 rfl (lv_at hl 2 rfl) k) ?_
  refine J.br (fun _ _ _ _ ka kb => lv_if_ne (tgt := 42) X.1.1 X.1.2.1 dJ7_charAt_30 (by decide) kb ka) (fun c30 => ?_) (fun c30 => ?_)
  · refine J.pu (fun _ _ _ _ k => W.rload_n X.1.1 X.1.2.1 dJ7_charAt_33 rfl (lv_at hl 1 rfl) k) ?_
    refine J.pu (fun _ _ _ _ k => lv_iload_n X.1.1 X.1.2.1 dJ7_charAt_34 rfl (lv_at hl 4 rfl) k) ?_
    refine J.aI1 X dJ7_charAt_35 (fun v35 h35 => ?_)
    refine J.pu (fun _ _ _ _ k => lv_sipush (v := 255) X.1.1 X.1.2.1 dJ7_charAt_36 (by decide) k) ?_
    refine J.pu (fun _ _ _ _ k => lv_iand X.1.1 X.1.2.1 dJ7_charAt_39 k) ?_
    refine J.pu (fun _ _ _ _ k => lv_i2c (v := ((v35 &&& 255).toUInt32 % 65536).toInt32) X.1.1 X.1.2.1 dJ7_charAt_40 rfl k) ?_
    exact J.zretb (vr := jrI) (fin := fun _ : Int32 => σ) (t := t) X hr (by rfl) (by rfl) dJ7_charAt_41
  · refine J.pu (fun _ _ _ _ k => W.rload_n X.1.1 X.1.2.1 dJ7_charAt_42 rfl (lv_at hl 1 rfl) k) ?_
    refine J.pu (fun _ _ _ _ k => lv_iload_n X.1.1 X.1.2.1 dJ7_charAt_43 rfl (lv_at hl 4 rfl) k) ?_
    exact J.nil_
noncomputable def f_J8_append_2_b (G : jG) (n : Nat) (σ : jH) (this : Nat) (a1 : Int32) : Option ((Option Nat) × jH) :=
  (rc σ (some this) 20).bind fun o2 => bd (f_J7_append_2_J8 G n σ o2 a1) fun v2 S2 => some ((some this), S2)
noncomputable def f_J8_append_2 (G : jG) (n : Nat) (σ : jH) (this : Nat) (a1 : Int32) : Option ((Option Nat) × jH) := jck σ (f_J8_append_2_b G n σ this a1)
set_option maxHeartbeats 4000000 in
set_option maxRecDepth 100000 in
theorem ct_f_J8_append_2 (l : Launch) (G : jG) (n : Nat) (σ : jH) (this : Nat) (a1 : Int32) : jCt l G yJ8_append_2 (ws_ yJ8_append_2 cJ8_append_2 2 (some (.object "java/lang/StringBuilder"))) 5 467 jrR [.ref this, .int a1] σ (f_J8_append_2 G n σ this a1) := by
  refine jCt.wr (lv := [(0, .ref this), (1, .int a1)]) (plainFor_of_name (by decide)) (Nat.le_of_ble_eq_true rfl) rfl ?_
  intro t p e s m args below meth c ls X hr hnm hl
  have X : jCx p c cJ8_append_2 2 s m args RJ8 G meth := X
  unfold f_J8_append_2_b
  refine J.pu (fun _ _ _ _ k => lv_aload_n X.1.1 X.1.2.1 dJ8_append_2_0 rfl (lv_at hl 0 rfl) k) ?_
  refine J.pu (fun _ _ _ _ k => lv_iload_n X.1.1 X.1.2.1 dJ8_append_2_1 rfl (lv_at hl 1 rfl) k) ?_
  refine J.bind (fun o2 g2 => ?_)
  refine J.bd' (fun v2 S2 h2 => ?_)
  refine J.cSU (q := (RJ8, TJ8, 4)) (ci := 20) (As := [.int a1]) (rest := []) (s2 := [va_rf v2]) X ⟨rfl, rfl⟩ (ct_f_J7_append_2_J8 l G n σ o2 a1) h2 (fun _ _ => va_cwSU 1 X.1.2.2.2.2 (lw_SU q430 q3329 q303 q431 q147 q432) rfl rfl rfl (by decide +kernel) ⟨(Nat.le_of_ble_eq_true rfl), (Nat.le_of_ble_eq_true rfl)⟩) g2 rfl rfl hl.1 rfl rfl (Nat.le_of_ble_eq_true rfl) dJ8_append_2_2 ?_
  refine J.pu (fun _ _ _ _ k => lv_pop X.1.1 X.1.2.1 dJ8_append_2_5 (va_rf_cat _) k) ?_
  refine J.pu (fun _ _ _ _ k => lv_aload_n X.1.1 X.1.2.1 dJ8_append_2_6 rfl (lv_at hl 0 rfl) k) ?_
  exact J.aret (vr := fun t : (Option Nat) × jH => jrR t.1) (fin := Prod.snd) (t := t) X hr (Or.inl ⟨_, rfl⟩) (by rfl) (by rfl) dJ8_append_2_7
noncomputable def f_J8_append_3_b (G : jG) (n : Nat) (σ : jH) (this : Nat) (a1 : Int32) : Option ((Option Nat) × jH) :=
  (rc σ (some this) 20).bind fun o2 => bd (f_J7_append_3_J8 G n σ o2 a1) fun v2 S2 => some ((some this), S2)
noncomputable def f_J8_append_3 (G : jG) (n : Nat) (σ : jH) (this : Nat) (a1 : Int32) : Option ((Option Nat) × jH) := jck σ (f_J8_append_3_b G n σ this a1)
set_option maxHeartbeats 4000000 in
set_option maxRecDepth 100000 in
theorem ct_f_J8_append_3 (l : Launch) (G : jG) (n : Nat) (σ : jH) (this : Nat) (a1 : Int32) : jCt l G yJ8_append_3 (ws_ yJ8_append_3 cJ8_append_3 2 (some (.object "java/lang/StringBuilder"))) 5 465 jrR [.ref this, .int a1] σ (f_J8_append_3 G n σ this a1) := by
  refine jCt.wr (lv := [(0, .ref this), (1, .int a1)]) (plainFor_of_name (by decide)) (Nat.le_of_ble_eq_true rfl) rfl ?_
  intro t p e s m args below meth c ls X hr hnm hl
  have X : jCx p c cJ8_append_3 2 s m args RJ8 G meth := X
  unfold f_J8_append_3_b
  refine J.pu (fun _ _ _ _ k => lv_aload_n X.1.1 X.1.2.1 dJ8_append_3_0 rfl (lv_at hl 0 rfl) k) ?_
  refine J.pu (fun _ _ _ _ k => lv_iload_n X.1.1 X.1.2.1 dJ8_append_3_1 rfl (lv_at hl 1 rfl) k) ?_
  refine J.bind (fun o2 g2 => ?_)
  refine J.bd' (fun v2 S2 h2 => ?_)
  refine J.cSU (q := (RJ8, TJ8, 4)) (ci := 20) (As := [.int a1]) (rest := []) (s2 := [va_rf v2]) X ⟨rfl, rfl⟩ (ct_f_J7_append_3_J8 l G n σ o2 a1) h2 (fun _ _ => va_cwSU 1 X.1.2.2.2.2 (lw_SU q1415 q3334 q303 q1416 q147 q1417) rfl rfl rfl (by decide +kernel) ⟨(Nat.le_of_ble_eq_true rfl), (Nat.le_of_ble_eq_true rfl)⟩) g2 rfl rfl hl.1 rfl rfl (Nat.le_of_ble_eq_true rfl) dJ8_append_3_2 ?_
  refine J.pu (fun _ _ _ _ k => lv_pop X.1.1 X.1.2.1 dJ8_append_3_5 (va_rf_cat _) k) ?_
  refine J.pu (fun _ _ _ _ k => lv_aload_n X.1.1 X.1.2.1 dJ8_append_3_6 rfl (lv_at hl 0 rfl) k) ?_
  exact J.aret (vr := fun t : (Option Nat) × jH => jrR t.1) (fin := Prod.snd) (t := t) X hr (Or.inl ⟨_, rfl⟩) (by rfl) (by rfl) dJ8_append_3_7
noncomputable def f_J8_setLength_b (G : jG) (n : Nat) (σ : jH) (this : Nat) (a1 : Int32) : Option (Unit × jH) :=
  (rc σ (some this) 20).bind fun o2 => bd (f_J7_setLength_J8 G n σ o2 a1) fun v2 S2 => some ((), S2)
noncomputable def f_J8_setLength (G : jG) (n : Nat) (σ : jH) (this : Nat) (a1 : Int32) : Option (Unit × jH) := jck σ (f_J8_setLength_b G n σ this a1)
set_option maxHeartbeats 4000000 in
set_option maxRecDepth 100000 in
theorem ct_f_J8_setLength (l : Launch) (G : jG) (n : Nat) (σ : jH) (this : Nat) (a1 : Int32) : jCt l G yJ8_setLength (ws_ yJ8_setLength cJ8_setLength 2 none) 5 465 jrV [.ref this, .int a1] σ (f_J8_setLength G n σ this a1) := by
  refine jCt.wr (lv := [(0, .ref this), (1, .int a1)]) (plainFor_of_name (by decide)) (Nat.le_of_ble_eq_true rfl) rfl ?_
  intro t p e s m args below meth c ls X hr hnm hl
  have X : jCx p c cJ8_setLength 2 s m args RJ8 G meth := X
  unfold f_J8_setLength_b
  refine J.pu (fun _ _ _ _ k => lv_aload_n X.1.1 X.1.2.1 dJ8_setLength_0 rfl (lv_at hl 0 rfl) k) ?_
  refine J.pu (fun _ _ _ _ k => lv_iload_n X.1.1 X.1.2.1 dJ8_setLength_1 rfl (lv_at hl 1 rfl) k) ?_
  refine J.bind (fun o2 g2 => ?_)
  refine J.bd' (fun v2 S2 h2 => ?_)
  refine J.cSU (q := (RJ8, TJ8, 4)) (ci := 20) (As := [.int a1]) (rest := []) (s2 := []) X ⟨rfl, rfl⟩ (ct_f_J7_setLength_J8 l G n σ o2 a1) h2 (fun _ _ => va_cwSU 1 X.1.2.2.2.2 (lw_SU q2285 q3343 q303 q2286 q147 q2287) rfl rfl rfl (by decide +kernel) ⟨(Nat.le_of_ble_eq_true rfl), (Nat.le_of_ble_eq_true rfl)⟩) g2 rfl rfl hl.1 rfl rfl (Nat.le_of_ble_eq_true rfl) dJ8_setLength_2 ?_
  exact J.vret (vr := fun t : Unit × jH => jrV t.1) (fin := Prod.snd) (t := t) X hr (by rfl) (by rfl) dJ8_setLength_5
noncomputable def f_J8_charAt (G : jG) (n : Nat) (σ : jH) (this : Nat) (a1 : Int32) : Option (Int32) :=
  (rc σ (some this) 20).bind fun o2 => (f_J7_charAt_J8 G n σ o2 a1).bind fun v2 => jbo .char v2 (some v2)
set_option maxHeartbeats 4000000 in
set_option maxRecDepth 100000 in
theorem ct_f_J8_charAt (l : Launch) (G : jG) (n : Nat) (σ : jH) (this : Nat) (a1 : Int32) : jCt l G yJ8_charAt (ws_ yJ8_charAt cJ8_charAt 2 (some .char)) 3 67 jrI [.ref this, .int a1] σ (jrd σ (f_J8_charAt G n σ this a1)) := by
  refine jCt.rd (lv := [(0, .ref this), (1, .int a1)]) (plainFor_of_name (by decide)) (Nat.le_of_ble_eq_true rfl) rfl ?_
  intro t p e s m args below meth c ls X hr hnm hl
  have X : jCx p c cJ8_charAt 2 s m args RJ8 G meth := X
  unfold f_J8_charAt
  refine J.pu (fun _ _ _ _ k => lv_aload_n X.1.1 X.1.2.1 dJ8_charAt_0 rfl (lv_at hl 0 rfl) k) ?_
  refine J.pu (fun _ _ _ _ k => lv_iload_n X.1.1 X.1.2.1 dJ8_charAt_1 rfl (lv_at hl 1 rfl) k) ?_
  refine J.bind (fun o2 g2 => ?_)
  refine J.bind (fun v2 h2 => ?_)
  refine J.cSU (q := (RJ8, TJ8, 4)) (ci := 20) (As := [.int a1]) (rest := []) (s2 := [.int v2]) X ⟨rfl, rfl⟩ (ct_f_J7_charAt_J8 l G n σ o2 a1) (jrd_of h2) (fun _ _ => va_cwSU 1 X.1.2.2.2.2 (lw_SU q2372 q3345 q303 q2373 q147 q2374) rfl rfl rfl (by decide +kernel) ⟨(Nat.le_of_ble_eq_true rfl), (Nat.le_of_ble_eq_true rfl)⟩) g2 rfl rfl hl.1 rfl rfl (Nat.le_of_ble_eq_true rfl) dJ8_charAt_2 ?_
  exact J.zretb (vr := jrI) (fin := fun _ : Int32 => σ) (t := t) X hr (by rfl) (by rfl) dJ8_charAt_5
noncomputable def f_J9_length (G : jG) (n : Nat) (σ : jH) (this : Nat) : Option (Int32) :=
  (gR σ (some this) 21 0).bind fun v1 => (aLen' σ v1).bind fun v4 => (rc σ (some this) 21).bind fun o6 => (f_J9_coder G n σ o6).bind fun v6 => some (v4 >>> (v6 &&& 31))
set_option maxHeartbeats 4000000 in
set_option maxRecDepth 100000 in
theorem ct_f_J9_length (l : Launch) (G : jG) (n : Nat) (σ : jH) (this : Nat) : jCt l G yJ9_length (ws_ yJ9_length cJ9_length 1 (some .int)) 1 20 jrI [.ref this] σ (jrd σ (f_J9_length G n σ this)) := by
  refine jCt.rd (lv := [(0, .ref this)]) (plainFor_of_name (by decide)) (Nat.le_of_ble_eq_true rfl) rfl ?_
  intro t p e s m args below meth c ls X hr hnm hl
  have X : jCx p c cJ9_length 1 s m args RJ9 G meth := X
  unfold f_J9_length
  refine J.pu (fun _ _ _ _ k => lv_aload_n X.1.1 X.1.2.1 dJ9_length_0 rfl (lv_at hl 0 rfl) k) ?_
  refine J.getR (k := 0) (ci := 21) X in_J9 (show jCl[21]? = some (RJ9, TJ9, 4) from rfl) (by decide) q532 (fun _ h => h) dJ9_length_1 (fun v1 h1 => ?_)
  refine J.len X dJ9_length_4 (fun v4 h4 => ?_)
  refine J.pu (fun _ _ _ _ k => lv_aload_n X.1.1 X.1.2.1 dJ9_length_5 rfl (lv_at hl 0 rfl) k) ?_
  refine J.bind (fun o6 g6 => ?_)
  refine J.bind (fun v6 h6 => ?_)
  refine J.cV (q := (RJ9, TJ9, 4)) (ci := 21) (As := []) (rest := [.int v4]) (s2 := [.int v6, .int v4]) X ⟨rfl, rfl⟩ (ct_f_J9_coder l G n σ o6) (jrd_of h6) (fun _ _ => cwV 0 X.1.2.2.2.2 (lw_V q387 q388 q389 q149 q390) rfl rfl rfl (by decide +kernel) ⟨(Nat.le_of_ble_eq_true rfl), (Nat.le_of_ble_eq_true rfl)⟩) g6 rfl rfl hl.1 rfl rfl (Nat.le_of_ble_eq_true rfl) dJ9_length_6 ?_
  refine J.pu (fun _ _ _ _ k => lv_ishr X.1.1 X.1.2.1 dJ9_length_9 k) ?_
  exact J.iret (vr := jrI) (fin := fun _ : Int32 => σ) (t := t) X hr (by rfl) (by rfl) dJ9_length_10
noncomputable def f_J9_charAt (G : jG) (n : Nat) (σ : jH) (this : Nat) (a1 : Int32) : Option (Int32) :=
  (rc σ (some this) 21).bind fun o1 => (f_J9_isLatin1 G n σ o1).bind fun v1 => if v1 = 0 then ((gR σ (some this) 21 0).bind fun v17 => none) else ((gR σ (some this) 21 0).bind fun v8 => (f_J15_charAt G n σ v8 a1).bind fun v12 => jbo .char v12 (some v12))
set_option maxHeartbeats 4000000 in
set_option maxRecDepth 100000 in
theorem ct_f_J9_charAt (l : Launch) (G : jG) (n : Nat) (σ : jH) (this : Nat) (a1 : Int32) : jCt l G yJ9_charAt (ws_ yJ9_charAt cJ9_charAt 2 (some .char)) 3 64 jrI [.ref this, .int a1] σ (jrd σ (f_J9_charAt G n σ this a1)) := by
  refine jCt.rd (lv := [(0, .ref this), (1, .int a1)]) (plainFor_of_name (by decide)) (Nat.le_of_ble_eq_true rfl) rfl ?_
  intro t p e s m args below meth c ls X hr hnm hl
  have X : jCx p c cJ9_charAt 2 s m args RJ9 G meth := X
  unfold f_J9_charAt
  refine J.pu (fun _ _ _ _ k => lv_aload_n X.1.1 X.1.2.1 dJ9_charAt_0 rfl (lv_at hl 0 rfl) k) ?_
  refine J.bind (fun o1 g1 => ?_)
  refine J.bind (fun v1 h1 => ?_)
  refine J.cV (q := (RJ9, TJ9, 4)) (ci := 21) (As := []) (rest := []) (s2 := [.int v1]) X ⟨rfl, rfl⟩ (ct_f_J9_isLatin1 l G n σ o1) (jrd_of h1) (fun _ _ => cwV 0 X.1.2.2.2.2 (lw_V q1472 q1473 q1474 q149 q1475) rfl rfl rfl (by decide +kernel) ⟨(Nat.le_of_ble_eq_true rfl), (Nat.le_of_ble_eq_true rfl)⟩) g1 rfl rfl hl.1 rfl rfl (Nat.le_of_ble_eq_true rfl) dJ9_charAt_1 ?_
  refine J.br (fun _ _ _ _ ka kb => lv_if_eq (tgt := 16) X.1.1 X.1.2.1 dJ9_charAt_4 (by decide) ka kb) (fun c4 => ?_) (fun c4 => ?_)
  · refine J.pu (fun _ _ _ _ k => lv_aload_n X.1.1 X.1.2.1 dJ9_charAt_16 rfl (lv_at hl 0 rfl) k) ?_
    refine J.getR (k := 0) (ci := 21) X in_J9 (show jCl[21]? = some (RJ9, TJ9, 4) from rfl) (by decide) q532 (fun _ h => h) dJ9_charAt_17 (fun v17 h17 => ?_)
    refine J.pu (fun _ _ _ _ k => lv_iload_n X.1.1 X.1.2.1 dJ9_charAt_20 rfl (lv_at hl 1 rfl) k) ?_
    exact J.nil_
  · refine J.pu (fun _ _ _ _ k => lv_aload_n X.1.1 X.1.2.1 dJ9_charAt_7 rfl (lv_at hl 0 rfl) k) ?_
    refine J.getR (k := 0) (ci := 21) X in_J9 (show jCl[21]? = some (RJ9, TJ9, 4) from rfl) (by decide) q532 (fun _ h => h) dJ9_charAt_8 (fun v8 h8 => ?_)
    refine J.pu (fun _ _ _ _ k => lv_iload_n X.1.1 X.1.2.1 dJ9_charAt_11 rfl (lv_at hl 1 rfl) k) ?_
    refine J.bind (fun v12 h12 => ?_)
    refine J.cS (As := [va_rf v8, .int a1]) (rest := []) (s2 := [.int v12]) X ⟨rfl, rfl⟩ (ct_f_J15_charAt l G n σ v8 a1) (jrd_of h12) (fun _ _ => va_cwS 2 X.1.2.2.2.2 (lw_S q1476 q1477 q156 q1478) rfl rfl rfl (by decide +kernel) ⟨(Nat.le_of_ble_eq_true rfl), (Nat.le_of_ble_eq_true rfl)⟩) rfl hl.1 rfl rfl (Nat.le_of_ble_eq_true rfl) dJ9_charAt_12 ?_
    exact J.zretb (vr := jrI) (fin := fun _ : Int32 => σ) (t := t) X hr (by rfl) (by rfl) dJ9_charAt_15
noncomputable def f_J9_hashCode_b (G : jG) (n : Nat) (σ : jH) (this : Nat) : Option (Int32 × jH) :=
  (gI σ (some this) 21 2).bind fun v1 => if v1 = 0 then ((gI σ (some this) 21 3).bind fun v10 => if v10 = 0 then ((rc σ (some this) 21).bind fun o17 => (f_J9_isLatin1 G n σ o17).bind fun v17 => if v17 = 0 then ((gR σ (some this) 21 0).bind fun v34 => none) else ((gR σ (some this) 21 0).bind fun v24 => (f_J15_hashCode G n σ v24).bind fun v27 => if v27 = 0 then ((pB G σ (some this) 21 3 1).bind fun S47 => some (v27, S47)) else ((pI G σ (some this) 21 2 v27).bind fun S55 => some (v27, S55)))) else (some (v1, σ))) else (some (v1, σ))
noncomputable def f_J9_hashCode (G : jG) (n : Nat) (σ : jH) (this : Nat) : Option (Int32 × jH) := jck σ (f_J9_hashCode_b G n σ this)
set_option maxHeartbeats 4000000 in
set_option maxRecDepth 100000 in
theorem ct_f_J9_hashCode (l : Launch) (G : jG) (n : Nat) (σ : jH) (this : Nat) : jCt l G yJ9_hashCode (ws_ yJ9_hashCode cJ9_hashCode 2 (some .int)) 3 69 jrI [.ref this] σ (f_J9_hashCode G n σ this) := by
  refine jCt.wr (lv := [(0, .ref this)]) (plainFor_of_name (by decide)) (Nat.le_of_ble_eq_true rfl) rfl ?_
  intro t p e s m args below meth c ls X hr hnm hl
  have X : jCx p c cJ9_hashCode 2 s m args RJ9 G meth := X
  unfold f_J9_hashCode_b
  refine J.pu (fun _ _ _ _ k => lv_aload_n X.1.1 X.1.2.1 dJ9_hashCode_0 rfl (lv_at hl 0 rfl) k) ?_
  refine J.getI (k := 2) (ci := 21) X in_J9 (show jCl[21]? = some (RJ9, TJ9, 4) from rfl) (by decide) q534 (fun _ h => h) dJ9_hashCode_1 (fun v1 h1 => ?_)
  refine J.istore_n (i := 1) (lv' := [(1, .int v1), (0, .ref this)]) X.1.1 X.1.2.1 dJ9_hashCode_4 rfl hl (by decide) (by first | rfl | simp [va_rf_cat, jcI, jcA, jcJ, jcD, jcF]) (fun ls hl => ?_)
  refine J.pu (fun _ _ _ _ k => lv_iload_n X.1.1 X.1.2.1 dJ9_hashCode_5 rfl (lv_at hl 0 rfl) k) ?_
  refine J.br (fun _ _ _ _ ka kb => lv_if_ne (tgt := 58) X.1.1 X.1.2.1 dJ9_hashCode_6 (by decide) kb ka) (fun c6 => ?_) (fun c6 => ?_)
  · refine J.pu (fun _ _ _ _ k => lv_aload_n X.1.1 X.1.2.1 dJ9_hashCode_9 rfl (lv_at hl 1 rfl) k) ?_
    refine J.getI (k := 3) (ci := 21) X in_J9 (show jCl[21]? = some (RJ9, TJ9, 4) from rfl) (by decide) q535 (fun _ h => h) dJ9_hashCode_10 (fun v10 h10 => ?_)
    refine J.br (fun _ _ _ _ ka kb => lv_if_ne (tgt := 58) X.1.1 X.1.2.1 dJ9_hashCode_13 (by decide) kb ka) (fun c13 => ?_) (fun c13 => ?_)
    · refine J.pu (fun _ _ _ _ k => lv_aload_n X.1.1 X.1.2.1 dJ9_hashCode_16 rfl (lv_at hl 1 rfl) k) ?_
      refine J.bind (fun o17 g17 => ?_)
      refine J.bind (fun v17 h17 => ?_)
      refine J.cV (q := (RJ9, TJ9, 4)) (ci := 21) (As := []) (rest := []) (s2 := [.int v17]) X ⟨rfl, rfl⟩ (ct_f_J9_isLatin1 l G n σ o17) (jrd_of h17) (fun _ _ => cwV 0 X.1.2.2.2.2 (lw_V q1472 q1473 q1474 q149 q1475) rfl rfl rfl (by decide +kernel) ⟨(Nat.le_of_ble_eq_true rfl), (Nat.le_of_ble_eq_true rfl)⟩) g17 rfl rfl hl.1 rfl rfl (Nat.le_of_ble_eq_true rfl) dJ9_hashCode_17 ?_
      refine J.br (fun _ _ _ _ ka kb => lv_if_eq (tgt := 33) X.1.1 X.1.2.1 dJ9_hashCode_20 (by decide) ka kb) (fun c20 => ?_) (fun c20 => ?_)
      · refine J.pu (fun _ _ _ _ k => lv_aload_n X.1.1 X.1.2.1 dJ9_hashCode_33 rfl (lv_at hl 1 rfl) k) ?_
        refine J.getR (k := 0) (ci := 21) X in_J9 (show jCl[21]? = some (RJ9, TJ9, 4) from rfl) (by decide) q532 (fun _ h => h) dJ9_hashCode_34 (fun v34 h34 => ?_)
        exact J.nil_
      · refine J.pu (fun _ _ _ _ k => lv_aload_n X.1.1 X.1.2.1 dJ9_hashCode_23 rfl (lv_at hl 1 rfl) k) ?_
        refine J.getR (k := 0) (ci := 21) X in_J9 (show jCl[21]? = some (RJ9, TJ9, 4) from rfl) (by decide) q532 (fun _ h => h) dJ9_hashCode_24 (fun v24 h24 => ?_)
        refine J.bind (fun v27 h27 => ?_)
        refine J.cS (As := [va_rf v24]) (rest := []) (s2 := [.int v27]) X ⟨rfl, rfl⟩ (ct_f_J15_hashCode l G n σ v24) (jrd_of h27) (fun _ _ => va_cwS 1 X.1.2.2.2.2 (lw_S q1638 q1639 q156 q1640) rfl rfl rfl (by decide +kernel) ⟨(Nat.le_of_ble_eq_true rfl), (Nat.le_of_ble_eq_true rfl)⟩) rfl hl.1 rfl rfl (Nat.le_of_ble_eq_true rfl) dJ9_hashCode_27 ?_
        refine J.pu (fun _ _ _ _ k => lv_goto (tgt := 40) X.1.1 X.1.2.1 dJ9_hashCode_30 (by decide) k) ?_
        refine J.istore_n (i := 1) (lv' := [(1, .int v27), (0, .ref this)]) X.1.1 X.1.2.1 dJ9_hashCode_40 rfl hl (by decide) (by first | rfl | simp [va_rf_cat, jcI, jcA, jcJ, jcD, jcF]) (fun ls hl => ?_)
        refine J.pu (fun _ _ _ _ k => lv_iload_n X.1.1 X.1.2.1 dJ9_hashCode_41 rfl (lv_at hl 0 rfl) k) ?_
        refine J.br (fun _ _ _ _ ka kb => lv_if_ne (tgt := 53) X.1.1 X.1.2.1 dJ9_hashCode_42 (by decide) kb ka) (fun c42 => ?_) (fun c42 => ?_)
        · refine J.pu (fun _ _ _ _ k => lv_aload_n X.1.1 X.1.2.1 dJ9_hashCode_45 rfl (lv_at hl 1 rfl) k) ?_
          refine J.pu (fun _ _ _ _ k => lv_iconst (v := 1) X.1.1 X.1.2.1 dJ9_hashCode_46 (by decide) k) ?_
          refine J.putB (k := 3) (ci := 21) X in_J9 (show jCl[21]? = some (RJ9, TJ9, 4) from rfl) tyJ9_ok (fun a ha b hb h => Or.inl (nmJ9 a ha b hb h)) (by decide) q535 (fun _ h => h) rfl (Or.inl rfl) dJ9_hashCode_47 (fun S47 h47 => ?_)
          refine J.pu (fun _ _ _ _ k => lv_goto (tgt := 58) X.1.1 X.1.2.1 dJ9_hashCode_50 (by decide) k) ?_
          refine J.pu (fun _ _ _ _ k => lv_iload_n X.1.1 X.1.2.1 dJ9_hashCode_58 rfl (lv_at hl 0 rfl) k) ?_
          exact J.iret (vr := fun t : Int32 × jH => jrI t.1) (fin := Prod.snd) (t := t) X hr (by rfl) (by rfl) dJ9_hashCode_59
        · refine J.pu (fun _ _ _ _ k => lv_aload_n X.1.1 X.1.2.1 dJ9_hashCode_53 rfl (lv_at hl 1 rfl) k) ?_
          refine J.pu (fun _ _ _ _ k => lv_iload_n X.1.1 X.1.2.1 dJ9_hashCode_54 rfl (lv_at hl 0 rfl) k) ?_
          refine J.putI (k := 2) (ci := 21) X in_J9 (show jCl[21]? = some (RJ9, TJ9, 4) from rfl) tyJ9_ok (fun a ha b hb h => Or.inl (nmJ9 a ha b hb h)) (by decide) q534 (fun _ h => h) rfl rfl dJ9_hashCode_55 (fun S55 h55 => ?_)
          refine J.pu (fun _ _ _ _ k => lv_iload_n X.1.1 X.1.2.1 dJ9_hashCode_58 rfl (lv_at hl 0 rfl) k) ?_
          exact J.iret (vr := fun t : Int32 × jH => jrI t.1) (fin := Prod.snd) (t := t) X hr (by rfl) (by rfl) dJ9_hashCode_59
    · refine J.pu (fun _ _ _ _ k => lv_iload_n X.1.1 X.1.2.1 dJ9_hashCode_58 rfl (lv_at hl 0 rfl) k) ?_
      exact J.iret (vr := fun t : Int32 × jH => jrI t.1) (fin := Prod.snd) (t := t) X hr (by rfl) (by rfl) dJ9_hashCode_59
  · refine J.pu (fun _ _ _ _ k => lv_iload_n X.1.1 X.1.2.1 dJ9_hashCode_58 rfl (lv_at hl 0 rfl) k) ?_
    exact J.iret (vr := fun t : Int32 × jH => jrI t.1) (fin := Prod.snd) (t := t) X hr (by rfl) (by rfl) dJ9_hashCode_59
noncomputable def f_J13_copyOfRange_j10 (G : jG) (n : Nat) (a0 : Option Nat) (a1 : Int32) (a2 : Int32) (B10 : jH) : Option ((Option Nat) × jH) :=
  bd (f_J13_copyOfRangeByte G n B10 a0 a1 a2) fun v13 S13 => some (v13, S13)
noncomputable def f_J13_copyOfRange_b (G : jG) (n : Nat) (σ : jH) (a0 : Option Nat) (a1 : Int32) (a2 : Int32) : Option ((Option Nat) × jH) :=
  if a1 = 0 then ((aLen' σ a0).bind fun v6 => if a2 = v6 then (none) else (f_J13_copyOfRange_j10 G n a0 a1 a2 σ)) else (f_J13_copyOfRange_j10 G n a0 a1 a2 σ)
noncomputable def f_J13_copyOfRange (G : jG) (n : Nat) (σ : jH) (a0 : Option Nat) (a1 : Int32) (a2 : Int32) : Option ((Option Nat) × jH) := jck σ (f_J13_copyOfRange_b G n σ a0 a1 a2)
set_option maxHeartbeats 4000000 in
set_option maxRecDepth 100000 in
theorem ct_f_J13_copyOfRange (l : Launch) (G : jG) (n : Nat) (σ : jH) (a0 : Option Nat) (a1 : Int32) (a2 : Int32) : jCt l G yJ13_copyOfRange (ws_ yJ13_copyOfRange cJ13_copyOfRange 3 (some (.array .byte))) 2 424 jrR [va_rf a0, .int a1, .int a2] σ (f_J13_copyOfRange G n σ a0 a1 a2) := by
  refine jCt.wr (lv := [(0, va_rf a0), (1, .int a1), (2, .int a2)]) (plainFor_of_name (by decide)) (by simp [lg_sl, va_rf_cat, jcI, jcA, jcJ, jcD, jcF]) (by simp [lv_args, va_rf_cat, jcI, jcA, jcJ, jcD, jcF]) ?_
  intro t p e s m args below meth c ls X hr hnm hl
  have X : jCx p c cJ13_copyOfRange 3 s m args RJ13 G meth := X
  have j10 : ∀ (B10 : jH) (ls : Array Slot), lv_has ls 3 [(0, va_rf a0), (1, .int a1), (2, .int a2)] → jGo l G 2 424 σ (Prod.snd : (Option Nat) × jH → jH) (fun t => jrR t.1) t p e s m args below meth c (f_J13_copyOfRange_j10 G n a0 a1 a2 B10) B10 (F0 m 10 ls []) := by
    intro B10 ls hl
    unfold f_J13_copyOfRange_j10
    refine J.pu (fun _ _ _ _ k => W.rload_n X.1.1 X.1.2.1 dJ13_copyOfRange_10 rfl (lv_at hl 0 rfl) k) ?_
    refine J.pu (fun _ _ _ _ k => lv_iload_n X.1.1 X.1.2.1 dJ13_copyOfRange_11 rfl (lv_at hl 1 rfl) k) ?_
    refine J.pu (fun _ _ _ _ k => lv_iload_n X.1.1 X.1.2.1 dJ13_copyOfRange_12 rfl (lv_at hl 2 rfl) k) ?_
    refine J.bd' (fun v13 S13 h13 => ?_)
    refine J.cS (As := [va_rf a0, .int a1, .int a2]) (rest := []) (s2 := [va_rf v13]) X ⟨rfl, rfl⟩ (ct_f_J13_copyOfRangeByte l G n B10 a0 a1 a2) h13 (fun _ _ => va_cwS 3 X.1.2.2.2.2 (lw_S q481 q482 q153 q483) rfl rfl rfl (by decide +kernel) ⟨(Nat.le_of_ble_eq_true rfl), (Nat.le_of_ble_eq_true rfl)⟩) rfl hl.1 rfl rfl (Nat.le_of_ble_eq_true rfl) dJ13_copyOfRange_13 ?_
    exact J.aret (vr := fun t : (Option Nat) × jH => jrR t.1) (fin := Prod.snd) (t := t) X hr (Or.inr ⟨_, rfl⟩) (by rfl) (by rfl) dJ13_copyOfRange_16
  unfold f_J13_copyOfRange_b
  refine J.pu (fun _ _ _ _ k => lv_iload_n X.1.1 X.1.2.1 dJ13_copyOfRange_0 rfl (lv_at hl 1 rfl) k) ?_
  refine J.br (fun _ _ _ _ ka kb => lv_if_ne (tgt := 10) X.1.1 X.1.2.1 dJ13_copyOfRange_1 (by decide) kb ka) (fun c1 => ?_) (fun c1 => ?_)
  · refine J.pu (fun _ _ _ _ k => lv_iload_n X.1.1 X.1.2.1 dJ13_copyOfRange_4 rfl (lv_at hl 2 rfl) k) ?_
    refine J.pu (fun _ _ _ _ k => W.rload_n X.1.1 X.1.2.1 dJ13_copyOfRange_5 rfl (lv_at hl 0 rfl) k) ?_
    refine J.len X dJ13_copyOfRange_6 (fun v6 h6 => ?_)
    refine J.br (fun _ _ _ _ ka kb => lv_icmp_eq (tgt := 17) X.1.1 X.1.2.1 dJ13_copyOfRange_7 (by decide) ka kb) (fun c7 => ?_) (fun c7 => ?_)
    · refine J.pu (fun _ _ _ _ k => W.rload_n X.1.1 X.1.2.1 dJ13_copyOfRange_17 rfl (lv_at hl 0 rfl) k) ?_
      exact J.nil_
    · exact j10 σ ls (lv_sub hl [0, 1, 2] rfl)
  · exact j10 σ ls (lv_sub hl [0, 1, 2] rfl)
noncomputable def f_J19_get (G : jG) (n : Nat) (σ : jH) (this : Nat) (a1 : Int32) : Option (Option Nat) :=
  (rc σ (some this) 16).bind fun o2 => (f_J19_checkElementIndex G n σ o2 a1).bind fun v2 => (rc σ (some this) 16).bind fun o7 => (f_J19_node G n σ o7 a1).bind fun v7 => (gR σ v7 17 0).bind fun v10 => some v10
set_option maxHeartbeats 4000000 in
set_option maxRecDepth 100000 in
theorem ct_f_J19_get (l : Launch) (G : jG) (n : Nat) (σ : jH) (this : Nat) (a1 : Int32) : jCt l G yJ19_get (ws_ yJ19_get cJ19_get 2 (some (.object "java/lang/Object"))) 2 42 jrR [.ref this, .int a1] σ (jrd σ (f_J19_get G n σ this a1)) := by
  refine jCt.rd (lv := [(0, .ref this), (1, .int a1)]) (plainFor_of_name (by decide)) (Nat.le_of_ble_eq_true rfl) rfl ?_
  intro t p e s m args below meth c ls X hr hnm hl
  have X : jCx p c cJ19_get 2 s m args RJ19 G meth := X
  unfold f_J19_get
  refine J.pu (fun _ _ _ _ k => lv_aload_n X.1.1 X.1.2.1 dJ19_get_0 rfl (lv_at hl 0 rfl) k) ?_
  refine J.pu (fun _ _ _ _ k => lv_iload_n X.1.1 X.1.2.1 dJ19_get_1 rfl (lv_at hl 1 rfl) k) ?_
  refine J.bind (fun o2 g2 => ?_)
  refine J.bind (fun v2 h2 => ?_)
  refine J.cV (q := (RJ19, TJ19, 4)) (ci := 16) (As := [.int a1]) (rest := []) (s2 := []) X ⟨rfl, rfl⟩ (ct_f_J19_checkElementIndex l G n σ o2 a1) (jrd_of h2) (fun _ _ => cwV 1 X.1.2.2.2.2 (lw_V q871 q873 qs4 q163 q874) rfl rfl rfl (by decide +kernel) ⟨(Nat.le_of_ble_eq_true rfl), (Nat.le_of_ble_eq_true rfl)⟩) g2 rfl rfl hl.1 rfl rfl (Nat.le_of_ble_eq_true rfl) dJ19_get_2 ?_
  refine J.pu (fun _ _ _ _ k => lv_aload_n X.1.1 X.1.2.1 dJ19_get_5 rfl (lv_at hl 0 rfl) k) ?_
  refine J.pu (fun _ _ _ _ k => lv_iload_n X.1.1 X.1.2.1 dJ19_get_6 rfl (lv_at hl 1 rfl) k) ?_
  refine J.bind (fun o7 g7 => ?_)
  refine J.bind (fun v7 h7 => ?_)
  refine J.cV (q := (RJ19, TJ19, 4)) (ci := 16) (As := [.int a1]) (rest := []) (s2 := [va_rf v7]) X ⟨rfl, rfl⟩ (ct_f_J19_node l G n σ o7 a1) (jrd_of h7) (fun _ _ => cwV 1 X.1.2.2.2.2 (lw_V q905 q906 q907 q163 q908) rfl rfl rfl (by decide +kernel) ⟨(Nat.le_of_ble_eq_true rfl), (Nat.le_of_ble_eq_true rfl)⟩) g7 rfl rfl hl.1 rfl rfl (Nat.le_of_ble_eq_true rfl) dJ19_get_7 ?_
  refine J.getR (k := 0) (ci := 17) X in_J17 (show jCl[17]? = some (RJ17, TJ17, 3) from rfl) (by decide) q665 (fun _ h => h) dJ19_get_10 (fun v10 h10 => ?_)
  exact J.aret (vr := jrR) (fin := fun _ : Option Nat => σ) (t := t) X hr (Or.inl ⟨_, rfl⟩) (by rfl) (by rfl) dJ19_get_13
noncomputable def f_J19_listIterator_b (G : jG) (n : Nat) (σ : jH) (this : Nat) (a1 : Int32) : Option ((Option Nat) × jH) :=
  (rc σ (some this) 16).bind fun o2 => (f_J19_checkPositionIndex G n σ o2 a1).bind fun v2 => bd (nO σ 19 [.null, .null, .int 0, .int 0, .null] 5) fun v5 S5 => bd (f_J26_init G n S5 v5 (some this) a1) fun v11 S11 => some ((some v5), S11)
noncomputable def f_J19_listIterator (G : jG) (n : Nat) (σ : jH) (this : Nat) (a1 : Int32) : Option ((Option Nat) × jH) := jck σ (f_J19_listIterator_b G n σ this a1)
set_option maxHeartbeats 4000000 in
set_option maxRecDepth 100000 in
theorem ct_f_J19_listIterator (l : Launch) (G : jG) (n : Nat) (σ : jH) (this : Nat) (a1 : Int32) : jCt l G yJ19_listIterator (ws_ yJ19_listIterator cJ19_listIterator 2 (some (.object "java/util/ListIterator"))) 2 52 jrR [.ref this, .int a1] σ (f_J19_listIterator G n σ this a1) := by
  refine jCt.wr (lv := [(0, .ref this), (1, .int a1)]) (plainFor_of_name (by decide)) (Nat.le_of_ble_eq_true rfl) rfl ?_
  intro t p e s m args below meth c ls X hr hnm hl
  have X : jCx p c cJ19_listIterator 2 s m args RJ19 G meth := X
  unfold f_J19_listIterator_b
  refine J.pu (fun _ _ _ _ k => lv_aload_n X.1.1 X.1.2.1 dJ19_listIterator_0 rfl (lv_at hl 0 rfl) k) ?_
  refine J.pu (fun _ _ _ _ k => lv_iload_n X.1.1 X.1.2.1 dJ19_listIterator_1 rfl (lv_at hl 1 rfl) k) ?_
  refine J.bind (fun o2 g2 => ?_)
  refine J.bind (fun v2 h2 => ?_)
  refine J.cV (q := (RJ19, TJ19, 4)) (ci := 16) (As := [.int a1]) (rest := []) (s2 := []) X ⟨rfl, rfl⟩ (ct_f_J19_checkPositionIndex l G n σ o2 a1) (jrd_of h2) (fun _ _ => cwV 1 X.1.2.2.2.2 (lw_V q1139 q1141 qs11 q163 q1142) rfl rfl rfl (by decide +kernel) ⟨(Nat.le_of_ble_eq_true rfl), (Nat.le_of_ble_eq_true rfl)⟩) g2 rfl rfl hl.1 rfl rfl (Nat.le_of_ble_eq_true rfl) dJ19_listIterator_2 ?_
  refine J.nO' (fs := [.null, .null, .int 0, .int 0, .null]) X ⟨rfl, rfl⟩ in_J26 (show jCl[19]? = some (RJ26, TJ26, 5) from rfl) tyJ26 tyJ26_ok q1147 q1148 q172 rfl dJ19_listIterator_5 (fun v5 S5 h5 => ?_)
  refine J.pu (fun _ _ _ _ k => lv_dup X.1.1 X.1.2.1 dJ19_listIterator_8 rfl k) ?_
  refine J.pu (fun _ _ _ _ k => lv_aload_n X.1.1 X.1.2.1 dJ19_listIterator_9 rfl (lv_at hl 0 rfl) k) ?_
  refine J.pu (fun _ _ _ _ k => lv_iload_n X.1.1 X.1.2.1 dJ19_listIterator_10 rfl (lv_at hl 1 rfl) k) ?_
  refine J.bd' (fun v11 S11 h11 => ?_)
  refine J.cI (a := v5) (As := [.ref this, .int a1]) (rest := [.ref v5]) (s2 := [.ref v5]) X ⟨rfl, rfl⟩ (ct_f_J26_init l G n S5 v5 (some this) a1) h11 (fun _ _ => jcwI 2 X.1.2.2.2.2 q1149 q1150 q172 q1151 rfl rfl rfl (by decide +kernel) ⟨(Nat.le_of_ble_eq_true rfl), (Nat.le_of_ble_eq_true rfl)⟩) rfl hl.1 rfl rfl (Nat.le_of_ble_eq_true rfl) dJ19_listIterator_11 ?_
  exact J.aret (vr := fun t : (Option Nat) × jH => jrR t.1) (fin := Prod.snd) (t := t) X hr (Or.inl ⟨_, rfl⟩) (by rfl) (by rfl) dJ19_listIterator_14
noncomputable def f_J19_contains (G : jG) (n : Nat) (σ : jH) (this : Nat) (a1 : Option Nat) : Option (Int32) :=
  (rc σ (some this) 16).bind fun o2 => (f_J19_indexOf G n σ o2 a1).bind fun v2 => if v2 < 0 then (some 0) else (some 1)
set_option maxHeartbeats 4000000 in
set_option maxRecDepth 100000 in
theorem ct_f_J19_contains (l : Launch) (G : jG) (n : Nat) (σ : jH) (this : Nat) (a1 : Option Nat) : jCt l G yJ19_contains (ws_ yJ19_contains cJ19_contains 2 (some .boolean)) 2 44 jrI [.ref this, va_rf a1] σ (jrd σ (f_J19_contains G n σ this a1)) := by
  refine jCt.rd (lv := [(0, .ref this), (1, va_rf a1)]) (plainFor_of_name (by decide)) (by simp [lg_sl, va_rf_cat, jcI, jcA, jcJ, jcD, jcF]) (by simp [lv_args, va_rf_cat, jcI, jcA, jcJ, jcD, jcF]) ?_
  intro t p e s m args below meth c ls X hr hnm hl
  have X : jCx p c cJ19_contains 2 s m args RJ19 G meth := X
  unfold f_J19_contains
  refine J.pu (fun _ _ _ _ k => lv_aload_n X.1.1 X.1.2.1 dJ19_contains_0 rfl (lv_at hl 0 rfl) k) ?_
  refine J.pu (fun _ _ _ _ k => W.rload_n X.1.1 X.1.2.1 dJ19_contains_1 rfl (lv_at hl 1 rfl) k) ?_
  refine J.bind (fun o2 g2 => ?_)
  refine J.bind (fun v2 h2 => ?_)
  refine J.cV (q := (RJ19, TJ19, 4)) (ci := 16) (As := [va_rf a1]) (rest := []) (s2 := [.int v2]) X ⟨rfl, rfl⟩ (ct_f_J19_indexOf l G n σ o2 a1) (jrd_of h2) (fun _ _ => cwV 1 X.1.2.2.2.2 (lw_V q2238 q2239 q2240 q163 q2241) rfl rfl rfl (by decide +kernel) ⟨(Nat.le_of_ble_eq_true rfl), (Nat.le_of_ble_eq_true rfl)⟩) g2 rfl rfl hl.1 rfl rfl (Nat.le_of_ble_eq_true rfl) dJ19_contains_2 ?_
  refine J.br (fun _ _ _ _ ka kb => lv_if_lt (tgt := 12) X.1.1 X.1.2.1 dJ19_contains_5 (by decide) ka kb) (fun c5 => ?_) (fun c5 => ?_)
  · refine J.pu (fun _ _ _ _ k => lv_iconst (v := 0) X.1.1 X.1.2.1 dJ19_contains_12 (by decide) k) ?_
    exact J.zret (vr := jrI) (fin := fun _ : Int32 => σ) (t := t) X hr (by decide) (by rfl) (by rfl) dJ19_contains_13
  · refine J.pu (fun _ _ _ _ k => lv_iconst (v := 1) X.1.1 X.1.2.1 dJ19_contains_8 (by decide) k) ?_
    refine J.pu (fun _ _ _ _ k => lv_goto (tgt := 13) X.1.1 X.1.2.1 dJ19_contains_9 (by decide) k) ?_
    exact J.zret (vr := jrI) (fin := fun _ : Int32 => σ) (t := t) X hr (by decide) (by rfl) (by rfl) dJ19_contains_13
noncomputable def f_J2_grow_b (G : jG) (n : Nat) (σ : jH) (this : Nat) : Option ((Option Nat) × jH) :=
  (gI σ (some this) 15 2).bind fun v2 => (rc σ (some this) 15).bind fun o7 => bd (f_J2_grow_2 G n σ o7 (v2 + 1)) fun v7 S7 => some (v7, S7)
noncomputable def f_J2_grow (G : jG) (n : Nat) (σ : jH) (this : Nat) : Option ((Option Nat) × jH) := jck σ (f_J2_grow_b G n σ this)
set_option maxHeartbeats 4000000 in
set_option maxRecDepth 100000 in
theorem ct_f_J2_grow (l : Launch) (G : jG) (n : Nat) (σ : jH) (this : Nat) : jCt l G yJ2_grow (ws_ yJ2_grow cJ2_grow 1 (some (.array (.object "java/lang/Object")))) 4 467 jrR [.ref this] σ (f_J2_grow G n σ this) := by
  refine jCt.wr (lv := [(0, .ref this)]) (plainFor_of_name (by decide)) (Nat.le_of_ble_eq_true rfl) rfl ?_
  intro t p e s m args below meth c ls X hr hnm hl
  have X : jCx p c cJ2_grow 1 s m args RJ2 G meth := X
  unfold f_J2_grow_b
  refine J.pu (fun _ _ _ _ k => lv_aload_n X.1.1 X.1.2.1 dJ2_grow_0 rfl (lv_at hl 0 rfl) k) ?_
  refine J.pu (fun _ _ _ _ k => lv_aload_n X.1.1 X.1.2.1 dJ2_grow_1 rfl (lv_at hl 0 rfl) k) ?_
  refine J.getI (k := 2) (ci := 15) X in_J2 (show jCl[15]? = some (RJ2, TJ2, 3) from rfl) (by decide) q549 (fun _ h => h) dJ2_grow_2 (fun v2 h2 => ?_)
  refine J.pu (fun _ _ _ _ k => lv_iconst (v := 1) X.1.1 X.1.2.1 dJ2_grow_5 (by decide) k) ?_
  refine J.pu (fun _ _ _ _ k => lv_iadd X.1.1 X.1.2.1 dJ2_grow_6 k) ?_
  refine J.bind (fun o7 g7 => ?_)
  refine J.bd' (fun v7 S7 h7 => ?_)
  refine J.cV (q := (RJ2, TJ2, 3)) (ci := 15) (As := [.int (v2 + 1)]) (rest := []) (s2 := [va_rf v7]) X ⟨rfl, rfl⟩ (ct_f_J2_grow_2 l G n σ o7 (v2 + 1)) h7 (fun _ _ => cwV 1 X.1.2.2.2.2 (lw_V q595 q597 qs3 q142 q598) rfl rfl rfl (by decide +kernel) ⟨(Nat.le_of_ble_eq_true rfl), (Nat.le_of_ble_eq_true rfl)⟩) g7 rfl rfl hl.1 rfl rfl (Nat.le_of_ble_eq_true rfl) dJ2_grow_7 ?_
  exact J.aret (vr := fun t : (Option Nat) × jH => jrR t.1) (fin := Prod.snd) (t := t) X hr (Or.inr ⟨_, rfl⟩) (by rfl) (by rfl) dJ2_grow_10
noncomputable def f_J2_add_3_j38 (G : jG) (n : Nat) (this : Nat) (a1 : Int32) (a2 : Option Nat) (x3_38 : Int32) (x4_38 : Option Nat) (B38 : jH) : Option (Unit × jH) :=
  (acR G B38 x4_38 a1 x4_38 (a1 + 1) (x3_38 - a1)).bind fun S49 => (sR G S49 x4_38 a1 a2).bind fun S56 => (pI G S56 (some this) 15 2 (x3_38 + 1)).bind fun S61 => some ((), S61)
noncomputable def f_J2_add_3_b (G : jG) (n : Nat) (σ : jH) (this : Nat) (a1 : Int32) (a2 : Option Nat) : Option (Unit × jH) :=
  (rc σ (some this) 15).bind fun o2 => (f_J2_rangeCheckForAdd G n σ o2 a1).bind fun v2 => (gI σ (some this) 15 0).bind fun v7 => (pI G σ (some this) 15 0 (v7 + 1)).bind fun S12 => (gI S12 (some this) 15 2).bind fun v16 => (gR S12 (some this) 15 1).bind fun v22 => (aLen' S12 v22).bind fun v28 => if v16 = v28 then ((rc S12 (some this) 15).bind fun o33 => bd (f_J2_grow G n S12 o33) fun v33 S33 => f_J2_add_3_j38 G n this a1 a2 v16 v33 S33) else (f_J2_add_3_j38 G n this a1 a2 v16 v22 S12)
noncomputable def f_J2_add_3 (G : jG) (n : Nat) (σ : jH) (this : Nat) (a1 : Int32) (a2 : Option Nat) : Option (Unit × jH) := jck σ (f_J2_add_3_b G n σ this a1 a2)
set_option maxHeartbeats 4000000 in
set_option maxRecDepth 100000 in
theorem ct_f_J2_add_3 (l : Launch) (G : jG) (n : Nat) (σ : jH) (this : Nat) (a1 : Int32) (a2 : Option Nat) : jCt l G yJ2_add_3 (ws_ yJ2_add_3 cJ2_add_3 5 none) 5 487 jrV [.ref this, .int a1, va_rf a2] σ (f_J2_add_3 G n σ this a1 a2) := by
  refine jCt.wr (lv := [(0, .ref this), (1, .int a1), (2, va_rf a2)]) (plainFor_of_name (by decide)) (by simp [lg_sl, va_rf_cat, jcI, jcA, jcJ, jcD, jcF]) (by simp [lv_args, va_rf_cat, jcI, jcA, jcJ, jcD, jcF]) ?_
  intro t p e s m args below meth c ls X hr hnm hl
  have X : jCx p c cJ2_add_3 5 s m args RJ2 G meth := X
  have j38 : ∀ (x3_38 : Int32) (x4_38 : Option Nat) (B38 : jH) (ls : Array Slot), lv_has ls 5 [(0, .ref this), (1, .int a1), (2, va_rf a2), (3, .int x3_38), (4, va_rf x4_38)] → jGo l G 5 487 σ (Prod.snd : Unit × jH → jH) (fun t => jrV t.1) t p e s m args below meth c (f_J2_add_3_j38 G n this a1 a2 x3_38 x4_38 B38) B38 (F0 m 38 ls []) := by
    intro x3_38 x4_38 B38 ls hl
    unfold f_J2_add_3_j38
    refine J.pu (fun _ _ _ _ k => W.rload X.1.1 X.1.2.1 dJ2_add_3_38 (lv_at hl 4 rfl) k) ?_
    refine J.pu (fun _ _ _ _ k => lv_iload_n X.1.1 X.1.2.1 dJ2_add_3_40 rfl (lv_at hl 1 rfl) k) ?_
    refine J.pu (fun _ _ _ _ k => W.rload X.1.1 X.1.2.1 dJ2_add_3_41 (lv_at hl 4 rfl) k) ?_
    refine J.pu (fun _ _ _ _ k => lv_iload_n X.1.1 X.1.2.1 dJ2_add_3_43 rfl (lv_at hl 1 rfl) k) ?_
    refine J.pu (fun _ _ _ _ k => lv_iconst (v := 1) X.1.1 X.1.2.1 dJ2_add_3_44 (by decide) k) ?_
    refine J.pu (fun _ _ _ _ k => lv_iadd X.1.1 X.1.2.1 dJ2_add_3_45 k) ?_
    refine J.pu (fun _ _ _ _ k => lv_iload_n X.1.1 X.1.2.1 dJ2_add_3_46 rfl (lv_at hl 3 rfl) k) ?_
    refine J.pu (fun _ _ _ _ k => lv_iload_n X.1.1 X.1.2.1 dJ2_add_3_47 rfl (lv_at hl 1 rfl) k) ?_
    refine J.pu (fun _ _ _ _ k => lv_isub X.1.1 X.1.2.1 dJ2_add_3_48 k) ?_
    refine J.acR (rest := []) X q932 hl.1 (Nat.le_of_ble_eq_true rfl) (Nat.le_trans (m := 400) (show 0 + (nativeFrameWords "java/lang/System" "arraycopy" 5 + 11) ≤ 400 by decide +kernel) (Nat.le_of_ble_eq_true rfl)) dJ2_add_3_49 (fun S49 h49 => ?_)
    refine J.pu (fun _ _ _ _ k => W.rload X.1.1 X.1.2.1 dJ2_add_3_52 (lv_at hl 4 rfl) k) ?_
    refine J.pu (fun _ _ _ _ k => lv_iload_n X.1.1 X.1.2.1 dJ2_add_3_54 rfl (lv_at hl 1 rfl) k) ?_
    refine J.pu (fun _ _ _ _ k => W.rload_n X.1.1 X.1.2.1 dJ2_add_3_55 rfl (lv_at hl 2 rfl) k) ?_
    refine J.sR' X dJ2_add_3_56 (fun S56 h56 => ?_)
    refine J.pu (fun _ _ _ _ k => lv_aload_n X.1.1 X.1.2.1 dJ2_add_3_57 rfl (lv_at hl 0 rfl) k) ?_
    refine J.pu (fun _ _ _ _ k => lv_iload_n X.1.1 X.1.2.1 dJ2_add_3_58 rfl (lv_at hl 3 rfl) k) ?_
    refine J.pu (fun _ _ _ _ k => lv_iconst (v := 1) X.1.1 X.1.2.1 dJ2_add_3_59 (by decide) k) ?_
    refine J.pu (fun _ _ _ _ k => lv_iadd X.1.1 X.1.2.1 dJ2_add_3_60 k) ?_
    refine J.putI (k := 2) (ci := 15) X in_J2 (show jCl[15]? = some (RJ2, TJ2, 3) from rfl) tyJ2_ok (fun a ha b hb h => Or.inl (nmJ2 a ha b hb h)) (by decide) q549 (fun _ h => h) rfl rfl dJ2_add_3_61 (fun S61 h61 => ?_)
    exact J.vret (vr := fun t : Unit × jH => jrV t.1) (fin := Prod.snd) (t := t) X hr (by rfl) (by rfl) dJ2_add_3_64
  unfold f_J2_add_3_b
  refine J.pu (fun _ _ _ _ k => lv_aload_n X.1.1 X.1.2.1 dJ2_add_3_0 rfl (lv_at hl 0 rfl) k) ?_
  refine J.pu (fun _ _ _ _ k => lv_iload_n X.1.1 X.1.2.1 dJ2_add_3_1 rfl (lv_at hl 1 rfl) k) ?_
  refine J.bind (fun o2 g2 => ?_)
  refine J.bind (fun v2 h2 => ?_)
  refine J.cV (q := (RJ2, TJ2, 3)) (ci := 15) (As := [.int a1]) (rest := []) (s2 := []) X ⟨rfl, rfl⟩ (ct_f_J2_rangeCheckForAdd l G n σ o2 a1) (jrd_of h2) (fun _ _ => cwV 1 X.1.2.2.2.2 (lw_V q1110 q1112 qs9 q142 q1113) rfl rfl rfl (by decide +kernel) ⟨(Nat.le_of_ble_eq_true rfl), (Nat.le_of_ble_eq_true rfl)⟩) g2 rfl rfl hl.1 rfl rfl (Nat.le_of_ble_eq_true rfl) dJ2_add_3_2 ?_
  refine J.pu (fun _ _ _ _ k => lv_aload_n X.1.1 X.1.2.1 dJ2_add_3_5 rfl (lv_at hl 0 rfl) k) ?_
  refine J.pu (fun _ _ _ _ k => lv_dup X.1.1 X.1.2.1 dJ2_add_3_6 rfl k) ?_
  refine J.getI (k := 0) (ci := 15) X in_J2 (show jCl[15]? = some (RJ2, TJ2, 3) from rfl) (by decide) q557 (fun x h => u_same (X.1.2.2.2.2 _ q554) x h) dJ2_add_3_7 (fun v7 h7 => ?_)
  refine J.pu (fun _ _ _ _ k => lv_iconst (v := 1) X.1.1 X.1.2.1 dJ2_add_3_10 (by decide) k) ?_
  refine J.pu (fun _ _ _ _ k => lv_iadd X.1.1 X.1.2.1 dJ2_add_3_11 k) ?_
  refine J.putI (k := 0) (ci := 15) X in_J2 (show jCl[15]? = some (RJ2, TJ2, 3) from rfl) tyJ2_ok (fun a ha b hb h => Or.inl (nmJ2 a ha b hb h)) (by decide) q557 (fun x h => u_same (X.1.2.2.2.2 _ q554) x h) rfl rfl dJ2_add_3_12 (fun S12 h12 => ?_)
  refine J.pu (fun _ _ _ _ k => lv_aload_n X.1.1 X.1.2.1 dJ2_add_3_15 rfl (lv_at hl 0 rfl) k) ?_
  refine J.getI (k := 2) (ci := 15) X in_J2 (show jCl[15]? = some (RJ2, TJ2, 3) from rfl) (by decide) q549 (fun _ h => h) dJ2_add_3_16 (fun v16 h16 => ?_)
  refine J.pu (fun _ _ _ _ k => lv_dup X.1.1 X.1.2.1 dJ2_add_3_19 rfl k) ?_
  refine J.istore_n (i := 3) (lv' := [(3, .int v16), (0, .ref this), (1, .int a1), (2, va_rf a2)]) X.1.1 X.1.2.1 dJ2_add_3_20 rfl hl (by decide) (by first | rfl | simp [va_rf_cat, jcI, jcA, jcJ, jcD, jcF]) (fun ls hl => ?_)
  refine J.pu (fun _ _ _ _ k => lv_aload_n X.1.1 X.1.2.1 dJ2_add_3_21 rfl (lv_at hl 1 rfl) k) ?_
  refine J.getR (k := 1) (ci := 15) X in_J2 (show jCl[15]? = some (RJ2, TJ2, 3) from rfl) (by decide) q546 (fun _ h => h) dJ2_add_3_22 (fun v22 h22 => ?_)
  refine J.pu (fun _ _ _ _ k => lv_dup X.1.1 X.1.2.1 dJ2_add_3_25 (va_rf_cat _) k) ?_
  refine J.astore (r := v22) (lv' := [(4, va_rf v22), (3, .int v16), (0, .ref this), (1, .int a1), (2, va_rf a2)]) X.1.1 X.1.2.1 dJ2_add_3_26 hl (by decide) (by first | rfl | simp [va_rf_cat, jcI, jcA, jcJ, jcD, jcF]) (fun ls hl => ?_)
  refine J.len X dJ2_add_3_28 (fun v28 h28 => ?_)
  refine J.br (fun _ _ _ _ ka kb => lv_icmp_ne (tgt := 38) X.1.1 X.1.2.1 dJ2_add_3_29 (by decide) kb ka) (fun c29 => ?_) (fun c29 => ?_)
  · refine J.pu (fun _ _ _ _ k => lv_aload_n X.1.1 X.1.2.1 dJ2_add_3_32 rfl (lv_at hl 2 rfl) k) ?_
    refine J.bind (fun o33 g33 => ?_)
    refine J.bd' (fun v33 S33 h33 => ?_)
    refine J.cV (q := (RJ2, TJ2, 3)) (ci := 15) (As := []) (rest := []) (s2 := [va_rf v33]) X ⟨rfl, rfl⟩ (ct_f_J2_grow l G n S12 o33) h33 (fun _ _ => cwV 0 X.1.2.2.2.2 (lw_V q591 q593 qs2 q142 q594) rfl rfl rfl (by decide +kernel) ⟨(Nat.le_of_ble_eq_true rfl), (Nat.le_of_ble_eq_true rfl)⟩) g33 rfl rfl hl.1 rfl rfl (Nat.le_of_ble_eq_true rfl) dJ2_add_3_33 ?_
    refine J.astore (r := v33) (lv' := [(4, va_rf v33), (3, .int v16), (0, .ref this), (1, .int a1), (2, va_rf a2)]) X.1.1 X.1.2.1 dJ2_add_3_36 hl (by decide) (by first | rfl | simp [va_rf_cat, jcI, jcA, jcJ, jcD, jcF]) (fun ls hl => ?_)
    exact j38 v16 v33 S33 ls (lv_sub hl [2, 3, 4, 1, 0] rfl)
  · exact j38 v16 v22 S12 ls (lv_sub hl [2, 3, 4, 1, 0] rfl)
noncomputable def f_J20_removeFirst_b (G : jG) (n : Nat) (σ : jH) (this : Nat) : Option ((Option Nat) × jH) :=
  (rc σ (some this) 18).bind fun o1 => bd (f_J20_pollFirst G n σ o1) fun v1 S1 => if v1 = none then (none) else (some (v1, S1))
noncomputable def f_J20_removeFirst (G : jG) (n : Nat) (σ : jH) (this : Nat) : Option ((Option Nat) × jH) := jck σ (f_J20_removeFirst_b G n σ this)
set_option maxHeartbeats 4000000 in
set_option maxRecDepth 100000 in
theorem ct_f_J20_removeFirst (l : Launch) (G : jG) (n : Nat) (σ : jH) (this : Nat) : jCt l G yJ20_removeFirst (ws_ yJ20_removeFirst cJ20_removeFirst 2 (some (.object "java/lang/Object"))) 2 44 jrR [.ref this] σ (f_J20_removeFirst G n σ this) := by
  refine jCt.wr (lv := [(0, .ref this)]) (plainFor_of_name (by decide)) (Nat.le_of_ble_eq_true rfl) rfl ?_
  intro t p e s m args below meth c ls X hr hnm hl
  have X : jCx p c cJ20_removeFirst 2 s m args RJ20 G meth := X
  unfold f_J20_removeFirst_b
  refine J.pu (fun _ _ _ _ k => lv_aload_n X.1.1 X.1.2.1 dJ20_removeFirst_0 rfl (lv_at hl 0 rfl) k) ?_
  refine J.bind (fun o1 g1 => ?_)
  refine J.bd' (fun v1 S1 h1 => ?_)
  refine J.cV (q := (RJ20, TJ20, 3)) (ci := 18) (As := []) (rest := []) (s2 := [va_rf v1]) X ⟨rfl, rfl⟩ (ct_f_J20_pollFirst l G n σ o1) h1 (fun _ _ => cwV 0 X.1.2.2.2.2 (lw_V q1911 q1912 q1913 q164 q1914) rfl rfl rfl (by decide +kernel) ⟨(Nat.le_of_ble_eq_true rfl), (Nat.le_of_ble_eq_true rfl)⟩) g1 rfl rfl hl.1 rfl rfl (Nat.le_of_ble_eq_true rfl) dJ20_removeFirst_1 ?_
  refine J.astore_n (r := v1) (i := 1) (lv' := [(1, va_rf v1), (0, .ref this)]) X.1.1 X.1.2.1 dJ20_removeFirst_4 rfl hl (by decide) (by first | rfl | simp [va_rf_cat, jcI, jcA, jcJ, jcD, jcF]) (fun ls hl => ?_)
  refine J.pu (fun _ _ _ _ k => W.rload_n X.1.1 X.1.2.1 dJ20_removeFirst_5 rfl (lv_at hl 0 rfl) k) ?_
  refine J.br (fun _ _ _ _ ka kb => W.rnonnull (tgt := 17) X.1.1 X.1.2.1 dJ20_removeFirst_6 (by decide) kb ka) (fun c6 => ?_) (fun c6 => ?_)
  · exact J.nil_
  · refine J.pu (fun _ _ _ _ k => W.rload_n X.1.1 X.1.2.1 dJ20_removeFirst_17 rfl (lv_at hl 0 rfl) k) ?_
    exact J.aret (vr := fun t : (Option Nat) × jH => jrR t.1) (fin := Prod.snd) (t := t) X hr (Or.inl ⟨_, rfl⟩) (by rfl) (by rfl) dJ20_removeFirst_18
noncomputable def f_J20_removeLast_b (G : jG) (n : Nat) (σ : jH) (this : Nat) : Option ((Option Nat) × jH) :=
  (rc σ (some this) 18).bind fun o1 => bd (f_J20_pollLast G n σ o1) fun v1 S1 => if v1 = none then (none) else (some (v1, S1))
noncomputable def f_J20_removeLast (G : jG) (n : Nat) (σ : jH) (this : Nat) : Option ((Option Nat) × jH) := jck σ (f_J20_removeLast_b G n σ this)
set_option maxHeartbeats 4000000 in
set_option maxRecDepth 100000 in
theorem ct_f_J20_removeLast (l : Launch) (G : jG) (n : Nat) (σ : jH) (this : Nat) : jCt l G yJ20_removeLast (ws_ yJ20_removeLast cJ20_removeLast 2 (some (.object "java/lang/Object"))) 2 44 jrR [.ref this] σ (f_J20_removeLast G n σ this) := by
  refine jCt.wr (lv := [(0, .ref this)]) (plainFor_of_name (by decide)) (Nat.le_of_ble_eq_true rfl) rfl ?_
  intro t p e s m args below meth c ls X hr hnm hl
  have X : jCx p c cJ20_removeLast 2 s m args RJ20 G meth := X
  unfold f_J20_removeLast_b
  refine J.pu (fun _ _ _ _ k => lv_aload_n X.1.1 X.1.2.1 dJ20_removeLast_0 rfl (lv_at hl 0 rfl) k) ?_
  refine J.bind (fun o1 g1 => ?_)
  refine J.bd' (fun v1 S1 h1 => ?_)
  refine J.cV (q := (RJ20, TJ20, 3)) (ci := 18) (As := []) (rest := []) (s2 := [va_rf v1]) X ⟨rfl, rfl⟩ (ct_f_J20_pollLast l G n σ o1) h1 (fun _ _ => cwV 0 X.1.2.2.2.2 (lw_V q2698 q2699 q2700 q164 q2701) rfl rfl rfl (by decide +kernel) ⟨(Nat.le_of_ble_eq_true rfl), (Nat.le_of_ble_eq_true rfl)⟩) g1 rfl rfl hl.1 rfl rfl (Nat.le_of_ble_eq_true rfl) dJ20_removeLast_1 ?_
  refine J.astore_n (r := v1) (i := 1) (lv' := [(1, va_rf v1), (0, .ref this)]) X.1.1 X.1.2.1 dJ20_removeLast_4 rfl hl (by decide) (by first | rfl | simp [va_rf_cat, jcI, jcA, jcJ, jcD, jcF]) (fun ls hl => ?_)
  refine J.pu (fun _ _ _ _ k => W.rload_n X.1.1 X.1.2.1 dJ20_removeLast_5 rfl (lv_at hl 0 rfl) k) ?_
  refine J.br (fun _ _ _ _ ka kb => W.rnonnull (tgt := 17) X.1.1 X.1.2.1 dJ20_removeLast_6 (by decide) kb ka) (fun c6 => ?_) (fun c6 => ?_)
  · exact J.nil_
  · refine J.pu (fun _ _ _ _ k => W.rload_n X.1.1 X.1.2.1 dJ20_removeLast_17 rfl (lv_at hl 0 rfl) k) ?_
    exact J.aret (vr := fun t : (Option Nat) × jH => jrR t.1) (fin := Prod.snd) (t := t) X hr (Or.inl ⟨_, rfl⟩) (by rfl) (by rfl) dJ20_removeLast_18
noncomputable def f_J29_digit (G : jG) (n : Nat) (σ : jH) (a0 : Int32) (a1 : Int32) : Option (Int32) :=
  (f_J29_digit_2 G n σ a0 a1).bind fun v2 => some v2
set_option maxHeartbeats 4000000 in
set_option maxRecDepth 100000 in
theorem ct_f_J29_digit (l : Launch) (G : jG) (n : Nat) (σ : jH) (a0 : Int32) (a1 : Int32) : jCt l G yJ29_digit (ws_ yJ29_digit cJ29_digit 2 (some .int)) 2 44 jrI [.int a0, .int a1] σ (jrd σ (f_J29_digit G n σ a0 a1)) := by
  refine jCt.rd (lv := [(0, .int a0), (1, .int a1)]) (plainFor_of_name (by decide)) (Nat.le_of_ble_eq_true rfl) rfl ?_
  intro t p e s m args below meth c ls X hr hnm hl
  have X : jCx p c cJ29_digit 2 s m args RJ29 G meth := X
  unfold f_J29_digit
  refine J.pu (fun _ _ _ _ k => lv_iload_n X.1.1 X.1.2.1 dJ29_digit_0 rfl (lv_at hl 0 rfl) k) ?_
  refine J.pu (fun _ _ _ _ k => lv_iload_n X.1.1 X.1.2.1 dJ29_digit_1 rfl (lv_at hl 1 rfl) k) ?_
  refine J.bind (fun v2 h2 => ?_)
  refine J.cS (As := [.int a0, .int a1]) (rest := []) (s2 := [.int v2]) X ⟨rfl, rfl⟩ (ct_f_J29_digit_2 l G n σ a0 a1) (jrd_of h2) (fun _ _ => va_cwS 2 X.1.2.2.2.2 (lw_S q1501 q1502 q178 q1503) rfl rfl rfl (by decide +kernel) ⟨(Nat.le_of_ble_eq_true rfl), (Nat.le_of_ble_eq_true rfl)⟩) rfl hl.1 rfl rfl (Nat.le_of_ble_eq_true rfl) dJ29_digit_2 ?_
  exact J.iret (vr := jrI) (fin := fun _ : Int32 => σ) (t := t) X hr (by rfl) (by rfl) dJ29_digit_5
noncomputable def f_J9_init_2_j79 (G : jG) (n : Nat) (this : Nat) (a1 : Option Nat) (a2 : Option Nat) (x3_79 : Option Nat) (x4_79 : Int32) (B79 : jH) : Option (Unit × jH) :=
  (pB G B79 (some this) 21 1 1).bind fun S81 => bd (f_J13_copyOfRange G n S81 x3_79 0 (x4_79 <<< (1 &&& 31))) fun v91 S91 => (pR G S91 (some this) 21 0 v91).bind fun S94 => some ((), S94)
noncomputable def f_J9_init_2_b (G : jG) (n : Nat) (σ : jH) (this : Nat) (a1 : Option Nat) (a2 : Option Nat) : Option (Unit × jH) :=
  (rc σ a1 20).bind fun o5 => (f_J7_getValue_J8 G n σ o5).bind fun v5 => (rc σ a1 20).bind fun o10 => (f_J8_length G n σ o10).bind fun v10 => (rc σ a1 20).bind fun o16 => (f_J7_isLatin1_J8 G n σ o16).bind fun v16 => if v16 = 0 then (if (1 : Int32) = 0 then (f_J9_init_2_j79 G n this a1 a2 v5 v10 σ) else ((gI σ a1 20 2).bind fun v48 => if v48 = 0 then (f_J9_init_2_j79 G n this a1 a2 v5 v10 σ) else (none))) else ((pB G σ (some this) 21 1 0).bind fun S24 => bd (f_J13_copyOfRange G n S24 v5 0 v10) fun v32 S32 => (pR G S32 (some this) 21 0 v32).bind fun S35 => some ((), S35))
noncomputable def f_J9_init_2 (G : jG) (n : Nat) (σ : jH) (this : Nat) (a1 : Option Nat) (a2 : Option Nat) : Option (Unit × jH) := jck σ (f_J9_init_2_b G n σ this a1 a2)
set_option maxHeartbeats 4000000 in
set_option maxRecDepth 100000 in
theorem ct_f_J9_init_2 (l : Launch) (G : jG) (n : Nat) (σ : jH) (this : Nat) (a1 : Option Nat) (a2 : Option Nat) : jCt l G yJ9_init_2 (ws_ yJ9_init_2 cJ9_init_2 5 none) 3 446 jrV [.ref this, va_rf a1, va_rf a2] σ (f_J9_init_2 G n σ this a1 a2) := by
  refine jCt.wr (lv := [(0, .ref this), (1, va_rf a1), (2, va_rf a2)]) (plainFor_of_name (by decide)) (by simp [lg_sl, va_rf_cat, jcI, jcA, jcJ, jcD, jcF]) (by simp [lv_args, va_rf_cat, jcI, jcA, jcJ, jcD, jcF]) ?_
  intro t p e s m args below meth c ls X hr hnm hl
  have X : jCx p c cJ9_init_2 5 s m args RJ9 G meth := X
  have j79 : ∀ (x3_79 : Option Nat) (x4_79 : Int32) (B79 : jH) (ls : Array Slot), lv_has ls 5 [(0, .ref this), (3, va_rf x3_79), (4, .int x4_79)] → jGo l G 3 446 σ (Prod.snd : Unit × jH → jH) (fun t => jrV t.1) t p e s m args below meth c (f_J9_init_2_j79 G n this a1 a2 x3_79 x4_79 B79) B79 (F0 m 79 ls []) := by
    intro x3_79 x4_79 B79 ls hl
    unfold f_J9_init_2_j79
    refine J.pu (fun _ _ _ _ k => lv_aload_n X.1.1 X.1.2.1 dJ9_init_2_79 rfl (lv_at hl 0 rfl) k) ?_
    refine J.pu (fun _ _ _ _ k => lv_iconst (v := 1) X.1.1 X.1.2.1 dJ9_init_2_80 (by decide) k) ?_
    refine J.putBF (k := 1) (ci := 21) X hnm in_J9 (show jCl[21]? = some (RJ9, TJ9, 4) from rfl) tyJ9_ok (fun a ha b hb h => Or.inl (nmJ9 a ha b hb h)) (by decide) q533 (fun _ h => h) rfl rfl (Or.inr rfl) dJ9_init_2_81 (fun S81 h81 => ?_)
    refine J.pu (fun _ _ _ _ k => lv_aload_n X.1.1 X.1.2.1 dJ9_init_2_84 rfl (lv_at hl 0 rfl) k) ?_
    refine J.pu (fun _ _ _ _ k => W.rload_n X.1.1 X.1.2.1 dJ9_init_2_85 rfl (lv_at hl 1 rfl) k) ?_
    refine J.pu (fun _ _ _ _ k => lv_iconst (v := 0) X.1.1 X.1.2.1 dJ9_init_2_86 (by decide) k) ?_
    refine J.pu (fun _ _ _ _ k => lv_iload X.1.1 X.1.2.1 dJ9_init_2_87 (lv_at hl 2 rfl) k) ?_
    refine J.pu (fun _ _ _ _ k => lv_iconst (v := 1) X.1.1 X.1.2.1 dJ9_init_2_89 (by decide) k) ?_
    refine J.pu (fun _ _ _ _ k => lv_ishl X.1.1 X.1.2.1 dJ9_init_2_90 k) ?_
    refine J.bd' (fun v91 S91 h91 => ?_)
    refine J.cS (As := [va_rf x3_79, .int 0, .int (x4_79 <<< (1 &&& 31))]) (rest := [.ref this]) (s2 := [va_rf v91, .ref this]) X ⟨rfl, rfl⟩ (ct_f_J13_copyOfRange l G n S81 x3_79 0 (x4_79 <<< (1 &&& 31))) h91 (fun _ _ => va_cwS 3 X.1.2.2.2.2 (lw_S q478 q479 q153 q480) rfl rfl rfl (by decide +kernel) ⟨(Nat.le_of_ble_eq_true rfl), (Nat.le_of_ble_eq_true rfl)⟩) rfl hl.1 rfl rfl (Nat.le_of_ble_eq_true rfl) dJ9_init_2_91 ?_
    refine J.putRF (k := 0) (ci := 21) X hnm in_J9 (show jCl[21]? = some (RJ9, TJ9, 4) from rfl) tyJ9_ok (fun a ha b hb h => Or.inl (nmJ9 a ha b hb h)) (by decide) q532 (fun _ h => h) rfl rfl (Or.inr ⟨_, rfl⟩) dJ9_init_2_94 (fun S94 h94 => ?_)
    exact J.vret (vr := fun t : Unit × jH => jrV t.1) (fin := Prod.snd) (t := t) X hr (by rfl) (by rfl) dJ9_init_2_97
  unfold f_J9_init_2_b
  refine J.pu (fun _ _ _ _ k => lv_aload_n X.1.1 X.1.2.1 dJ9_init_2_0 rfl (lv_at hl 0 rfl) k) ?_
  refine J.objI (a := this) X q463 hl.1 dJ9_init_2_1 (Nat.le_of_ble_eq_true rfl) (Nat.le_of_ble_eq_true rfl) ?_
  refine J.pu (fun _ _ _ _ k => W.rload_n X.1.1 X.1.2.1 dJ9_init_2_4 rfl (lv_at hl 1 rfl) k) ?_
  refine J.bind (fun o5 g5 => ?_)
  refine J.bind (fun v5 h5 => ?_)
  refine J.cU (q := (RJ8, TJ8, 4)) (ci := 20) (As := []) (rest := []) (s2 := [va_rf v5]) X ⟨rfl, rfl⟩ (ct_f_J7_getValue_J8 l G n σ o5) (jrd_of h5) (fun _ _ => va_cwU 0 X.1.2.2.2.2 (lw_U q464 q466 q467 q465 q147 q468) rfl rfl rfl rfl (by decide +kernel) ⟨(Nat.le_of_ble_eq_true rfl), (Nat.le_of_ble_eq_true rfl)⟩) g5 rfl rfl hl.1 rfl rfl (Nat.le_of_ble_eq_true rfl) dJ9_init_2_5 ?_
  refine J.astore_n (r := v5) (i := 3) (lv' := [(3, va_rf v5), (0, .ref this), (1, va_rf a1), (2, va_rf a2)]) X.1.1 X.1.2.1 dJ9_init_2_8 rfl hl (by decide) (by first | rfl | simp [va_rf_cat, jcI, jcA, jcJ, jcD, jcF]) (fun ls hl => ?_)
  refine J.pu (fun _ _ _ _ k => W.rload_n X.1.1 X.1.2.1 dJ9_init_2_9 rfl (lv_at hl 2 rfl) k) ?_
  refine J.bind (fun o10 g10 => ?_)
  refine J.bind (fun v10 h10 => ?_)
  refine J.cU (q := (RJ8, TJ8, 4)) (ci := 20) (As := []) (rest := []) (s2 := [.int v10]) X ⟨rfl, rfl⟩ (ct_f_J8_length l G n σ o10) (jrd_of h10) (fun _ _ => va_cwO (owner := "java/lang/AbstractStringBuilder") 0 X.1.2.2.2.2 (lw_O q469 q471 q470 q472 q473 q148 q474) rfl rfl rfl q476 (by decide +kernel) ⟨(Nat.le_of_ble_eq_true rfl), (Nat.le_of_ble_eq_true rfl)⟩) g10 rfl rfl hl.1 rfl rfl (Nat.le_of_ble_eq_true rfl) dJ9_init_2_10 ?_
  refine J.istore (lv' := [(4, .int v10), (3, va_rf v5), (0, .ref this), (1, va_rf a1), (2, va_rf a2)]) X.1.1 X.1.2.1 dJ9_init_2_13 hl (by decide) (by first | rfl | simp [va_rf_cat, jcI, jcA, jcJ, jcD, jcF]) (fun ls hl => ?_)
  refine J.pu (fun _ _ _ _ k => W.rload_n X.1.1 X.1.2.1 dJ9_init_2_15 rfl (lv_at hl 3 rfl) k) ?_
  refine J.bind (fun o16 g16 => ?_)
  refine J.bind (fun v16 h16 => ?_)
  refine J.cU (q := (RJ8, TJ8, 4)) (ci := 20) (As := []) (rest := []) (s2 := [.int v16]) X ⟨rfl, rfl⟩ (ct_f_J7_isLatin1_J8 l G n σ o16) (jrd_of h16) (fun _ _ => va_cwU 0 X.1.2.2.2.2 (lw_U q477 q354 q355 q353 q147 q356) rfl rfl rfl rfl (by decide +kernel) ⟨(Nat.le_of_ble_eq_true rfl), (Nat.le_of_ble_eq_true rfl)⟩) g16 rfl rfl hl.1 rfl rfl (Nat.le_of_ble_eq_true rfl) dJ9_init_2_16 ?_
  refine J.br (fun _ _ _ _ ka kb => lv_if_eq (tgt := 41) X.1.1 X.1.2.1 dJ9_init_2_19 (by decide) ka kb) (fun c19 => ?_) (fun c19 => ?_)
  · refine J.getsI (v := 1) X (List.mem_of_getElem? (i := 0) rfl) q391 (fun _ h => h) dJ9_init_2_41 ?_
    refine J.br (fun _ _ _ _ ka kb => lv_if_eq (tgt := 79) X.1.1 X.1.2.1 dJ9_init_2_44 (by decide) ka kb) (fun c44 => ?_) (fun c44 => ?_)
    · exact j79 v5 v10 σ ls (lv_sub hl [2, 1, 0] rfl)
    · refine J.pu (fun _ _ _ _ k => W.rload_n X.1.1 X.1.2.1 dJ9_init_2_47 rfl (lv_at hl 3 rfl) k) ?_
      refine J.getI (k := 2) (ci := 20) X in_J8 (show jCl[20]? = some (RJ8, TJ8, 4) from rfl) (by decide) q293 (fun _ h => h) dJ9_init_2_48 (fun v48 h48 => ?_)
      refine J.br (fun _ _ _ _ ka kb => lv_if_eq (tgt := 79) X.1.1 X.1.2.1 dJ9_init_2_51 (by decide) ka kb) (fun c51 => ?_) (fun c51 => ?_)
      · exact j79 v5 v10 σ ls (lv_sub hl [2, 1, 0] rfl)
      · refine J.pu (fun _ _ _ _ k => lv_aload_n X.1.1 X.1.2.1 dJ9_init_2_54 rfl (lv_at hl 2 rfl) k) ?_
        refine J.pu (fun _ _ _ _ k => W.rload_n X.1.1 X.1.2.1 dJ9_init_2_55 rfl (lv_at hl 1 rfl) k) ?_
        refine J.pu (fun _ _ _ _ k => lv_iconst (v := 0) X.1.1 X.1.2.1 dJ9_init_2_56 (by decide) k) ?_
        refine J.pu (fun _ _ _ _ k => lv_iload X.1.1 X.1.2.1 dJ9_init_2_57 (lv_at hl 0 rfl) k) ?_
        exact J.nil_
  · refine J.pu (fun _ _ _ _ k => lv_aload_n X.1.1 X.1.2.1 dJ9_init_2_22 rfl (lv_at hl 2 rfl) k) ?_
    refine J.pu (fun _ _ _ _ k => lv_iconst (v := 0) X.1.1 X.1.2.1 dJ9_init_2_23 (by decide) k) ?_
    refine J.putBF (k := 1) (ci := 21) X hnm in_J9 (show jCl[21]? = some (RJ9, TJ9, 4) from rfl) tyJ9_ok (fun a ha b hb h => Or.inl (nmJ9 a ha b hb h)) (by decide) q533 (fun _ h => h) rfl rfl (Or.inr rfl) dJ9_init_2_24 (fun S24 h24 => ?_)
    refine J.pu (fun _ _ _ _ k => lv_aload_n X.1.1 X.1.2.1 dJ9_init_2_27 rfl (lv_at hl 2 rfl) k) ?_
    refine J.pu (fun _ _ _ _ k => W.rload_n X.1.1 X.1.2.1 dJ9_init_2_28 rfl (lv_at hl 1 rfl) k) ?_
    refine J.pu (fun _ _ _ _ k => lv_iconst (v := 0) X.1.1 X.1.2.1 dJ9_init_2_29 (by decide) k) ?_
    refine J.pu (fun _ _ _ _ k => lv_iload X.1.1 X.1.2.1 dJ9_init_2_30 (lv_at hl 0 rfl) k) ?_
    refine J.bd' (fun v32 S32 h32 => ?_)
    refine J.cS (As := [va_rf v5, .int 0, .int v10]) (rest := [.ref this]) (s2 := [va_rf v32, .ref this]) X ⟨rfl, rfl⟩ (ct_f_J13_copyOfRange l G n S24 v5 0 v10) h32 (fun _ _ => va_cwS 3 X.1.2.2.2.2 (lw_S q478 q479 q153 q480) rfl rfl rfl (by decide +kernel) ⟨(Nat.le_of_ble_eq_true rfl), (Nat.le_of_ble_eq_true rfl)⟩) rfl hl.1 rfl rfl (Nat.le_of_ble_eq_true rfl) dJ9_init_2_32 ?_
    refine J.putRF (k := 0) (ci := 21) X hnm in_J9 (show jCl[21]? = some (RJ9, TJ9, 4) from rfl) tyJ9_ok (fun a ha b hb h => Or.inl (nmJ9 a ha b hb h)) (by decide) q532 (fun _ h => h) rfl rfl (Or.inr ⟨_, rfl⟩) dJ9_init_2_35 (fun S35 h35 => ?_)
    refine J.pu (fun _ _ _ _ k => lv_goto (tgt := 97) X.1.1 X.1.2.1 dJ9_init_2_38 (by decide) k) ?_
    exact J.vret (vr := fun t : Unit × jH => jrV t.1) (fin := Prod.snd) (t := t) X hr (by rfl) (by rfl) dJ9_init_2_97
noncomputable def f_J1_listIterator_J19_b (G : jG) (n : Nat) (σ : jH) (this : Nat) : Option ((Option Nat) × jH) :=
  (rc σ (some this) 16).bind fun o2 => bd (f_J19_listIterator G n σ o2 0) fun v2 S2 => some (v2, S2)
noncomputable def f_J1_listIterator_J19 (G : jG) (n : Nat) (σ : jH) (this : Nat) : Option ((Option Nat) × jH) := jck σ (f_J1_listIterator_J19_b G n σ this)
set_option maxHeartbeats 4000000 in
set_option maxRecDepth 100000 in
theorem ct_f_J1_listIterator_J19 (l : Launch) (G : jG) (n : Nat) (σ : jH) (this : Nat) : jCt l G yJ1_listIterator (ws_ yJ1_listIterator cJ1_listIterator 1 (some (.object "java/util/ListIterator"))) 3 73 jrR [.ref this] σ (f_J1_listIterator_J19 G n σ this) := by
  refine jCt.wr (lv := [(0, .ref this)]) (plainFor_of_name (by decide)) (Nat.le_of_ble_eq_true rfl) rfl ?_
  intro t p e s m args below meth c ls X hr hnm hl
  have X : jCx p c cJ1_listIterator 1 s m args RJ1 G meth := X
  unfold f_J1_listIterator_J19_b
  refine J.pu (fun _ _ _ _ k => lv_aload_n X.1.1 X.1.2.1 dJ1_listIterator_0 rfl (lv_at hl 0 rfl) k) ?_
  refine J.pu (fun _ _ _ _ k => lv_iconst (v := 0) X.1.1 X.1.2.1 dJ1_listIterator_1 (by decide) k) ?_
  refine J.bind (fun o2 g2 => ?_)
  refine J.bd' (fun v2 S2 h2 => ?_)
  refine J.cU (q := (RJ19, TJ19, 4)) (ci := 16) (As := [.int 0]) (rest := []) (s2 := [va_rf v2]) X ⟨rfl, rfl⟩ (ct_f_J19_listIterator l G n σ o2 0) h2 (fun _ _ => va_cwA (owner := "java/util/AbstractList") 1 X.1.2.2.2.2 (lw_U q1104 q1106 q1136 q1137 q163 q1138) rfl rfl rfl (X.2.1.2.2.2.2.2.2.2.2.2.2.2.1 ⟨"java/util/AbstractList", "listIterator", "(I)Ljava/util/ListIterator;"⟩ (List.mem_of_getElem? (i := 14) rfl)) (by decide +kernel) ⟨(Nat.le_of_ble_eq_true rfl), (Nat.le_of_ble_eq_true rfl)⟩) g2 rfl rfl hl.1 rfl rfl (Nat.le_of_ble_eq_true rfl) dJ1_listIterator_2 ?_
  exact J.aret (vr := fun t : (Option Nat) × jH => jrR t.1) (fin := Prod.snd) (t := t) X hr (Or.inl ⟨_, rfl⟩) (by rfl) (by rfl) dJ1_listIterator_5
noncomputable def f_J16_parseInt_2_h175 (G : jG) (n : Nat) (σ : jH) (a0 : Option Nat) (a1 : Int32) (x2_175 : Int32) (x4_175 : Int32) (x5_175 : Int32) (x7_175 : Int32) (rec175 : Int32 × Int32 → Option (Int32)) (q175 : Int32 × Int32) : Option (Int32) :=
  let x3_175 := q175.1; let x8_175 := q175.2; if x4_175 ≤ x3_175 then (if x2_175 = 0 then (some (-x8_175)) else (some x8_175)) else ((rc σ a0 21).bind fun o186 => (f_J9_charAt G n σ o186 x3_175).bind fun v186 => (f_J29_digit G n σ v186 a1).bind fun v190 => if v190 < 0 then (none) else (if x7_175 ≤ x8_175 then (if (x5_175 + v190) ≤ (x8_175 * a1) then (rec175 ((x3_175 + 1), ((x8_175 * a1) - v190))) else (none)) else (none)))
noncomputable def f_J16_parseInt_2_j166 (G : jG) (n : Nat) (σ : jH) (a0 : Option Nat) (a1 : Int32) (x2_166 : Int32) (x3_166 : Int32) (x4_166 : Int32) (x5_166 : Int32) : Option (Int32) :=
  jnz a1 fun _ => jloop (f_J16_parseInt_2_h175 G n σ a0 a1 x2_166 x4_166 x5_166 (x5_166 / a1)) n (x3_166, 0)
noncomputable def f_J16_parseInt_2_j151 (G : jG) (n : Nat) (σ : jH) (a0 : Option Nat) (a1 : Int32) (x2_151 : Int32) (x3_151 : Int32) (x4_151 : Int32) (x5_151 : Int32) : Option (Int32) :=
  if x4_151 = 1 then (none) else (f_J16_parseInt_2_j166 G n σ a0 a1 x2_151 (x3_151 + 1) x4_151 x5_151)
noncomputable def f_J16_parseInt_2 (G : jG) (n : Nat) (σ : jH) (a0 : Option Nat) (a1 : Int32) : Option (Int32) :=
  if a0 = none then (none) else (if 2 ≤ a1 then (if a1 ≤ 36 then ((rc σ a0 21).bind fun o94 => (f_J9_length G n σ o94).bind fun v94 => if v94 ≤ 0 then (none) else ((rc σ a0 21).bind fun o110 => (f_J9_charAt G n σ o110 0).bind fun v110 => if 48 ≤ v110 then (f_J16_parseInt_2_j166 G n σ a0 a1 0 0 v94 (-2147483647)) else (if v110 = 45 then (f_J16_parseInt_2_j151 G n σ a0 a1 1 0 v94 (-2147483648)) else (if v110 = 43 then (f_J16_parseInt_2_j151 G n σ a0 a1 0 0 v94 (-2147483647)) else (none))))) else (none)) else (none))
set_option maxHeartbeats 4000000 in
set_option maxRecDepth 100000 in
theorem ct_f_J16_parseInt_2 (l : Launch) (G : jG) (n : Nat) (σ : jH) (a0 : Option Nat) (a1 : Int32) : jCt l G yJ16_parseInt_2 (ws_ yJ16_parseInt_2 cJ16_parseInt_2 10 (some .int)) 4 85 jrI [va_rf a0, .int a1] σ (jrd σ (f_J16_parseInt_2 G n σ a0 a1)) := by
  refine jCt.rd (lv := [(0, va_rf a0), (1, .int a1)]) (plainFor_of_name (by decide)) (by simp [lg_sl, va_rf_cat, jcI, jcA, jcJ, jcD, jcF]) (by simp [lv_args, va_rf_cat, jcI, jcA, jcJ, jcD, jcF]) ?_
  intro t p e s m args below meth c ls X hr hnm hl
  have X : jCx p c cJ16_parseInt_2 10 s m args RJ16 G meth := X
  have L175 : ∀ (x2_175 : Int32) (x4_175 : Int32) (x5_175 : Int32) (x7_175 : Int32) (n175 : Nat) (x3_175 : Int32) (x8_175 : Int32) (ls : Array Slot), lv_has ls 10 [(0, va_rf a0), (1, .int a1), (2, .int x2_175), (4, .int x4_175), (5, .int x5_175), (7, .int x7_175), (3, .int x3_175), (8, .int x8_175)] → jGo l G 4 85 σ (fun _ : Int32 => σ) jrI t p e s m args below meth c (jloop (f_J16_parseInt_2_h175 G n σ a0 a1 x2_175 x4_175 x5_175 x7_175) n175 (x3_175, x8_175)) σ (F0 m 175 ls []) := by
    intro x2_175 x4_175 x5_175 x7_175
    intro n175
    induction n175 with
    | zero => intro x3_175 x8_175 ls hl; exact J.nil_
    | succ n175 ih175 =>
      intro x3_175 x8_175 ls hl
      refine J.eq (jloop_s _ _ _) ?_
      dsimp only [f_J16_parseInt_2_h175]
      refine J.pu (fun _ _ _ _ k => lv_iload_n X.1.1 X.1.2.1 dJ16_parseInt_2_175 rfl (lv_at hl 6 rfl) k) ?_
      refine J.pu (fun _ _ _ _ k => lv_iload X.1.1 X.1.2.1 dJ16_parseInt_2_176 (lv_at hl 3 rfl) k) ?_
      refine J.br (fun _ _ _ _ ka kb => lv_icmp_ge (tgt := 245) X.1.1 X.1.2.1 dJ16_parseInt_2_178 (by decide) ka kb) (fun c178 => ?_) (fun c178 => ?_)
      · refine J.pu (fun _ _ _ _ k => lv_iload_n X.1.1 X.1.2.1 dJ16_parseInt_2_245 rfl (lv_at hl 2 rfl) k) ?_
        refine J.br (fun _ _ _ _ ka kb => lv_if_eq (tgt := 254) X.1.1 X.1.2.1 dJ16_parseInt_2_246 (by decide) ka kb) (fun c246 => ?_) (fun c246 => ?_)
        · refine J.pu (fun _ _ _ _ k => lv_iload X.1.1 X.1.2.1 dJ16_parseInt_2_254 (lv_at hl 7 rfl) k) ?_
          refine J.pu (fun _ _ _ _ k => lv_ineg X.1.1 X.1.2.1 dJ16_parseInt_2_256 k) ?_
          exact J.iret (vr := jrI) (fin := fun _ : Int32 => σ) (t := t) X hr (by rfl) (by rfl) dJ16_parseInt_2_257
        · refine J.pu (fun _ _ _ _ k => lv_iload X.1.1 X.1.2.1 dJ16_parseInt_2_249 (lv_at hl 7 rfl) k) ?_
          refine J.pu (fun _ _ _ _ k => lv_goto (tgt := 257) X.1.1 X.1.2.1 dJ16_parseInt_2_251 (by decide) k) ?_
          exact J.iret (vr := jrI) (fin := fun _ : Int32 => σ) (t := t) X hr (by rfl) (by rfl) dJ16_parseInt_2_257
      · refine J.pu (fun _ _ _ _ k => W.rload_n X.1.1 X.1.2.1 dJ16_parseInt_2_181 rfl (lv_at hl 0 rfl) k) ?_
        refine J.pu (fun _ _ _ _ k => lv_iload_n X.1.1 X.1.2.1 dJ16_parseInt_2_182 rfl (lv_at hl 6 rfl) k) ?_
        refine J.iinc (k := 6) (lv' := [(3, .int (x3_175 + 1)), (0, va_rf a0), (1, .int a1), (2, .int x2_175), (4, .int x4_175), (5, .int x5_175), (7, .int x7_175), (8, .int x8_175)]) (w := (x3_175 + 1)) X.1.1 X.1.2.1 dJ16_parseInt_2_183 hl rfl rfl (by decide) (by first | rfl | simp [va_rf_cat, jcI, jcA, jcJ, jcD, jcF]) (fun ls hl => ?_)
        refine J.bind (fun o186 g186 => ?_)
        refine J.bind (fun v186 h186 => ?_)
        refine J.cV (q := (RJ9, TJ9, 4)) (ci := 21) (As := [.int x3_175]) (rest := []) (s2 := [.int v186]) X ⟨rfl, rfl⟩ (ct_f_J9_charAt l G n σ o186 x3_175) (jrd_of h186) (fun _ _ => cwV 1 X.1.2.2.2.2 (lw_V q1468 q1469 q1470 q149 q1471) rfl rfl rfl (by decide +kernel) ⟨(Nat.le_of_ble_eq_true rfl), (Nat.le_of_ble_eq_true rfl)⟩) g186 rfl rfl hl.1 rfl rfl (Nat.le_of_ble_eq_true rfl) dJ16_parseInt_2_186 ?_
        refine J.pu (fun _ _ _ _ k => lv_iload_n X.1.1 X.1.2.1 dJ16_parseInt_2_189 rfl (lv_at hl 2 rfl) k) ?_
        refine J.bind (fun v190 h190 => ?_)
        refine J.cS (As := [.int v186, .int a1]) (rest := []) (s2 := [.int v190]) X ⟨rfl, rfl⟩ (ct_f_J29_digit l G n σ v186 a1) (jrd_of h190) (fun _ _ => va_cwS 2 X.1.2.2.2.2 (lw_S q1498 q1499 q178 q1500) rfl rfl rfl (by decide +kernel) ⟨(Nat.le_of_ble_eq_true rfl), (Nat.le_of_ble_eq_true rfl)⟩) rfl hl.1 rfl rfl (Nat.le_of_ble_eq_true rfl) dJ16_parseInt_2_190 ?_
        refine J.istore (lv' := [(9, .int v190), (3, .int (x3_175 + 1)), (0, va_rf a0), (1, .int a1), (2, .int x2_175), (4, .int x4_175), (5, .int x5_175), (7, .int x7_175), (8, .int x8_175)]) X.1.1 X.1.2.1 dJ16_parseInt_2_193 hl (by decide) (by first | rfl | simp [va_rf_cat, jcI, jcA, jcJ, jcD, jcF]) (fun ls hl => ?_)
        refine J.pu (fun _ _ _ _ k => lv_iload X.1.1 X.1.2.1 dJ16_parseInt_2_195 (lv_at hl 0 rfl) k) ?_
        refine J.br (fun _ _ _ _ ka kb => lv_if_lt (tgt := 207) X.1.1 X.1.2.1 dJ16_parseInt_2_197 (by decide) ka kb) (fun c197 => ?_) (fun c197 => ?_)
        · refine J.pu (fun _ _ _ _ k => W.rload_n X.1.1 X.1.2.1 dJ16_parseInt_2_207 rfl (lv_at hl 2 rfl) k) ?_
          refine J.pu (fun _ _ _ _ k => lv_iload_n X.1.1 X.1.2.1 dJ16_parseInt_2_208 rfl (lv_at hl 3 rfl) k) ?_
          exact J.nil_
        · refine J.pu (fun _ _ _ _ k => lv_iload X.1.1 X.1.2.1 dJ16_parseInt_2_200 (lv_at hl 8 rfl) k) ?_
          refine J.pu (fun _ _ _ _ k => lv_iload X.1.1 X.1.2.1 dJ16_parseInt_2_202 (lv_at hl 7 rfl) k) ?_
          refine J.br (fun _ _ _ _ ka kb => lv_icmp_ge (tgt := 213) X.1.1 X.1.2.1 dJ16_parseInt_2_204 (by decide) ka kb) (fun c204 => ?_) (fun c204 => ?_)
          · refine J.pu (fun _ _ _ _ k => lv_iload X.1.1 X.1.2.1 dJ16_parseInt_2_213 (lv_at hl 8 rfl) k) ?_
            refine J.pu (fun _ _ _ _ k => lv_iload_n X.1.1 X.1.2.1 dJ16_parseInt_2_215 rfl (lv_at hl 3 rfl) k) ?_
            refine J.pu (fun _ _ _ _ k => lv_imul X.1.1 X.1.2.1 dJ16_parseInt_2_216 k) ?_
            refine J.istore (lv' := [(8, .int (x8_175 * a1)), (9, .int v190), (3, .int (x3_175 + 1)), (0, va_rf a0), (1, .int a1), (2, .int x2_175), (4, .int x4_175), (5, .int x5_175), (7, .int x7_175)]) X.1.1 X.1.2.1 dJ16_parseInt_2_217 hl (by decide) (by first | rfl | simp [va_rf_cat, jcI, jcA, jcJ, jcD, jcF]) (fun ls hl => ?_)
            refine J.pu (fun _ _ _ _ k => lv_iload X.1.1 X.1.2.1 dJ16_parseInt_2_219 (lv_at hl 0 rfl) k) ?_
            refine J.pu (fun _ _ _ _ k => lv_iload X.1.1 X.1.2.1 dJ16_parseInt_2_221 (lv_at hl 7 rfl) k) ?_
            refine J.pu (fun _ _ _ _ k => lv_iload X.1.1 X.1.2.1 dJ16_parseInt_2_223 (lv_at hl 1 rfl) k) ?_
            refine J.pu (fun _ _ _ _ k => lv_iadd X.1.1 X.1.2.1 dJ16_parseInt_2_225 k) ?_
            refine J.br (fun _ _ _ _ ka kb => lv_icmp_ge (tgt := 235) X.1.1 X.1.2.1 dJ16_parseInt_2_226 (by decide) ka kb) (fun c226 => ?_) (fun c226 => ?_)
            · refine J.pu (fun _ _ _ _ k => lv_iload X.1.1 X.1.2.1 dJ16_parseInt_2_235 (lv_at hl 0 rfl) k) ?_
              refine J.pu (fun _ _ _ _ k => lv_iload X.1.1 X.1.2.1 dJ16_parseInt_2_237 (lv_at hl 1 rfl) k) ?_
              refine J.pu (fun _ _ _ _ k => lv_isub X.1.1 X.1.2.1 dJ16_parseInt_2_239 k) ?_
              refine J.istore (lv' := [(8, .int ((x8_175 * a1) - v190)), (9, .int v190), (3, .int (x3_175 + 1)), (0, va_rf a0), (1, .int a1), (2, .int x2_175), (4, .int x4_175), (5, .int x5_175), (7, .int x7_175)]) X.1.1 X.1.2.1 dJ16_parseInt_2_240 hl (by decide) (by first | rfl | simp [va_rf_cat, jcI, jcA, jcJ, jcD, jcF]) (fun ls hl => ?_)
              refine J.pu (fun _ _ _ _ k => lv_goto (tgt := 175) X.1.1 X.1.2.1 dJ16_parseInt_2_242 (by decide) k) ?_
              exact ih175 (x3_175 + 1) ((x8_175 * a1) - v190) ls (lv_sub hl [3, 4, 5, 6, 7, 8, 2, 0] rfl)
            · refine J.pu (fun _ _ _ _ k => W.rload_n X.1.1 X.1.2.1 dJ16_parseInt_2_229 rfl (lv_at hl 3 rfl) k) ?_
              refine J.pu (fun _ _ _ _ k => lv_iload_n X.1.1 X.1.2.1 dJ16_parseInt_2_230 rfl (lv_at hl 4 rfl) k) ?_
              exact J.nil_
          · refine J.pu (fun _ _ _ _ k => W.rload_n X.1.1 X.1.2.1 dJ16_parseInt_2_207 rfl (lv_at hl 2 rfl) k) ?_
            refine J.pu (fun _ _ _ _ k => lv_iload_n X.1.1 X.1.2.1 dJ16_parseInt_2_208 rfl (lv_at hl 3 rfl) k) ?_
            exact J.nil_
  have j166 : ∀ (x2_166 : Int32) (x3_166 : Int32) (x4_166 : Int32) (x5_166 : Int32) (ls : Array Slot), lv_has ls 10 [(0, va_rf a0), (1, .int a1), (2, .int x2_166), (3, .int x3_166), (4, .int x4_166), (5, .int x5_166)] → jGo l G 4 85 σ (fun _ : Int32 => σ) jrI t p e s m args below meth c (f_J16_parseInt_2_j166 G n σ a0 a1 x2_166 x3_166 x4_166 x5_166) σ (F0 m 166 ls []) := by
    intro x2_166 x3_166 x4_166 x5_166 ls hl
    unfold f_J16_parseInt_2_j166
    refine J.pu (fun _ _ _ _ k => lv_iload X.1.1 X.1.2.1 dJ16_parseInt_2_166 (lv_at hl 5 rfl) k) ?_
    refine J.pu (fun _ _ _ _ k => lv_iload_n X.1.1 X.1.2.1 dJ16_parseInt_2_168 rfl (lv_at hl 1 rfl) k) ?_
    refine J.nz (fun z169 => ?_)
    refine J.pu (fun _ _ _ _ k => lv_idiv X.1.1 X.1.2.1 dJ16_parseInt_2_169 z169 k) ?_
    refine J.istore (lv' := [(7, .int (x5_166 / a1)), (0, va_rf a0), (1, .int a1), (2, .int x2_166), (3, .int x3_166), (4, .int x4_166), (5, .int x5_166)]) X.1.1 X.1.2.1 dJ16_parseInt_2_170 hl (by decide) (by first | rfl | simp [va_rf_cat, jcI, jcA, jcJ, jcD, jcF]) (fun ls hl => ?_)
    refine J.pu (fun _ _ _ _ k => lv_iconst (v := 0) X.1.1 X.1.2.1 dJ16_parseInt_2_172 (by decide) k) ?_
    refine J.istore (lv' := [(8, .int 0), (7, .int (x5_166 / a1)), (0, va_rf a0), (1, .int a1), (2, .int x2_166), (3, .int x3_166), (4, .int x4_166), (5, .int x5_166)]) X.1.1 X.1.2.1 dJ16_parseInt_2_173 hl (by decide) (by first | rfl | simp [va_rf_cat, jcI, jcA, jcJ, jcD, jcF]) (fun ls hl => ?_)
    exact L175 x2_166 x4_166 x5_166 (x5_166 / a1) n x3_166 0 ls (lv_sub hl [2, 3, 4, 6, 7, 1, 5, 0] rfl)
  have j151 : ∀ (x2_151 : Int32) (x3_151 : Int32) (x4_151 : Int32) (x5_151 : Int32) (ls : Array Slot), lv_has ls 10 [(0, va_rf a0), (1, .int a1), (2, .int x2_151), (3, .int x3_151), (4, .int x4_151), (5, .int x5_151)] → jGo l G 4 85 σ (fun _ : Int32 => σ) jrI t p e s m args below meth c (f_J16_parseInt_2_j151 G n σ a0 a1 x2_151 x3_151 x4_151 x5_151) σ (F0 m 151 ls []) := by
    intro x2_151 x3_151 x4_151 x5_151 ls hl
    unfold f_J16_parseInt_2_j151
    refine J.pu (fun _ _ _ _ k => lv_iload X.1.1 X.1.2.1 dJ16_parseInt_2_151 (lv_at hl 4 rfl) k) ?_
    refine J.pu (fun _ _ _ _ k => lv_iconst (v := 1) X.1.1 X.1.2.1 dJ16_parseInt_2_153 (by decide) k) ?_
    refine J.br (fun _ _ _ _ ka kb => lv_icmp_ne (tgt := 163) X.1.1 X.1.2.1 dJ16_parseInt_2_154 (by decide) kb ka) (fun c154 => ?_) (fun c154 => ?_)
    · refine J.pu (fun _ _ _ _ k => W.rload_n X.1.1 X.1.2.1 dJ16_parseInt_2_157 rfl (lv_at hl 0 rfl) k) ?_
      refine J.pu (fun _ _ _ _ k => lv_iload_n X.1.1 X.1.2.1 dJ16_parseInt_2_158 rfl (lv_at hl 1 rfl) k) ?_
      exact J.nil_
    · refine J.iinc (k := 3) (lv' := [(3, .int (x3_151 + 1)), (0, va_rf a0), (1, .int a1), (2, .int x2_151), (4, .int x4_151), (5, .int x5_151)]) (w := (x3_151 + 1)) X.1.1 X.1.2.1 dJ16_parseInt_2_163 hl rfl rfl (by decide) (by first | rfl | simp [va_rf_cat, jcI, jcA, jcJ, jcD, jcF]) (fun ls hl => ?_)
      exact j166 x2_151 (x3_151 + 1) x4_151 x5_151 ls (lv_sub hl [1, 2, 3, 0, 4, 5] rfl)
  unfold f_J16_parseInt_2
  refine J.pu (fun _ _ _ _ k => W.rload_n X.1.1 X.1.2.1 dJ16_parseInt_2_0 rfl (lv_at hl 0 rfl) k) ?_
  refine J.br (fun _ _ _ _ ka kb => W.rnonnull (tgt := 14) X.1.1 X.1.2.1 dJ16_parseInt_2_1 (by decide) kb ka) (fun c1 => ?_) (fun c1 => ?_)
  · exact J.nil_
  · refine J.pu (fun _ _ _ _ k => lv_iload_n X.1.1 X.1.2.1 dJ16_parseInt_2_14 rfl (lv_at hl 1 rfl) k) ?_
    refine J.pu (fun _ _ _ _ k => lv_iconst (v := 2) X.1.1 X.1.2.1 dJ16_parseInt_2_15 (by decide) k) ?_
    refine J.br (fun _ _ _ _ ka kb => lv_icmp_ge (tgt := 51) X.1.1 X.1.2.1 dJ16_parseInt_2_16 (by decide) ka kb) (fun c16 => ?_) (fun c16 => ?_)
    · refine J.pu (fun _ _ _ _ k => lv_iload_n X.1.1 X.1.2.1 dJ16_parseInt_2_51 rfl (lv_at hl 1 rfl) k) ?_
      refine J.pu (fun _ _ _ _ k => lv_bipush (v := 36) X.1.1 X.1.2.1 dJ16_parseInt_2_52 (by decide) k) ?_
      refine J.br (fun _ _ _ _ ka kb => lv_icmp_le (tgt := 89) X.1.1 X.1.2.1 dJ16_parseInt_2_54 (by decide) ka kb) (fun c54 => ?_) (fun c54 => ?_)
      · refine J.pu (fun _ _ _ _ k => lv_iconst (v := 0) X.1.1 X.1.2.1 dJ16_parseInt_2_89 (by decide) k) ?_
        refine J.istore_n (i := 2) (lv' := [(2, .int 0), (0, va_rf a0), (1, .int a1)]) X.1.1 X.1.2.1 dJ16_parseInt_2_90 rfl hl (by decide) (by first | rfl | simp [va_rf_cat, jcI, jcA, jcJ, jcD, jcF]) (fun ls hl => ?_)
        refine J.pu (fun _ _ _ _ k => lv_iconst (v := 0) X.1.1 X.1.2.1 dJ16_parseInt_2_91 (by decide) k) ?_
        refine J.istore_n (i := 3) (lv' := [(3, .int 0), (2, .int 0), (0, va_rf a0), (1, .int a1)]) X.1.1 X.1.2.1 dJ16_parseInt_2_92 rfl hl (by decide) (by first | rfl | simp [va_rf_cat, jcI, jcA, jcJ, jcD, jcF]) (fun ls hl => ?_)
        refine J.pu (fun _ _ _ _ k => W.rload_n X.1.1 X.1.2.1 dJ16_parseInt_2_93 rfl (lv_at hl 2 rfl) k) ?_
        refine J.bind (fun o94 g94 => ?_)
        refine J.bind (fun v94 h94 => ?_)
        refine J.cV (q := (RJ9, TJ9, 4)) (ci := 21) (As := []) (rest := []) (s2 := [.int v94]) X ⟨rfl, rfl⟩ (ct_f_J9_length l G n σ o94) (jrd_of h94) (fun _ _ => cwV 0 X.1.2.2.2.2 (lw_V q1466 q384 q385 q149 q386) rfl rfl rfl (by decide +kernel) ⟨(Nat.le_of_ble_eq_true rfl), (Nat.le_of_ble_eq_true rfl)⟩) g94 rfl rfl hl.1 rfl rfl (Nat.le_of_ble_eq_true rfl) dJ16_parseInt_2_94 ?_
        refine J.istore (lv' := [(4, .int v94), (3, .int 0), (2, .int 0), (0, va_rf a0), (1, .int a1)]) X.1.1 X.1.2.1 dJ16_parseInt_2_97 hl (by decide) (by first | rfl | simp [va_rf_cat, jcI, jcA, jcJ, jcD, jcF]) (fun ls hl => ?_)
        refine J.pu (fun _ _ _ _ k => lv_ldc (v := (-2147483647)) X.1.1 X.1.2.1 X.1.2.2.2.1 (X.1.2.2.2.2 _ q1467) dJ16_parseInt_2_99 k) ?_
        refine J.istore (lv' := [(5, .int (-2147483647)), (4, .int v94), (3, .int 0), (2, .int 0), (0, va_rf a0), (1, .int a1)]) X.1.1 X.1.2.1 dJ16_parseInt_2_101 hl (by decide) (by first | rfl | simp [va_rf_cat, jcI, jcA, jcJ, jcD, jcF]) (fun ls hl => ?_)
        refine J.pu (fun _ _ _ _ k => lv_iload X.1.1 X.1.2.1 dJ16_parseInt_2_103 (lv_at hl 1 rfl) k) ?_
        refine J.br (fun _ _ _ _ ka kb => lv_if_le (tgt := 258) X.1.1 X.1.2.1 dJ16_parseInt_2_105 (by decide) ka kb) (fun c105 => ?_) (fun c105 => ?_)
        · refine J.pu (fun _ _ _ _ k => W.rload_n X.1.1 X.1.2.1 dJ16_parseInt_2_258 rfl (lv_at hl 4 rfl) k) ?_
          refine J.pu (fun _ _ _ _ k => lv_iload_n X.1.1 X.1.2.1 dJ16_parseInt_2_259 rfl (lv_at hl 5 rfl) k) ?_
          exact J.nil_
        · refine J.pu (fun _ _ _ _ k => W.rload_n X.1.1 X.1.2.1 dJ16_parseInt_2_108 rfl (lv_at hl 4 rfl) k) ?_
          refine J.pu (fun _ _ _ _ k => lv_iconst (v := 0) X.1.1 X.1.2.1 dJ16_parseInt_2_109 (by decide) k) ?_
          refine J.bind (fun o110 g110 => ?_)
          refine J.bind (fun v110 h110 => ?_)
          refine J.cV (q := (RJ9, TJ9, 4)) (ci := 21) (As := [.int 0]) (rest := []) (s2 := [.int v110]) X ⟨rfl, rfl⟩ (ct_f_J9_charAt l G n σ o110 0) (jrd_of h110) (fun _ _ => cwV 1 X.1.2.2.2.2 (lw_V q1468 q1469 q1470 q149 q1471) rfl rfl rfl (by decide +kernel) ⟨(Nat.le_of_ble_eq_true rfl), (Nat.le_of_ble_eq_true rfl)⟩) g110 rfl rfl hl.1 rfl rfl (Nat.le_of_ble_eq_true rfl) dJ16_parseInt_2_110 ?_
          refine J.istore (lv' := [(6, .int v110), (5, .int (-2147483647)), (4, .int v94), (3, .int 0), (2, .int 0), (0, va_rf a0), (1, .int a1)]) X.1.1 X.1.2.1 dJ16_parseInt_2_113 hl (by decide) (by first | rfl | simp [va_rf_cat, jcI, jcA, jcJ, jcD, jcF]) (fun ls hl => ?_)
          refine J.pu (fun _ _ _ _ k => lv_iload X.1.1 X.1.2.1 dJ16_parseInt_2_115 (lv_at hl 0 rfl) k) ?_
          refine J.pu (fun _ _ _ _ k => lv_bipush (v := 48) X.1.1 X.1.2.1 dJ16_parseInt_2_117 (by decide) k) ?_
          refine J.br (fun _ _ _ _ ka kb => lv_icmp_ge (tgt := 166) X.1.1 X.1.2.1 dJ16_parseInt_2_119 (by decide) ka kb) (fun c119 => ?_) (fun c119 => ?_)
          · exact j166 0 0 v94 (-2147483647) ls (lv_sub hl [5, 6, 4, 3, 2, 1] rfl)
          · refine J.pu (fun _ _ _ _ k => lv_iload X.1.1 X.1.2.1 dJ16_parseInt_2_122 (lv_at hl 0 rfl) k) ?_
            refine J.pu (fun _ _ _ _ k => lv_bipush (v := 45) X.1.1 X.1.2.1 dJ16_parseInt_2_124 (by decide) k) ?_
            refine J.br (fun _ _ _ _ ka kb => lv_icmp_ne (tgt := 138) X.1.1 X.1.2.1 dJ16_parseInt_2_126 (by decide) kb ka) (fun c126 => ?_) (fun c126 => ?_)
            · refine J.pu (fun _ _ _ _ k => lv_iconst (v := 1) X.1.1 X.1.2.1 dJ16_parseInt_2_129 (by decide) k) ?_
              refine J.istore_n (i := 2) (lv' := [(2, .int 1), (6, .int v110), (5, .int (-2147483647)), (4, .int v94), (3, .int 0), (0, va_rf a0), (1, .int a1)]) X.1.1 X.1.2.1 dJ16_parseInt_2_130 rfl hl (by decide) (by first | rfl | simp [va_rf_cat, jcI, jcA, jcJ, jcD, jcF]) (fun ls hl => ?_)
              refine J.pu (fun _ _ _ _ k => lv_ldc (v := (-2147483648)) X.1.1 X.1.2.1 X.1.2.2.2.1 (X.1.2.2.2.2 _ q1483) dJ16_parseInt_2_131 k) ?_
              refine J.istore (lv' := [(5, .int (-2147483648)), (2, .int 1), (6, .int v110), (4, .int v94), (3, .int 0), (0, va_rf a0), (1, .int a1)]) X.1.1 X.1.2.1 dJ16_parseInt_2_133 hl (by decide) (by first | rfl | simp [va_rf_cat, jcI, jcA, jcJ, jcD, jcF]) (fun ls hl => ?_)
              refine J.pu (fun _ _ _ _ k => lv_goto (tgt := 151) X.1.1 X.1.2.1 dJ16_parseInt_2_135 (by decide) k) ?_
              exact j151 1 0 v94 (-2147483648) ls (lv_sub hl [5, 6, 1, 4, 3, 0] rfl)
            · refine J.pu (fun _ _ _ _ k => lv_iload X.1.1 X.1.2.1 dJ16_parseInt_2_138 (lv_at hl 0 rfl) k) ?_
              refine J.pu (fun _ _ _ _ k => lv_bipush (v := 43) X.1.1 X.1.2.1 dJ16_parseInt_2_140 (by decide) k) ?_
              refine J.br (fun _ _ _ _ ka kb => lv_icmp_eq (tgt := 151) X.1.1 X.1.2.1 dJ16_parseInt_2_142 (by decide) ka kb) (fun c142 => ?_) (fun c142 => ?_)
              · exact j151 0 0 v94 (-2147483647) ls (lv_sub hl [5, 6, 4, 3, 2, 1] rfl)
              · refine J.pu (fun _ _ _ _ k => W.rload_n X.1.1 X.1.2.1 dJ16_parseInt_2_145 rfl (lv_at hl 5 rfl) k) ?_
                refine J.pu (fun _ _ _ _ k => lv_iload_n X.1.1 X.1.2.1 dJ16_parseInt_2_146 rfl (lv_at hl 6 rfl) k) ?_
                exact J.nil_
      · exact J.nil_
    · exact J.nil_
noncomputable def f_J18_iterator_J19_b (G : jG) (n : Nat) (σ : jH) (this : Nat) : Option ((Option Nat) × jH) :=
  (rc σ (some this) 16).bind fun o1 => bd (f_J1_listIterator_J19 G n σ o1) fun v1 S1 => some (v1, S1)
noncomputable def f_J18_iterator_J19 (G : jG) (n : Nat) (σ : jH) (this : Nat) : Option ((Option Nat) × jH) := jck σ (f_J18_iterator_J19_b G n σ this)
set_option maxHeartbeats 4000000 in
set_option maxRecDepth 100000 in
theorem ct_f_J18_iterator_J19 (l : Launch) (G : jG) (n : Nat) (σ : jH) (this : Nat) : jCt l G yJ18_iterator (ws_ yJ18_iterator cJ18_iterator 1 (some (.object "java/util/Iterator"))) 4 93 jrR [.ref this] σ (f_J18_iterator_J19 G n σ this) := by
  refine jCt.wr (lv := [(0, .ref this)]) (plainFor_of_name (by decide)) (Nat.le_of_ble_eq_true rfl) rfl ?_
  intro t p e s m args below meth c ls X hr hnm hl
  have X : jCx p c cJ18_iterator 1 s m args RJ18 G meth := X
  unfold f_J18_iterator_J19_b
  refine J.pu (fun _ _ _ _ k => lv_aload_n X.1.1 X.1.2.1 dJ18_iterator_0 rfl (lv_at hl 0 rfl) k) ?_
  refine J.bind (fun o1 g1 => ?_)
  refine J.bd' (fun v1 S1 h1 => ?_)
  refine J.cU (q := (RJ19, TJ19, 4)) (ci := 16) (As := []) (rest := []) (s2 := [va_rf v1]) X ⟨rfl, rfl⟩ (ct_f_J1_listIterator_J19 l G n σ o1) h1 (fun _ _ => va_cwU 0 X.1.2.2.2.2 (lw_U q1098 q1099 q1101 q1102 q141 q1103) rfl rfl rfl rfl (by decide +kernel) ⟨(Nat.le_of_ble_eq_true rfl), (Nat.le_of_ble_eq_true rfl)⟩) g1 rfl rfl hl.1 rfl rfl (Nat.le_of_ble_eq_true rfl) dJ18_iterator_1 ?_
  exact J.aret (vr := fun t : (Option Nat) × jH => jrR t.1) (fin := Prod.snd) (t := t) X hr (Or.inl ⟨_, rfl⟩) (by rfl) (by rfl) dJ18_iterator_4
noncomputable def f_J2_add_2_j11 (G : jG) (n : Nat) (this : Nat) (a1 : Option Nat) (a2 : Option Nat) (a3 : Int32) (x2_11 : Option Nat) (B11 : jH) : Option (Unit × jH) :=
  (sR G B11 x2_11 a3 a1).bind fun S14 => (pI G S14 (some this) 15 2 (a3 + 1)).bind fun S19 => some ((), S19)
noncomputable def f_J2_add_2_b (G : jG) (n : Nat) (σ : jH) (this : Nat) (a1 : Option Nat) (a2 : Option Nat) (a3 : Int32) : Option (Unit × jH) :=
  (aLen' σ a2).bind fun v2 => if a3 = v2 then ((rc σ (some this) 15).bind fun o7 => bd (f_J2_grow G n σ o7) fun v7 S7 => f_J2_add_2_j11 G n this a1 a2 a3 v7 S7) else (f_J2_add_2_j11 G n this a1 a2 a3 a2 σ)
noncomputable def f_J2_add_2 (G : jG) (n : Nat) (σ : jH) (this : Nat) (a1 : Option Nat) (a2 : Option Nat) (a3 : Int32) : Option (Unit × jH) := jck σ (f_J2_add_2_b G n σ this a1 a2 a3)
set_option maxHeartbeats 4000000 in
set_option maxRecDepth 100000 in
theorem ct_f_J2_add_2 (l : Launch) (G : jG) (n : Nat) (σ : jH) (this : Nat) (a1 : Option Nat) (a2 : Option Nat) (a3 : Int32) : jCt l G yJ2_add_2 (ws_ yJ2_add_2 cJ2_add_2 4 none) 5 487 jrV [.ref this, va_rf a1, va_rf a2, .int a3] σ (f_J2_add_2 G n σ this a1 a2 a3) := by
  refine jCt.wr (lv := [(0, .ref this), (1, va_rf a1), (2, va_rf a2), (3, .int a3)]) (plainFor_of_name (by decide)) (by simp [lg_sl, va_rf_cat, jcI, jcA, jcJ, jcD, jcF]) (by simp [lv_args, va_rf_cat, jcI, jcA, jcJ, jcD, jcF]) ?_
  intro t p e s m args below meth c ls X hr hnm hl
  have X : jCx p c cJ2_add_2 4 s m args RJ2 G meth := X
  have j11 : ∀ (x2_11 : Option Nat) (B11 : jH) (ls : Array Slot), lv_has ls 4 [(0, .ref this), (1, va_rf a1), (3, .int a3), (2, va_rf x2_11)] → jGo l G 5 487 σ (Prod.snd : Unit × jH → jH) (fun t => jrV t.1) t p e s m args below meth c (f_J2_add_2_j11 G n this a1 a2 a3 x2_11 B11) B11 (F0 m 11 ls []) := by
    intro x2_11 B11 ls hl
    unfold f_J2_add_2_j11
    refine J.pu (fun _ _ _ _ k => W.rload_n X.1.1 X.1.2.1 dJ2_add_2_11 rfl (lv_at hl 3 rfl) k) ?_
    refine J.pu (fun _ _ _ _ k => lv_iload_n X.1.1 X.1.2.1 dJ2_add_2_12 rfl (lv_at hl 2 rfl) k) ?_
    refine J.pu (fun _ _ _ _ k => W.rload_n X.1.1 X.1.2.1 dJ2_add_2_13 rfl (lv_at hl 1 rfl) k) ?_
    refine J.sR' X dJ2_add_2_14 (fun S14 h14 => ?_)
    refine J.pu (fun _ _ _ _ k => lv_aload_n X.1.1 X.1.2.1 dJ2_add_2_15 rfl (lv_at hl 0 rfl) k) ?_
    refine J.pu (fun _ _ _ _ k => lv_iload_n X.1.1 X.1.2.1 dJ2_add_2_16 rfl (lv_at hl 2 rfl) k) ?_
    refine J.pu (fun _ _ _ _ k => lv_iconst (v := 1) X.1.1 X.1.2.1 dJ2_add_2_17 (by decide) k) ?_
    refine J.pu (fun _ _ _ _ k => lv_iadd X.1.1 X.1.2.1 dJ2_add_2_18 k) ?_
    refine J.putI (k := 2) (ci := 15) X in_J2 (show jCl[15]? = some (RJ2, TJ2, 3) from rfl) tyJ2_ok (fun a ha b hb h => Or.inl (nmJ2 a ha b hb h)) (by decide) q549 (fun _ h => h) rfl rfl dJ2_add_2_19 (fun S19 h19 => ?_)
    exact J.vret (vr := fun t : Unit × jH => jrV t.1) (fin := Prod.snd) (t := t) X hr (by rfl) (by rfl) dJ2_add_2_22
  unfold f_J2_add_2_b
  refine J.pu (fun _ _ _ _ k => lv_iload_n X.1.1 X.1.2.1 dJ2_add_2_0 rfl (lv_at hl 3 rfl) k) ?_
  refine J.pu (fun _ _ _ _ k => W.rload_n X.1.1 X.1.2.1 dJ2_add_2_1 rfl (lv_at hl 2 rfl) k) ?_
  refine J.len X dJ2_add_2_2 (fun v2 h2 => ?_)
  refine J.br (fun _ _ _ _ ka kb => lv_icmp_ne (tgt := 11) X.1.1 X.1.2.1 dJ2_add_2_3 (by decide) kb ka) (fun c3 => ?_) (fun c3 => ?_)
  · refine J.pu (fun _ _ _ _ k => lv_aload_n X.1.1 X.1.2.1 dJ2_add_2_6 rfl (lv_at hl 0 rfl) k) ?_
    refine J.bind (fun o7 g7 => ?_)
    refine J.bd' (fun v7 S7 h7 => ?_)
    refine J.cV (q := (RJ2, TJ2, 3)) (ci := 15) (As := []) (rest := []) (s2 := [va_rf v7]) X ⟨rfl, rfl⟩ (ct_f_J2_grow l G n σ o7) h7 (fun _ _ => cwV 0 X.1.2.2.2.2 (lw_V q591 q593 qs2 q142 q594) rfl rfl rfl (by decide +kernel) ⟨(Nat.le_of_ble_eq_true rfl), (Nat.le_of_ble_eq_true rfl)⟩) g7 rfl rfl hl.1 rfl rfl (Nat.le_of_ble_eq_true rfl) dJ2_add_2_7 ?_
    refine J.astore_n (r := v7) (i := 2) (lv' := [(2, va_rf v7), (0, .ref this), (1, va_rf a1), (3, .int a3)]) X.1.1 X.1.2.1 dJ2_add_2_10 rfl hl (by decide) (by first | rfl | simp [va_rf_cat, jcI, jcA, jcJ, jcD, jcF]) (fun ls hl => ?_)
    exact j11 v7 S7 ls (lv_sub hl [1, 2, 3, 0] rfl)
  · exact j11 a2 σ ls (lv_sub hl [0, 1, 3, 2] rfl)
noncomputable def f_J9_init_b (G : jG) (n : Nat) (σ : jH) (this : Nat) (a1 : Option Nat) : Option (Unit × jH) :=
  bd (f_J9_init_2 G n σ this a1 none) fun v3 S3 => some ((), S3)
noncomputable def f_J9_init (G : jG) (n : Nat) (σ : jH) (this : Nat) (a1 : Option Nat) : Option (Unit × jH) := jck σ (f_J9_init_b G n σ this a1)
set_option maxHeartbeats 4000000 in
set_option maxRecDepth 100000 in
theorem ct_f_J9_init (l : Launch) (G : jG) (n : Nat) (σ : jH) (this : Nat) (a1 : Option Nat) : jCt l G yJ9_init (ws_ yJ9_init cJ9_init 2 none) 4 470 jrV [.ref this, va_rf a1] σ (f_J9_init G n σ this a1) := by
  refine jCt.wr (lv := [(0, .ref this), (1, va_rf a1)]) (plainFor_of_name (by decide)) (by simp [lg_sl, va_rf_cat, jcI, jcA, jcJ, jcD, jcF]) (by simp [lv_args, va_rf_cat, jcI, jcA, jcJ, jcD, jcF]) ?_
  intro t p e s m args below meth c ls X hr hnm hl
  have X : jCx p c cJ9_init 2 s m args RJ9 G meth := X
  unfold f_J9_init_b
  refine J.pu (fun _ _ _ _ k => lv_aload_n X.1.1 X.1.2.1 dJ9_init_0 rfl (lv_at hl 0 rfl) k) ?_
  refine J.pu (fun _ _ _ _ k => W.rload_n X.1.1 X.1.2.1 dJ9_init_1 rfl (lv_at hl 1 rfl) k) ?_
  refine J.pu (fun _ _ _ _ k => lv_null X.1.1 X.1.2.1 dJ9_init_2 k) ?_
  refine J.bd' (fun v3 S3 h3 => ?_)
  refine J.cI (a := this) (As := [va_rf a1, va_rf none]) (rest := []) (s2 := []) X ⟨rfl, rfl⟩ (ct_f_J9_init_2 l G n σ this a1 none) h3 (fun _ _ => jcwI 2 X.1.2.2.2.2 q460 q461 q149 q462 rfl rfl rfl (by decide +kernel) ⟨(Nat.le_of_ble_eq_true rfl), (Nat.le_of_ble_eq_true rfl)⟩) rfl hl.1 rfl rfl (Nat.le_of_ble_eq_true rfl) dJ9_init_3 ?_
  exact J.vret (vr := fun t : Unit × jH => jrV t.1) (fin := Prod.snd) (t := t) X hr (by rfl) (by rfl) dJ9_init_6
noncomputable def f_J16_parseInt (G : jG) (n : Nat) (σ : jH) (a0 : Option Nat) : Option (Int32) :=
  (f_J16_parseInt_2 G n σ a0 10).bind fun v3 => some v3
set_option maxHeartbeats 4000000 in
set_option maxRecDepth 100000 in
theorem ct_f_J16_parseInt (l : Launch) (G : jG) (n : Nat) (σ : jH) (a0 : Option Nat) : jCt l G yJ16_parseInt (ws_ yJ16_parseInt cJ16_parseInt 1 (some .int)) 5 114 jrI [va_rf a0] σ (jrd σ (f_J16_parseInt G n σ a0)) := by
  refine jCt.rd (lv := [(0, va_rf a0)]) (plainFor_of_name (by decide)) (by simp [lg_sl, va_rf_cat, jcI, jcA, jcJ, jcD, jcF]) (by simp [lv_args, va_rf_cat, jcI, jcA, jcJ, jcD, jcF]) ?_
  intro t p e s m args below meth c ls X hr hnm hl
  have X : jCx p c cJ16_parseInt 1 s m args RJ16 G meth := X
  unfold f_J16_parseInt
  refine J.pu (fun _ _ _ _ k => W.rload_n X.1.1 X.1.2.1 dJ16_parseInt_0 rfl (lv_at hl 0 rfl) k) ?_
  refine J.pu (fun _ _ _ _ k => lv_bipush (v := 10) X.1.1 X.1.2.1 dJ16_parseInt_1 (by decide) k) ?_
  refine J.bind (fun v3 h3 => ?_)
  refine J.cS (As := [va_rf a0, .int 10]) (rest := []) (s2 := [.int v3]) X ⟨rfl, rfl⟩ (ct_f_J16_parseInt_2 l G n σ a0 10) (jrd_of h3) (fun _ _ => va_cwS 2 X.1.2.2.2.2 (lw_S q1437 q1438 q158 q1439) rfl rfl rfl (by decide +kernel) ⟨(Nat.le_of_ble_eq_true rfl), (Nat.le_of_ble_eq_true rfl)⟩) rfl hl.1 rfl rfl (Nat.le_of_ble_eq_true rfl) dJ16_parseInt_3 ?_
  exact J.iret (vr := jrI) (fin := fun _ : Int32 => σ) (t := t) X hr (by rfl) (by rfl) dJ16_parseInt_6
noncomputable def f_J2_add_b (G : jG) (n : Nat) (σ : jH) (this : Nat) (a1 : Option Nat) : Option (Int32 × jH) :=
  (gI σ (some this) 15 0).bind fun v2 => (pI G σ (some this) 15 0 (v2 + 1)).bind fun S7 => (gR S7 (some this) 15 1).bind fun v13 => (gI S7 (some this) 15 2).bind fun v17 => (rc S7 (some this) 15).bind fun o20 => bd (f_J2_add_2 G n S7 o20 a1 v13 v17) fun v20 S20 => some (1, S20)
noncomputable def f_J2_add (G : jG) (n : Nat) (σ : jH) (this : Nat) (a1 : Option Nat) : Option (Int32 × jH) := jck σ (f_J2_add_b G n σ this a1)
set_option maxHeartbeats 4000000 in
set_option maxRecDepth 100000 in
theorem ct_f_J2_add (l : Launch) (G : jG) (n : Nat) (σ : jH) (this : Nat) (a1 : Option Nat) : jCt l G yJ2_add (ws_ yJ2_add cJ2_add 2 (some .boolean)) 6 510 jrI [.ref this, va_rf a1] σ (f_J2_add G n σ this a1) := by
  refine jCt.wr (lv := [(0, .ref this), (1, va_rf a1)]) (plainFor_of_name (by decide)) (by simp [lg_sl, va_rf_cat, jcI, jcA, jcJ, jcD, jcF]) (by simp [lv_args, va_rf_cat, jcI, jcA, jcJ, jcD, jcF]) ?_
  intro t p e s m args below meth c ls X hr hnm hl
  have X : jCx p c cJ2_add 2 s m args RJ2 G meth := X
  unfold f_J2_add_b
  refine J.pu (fun _ _ _ _ k => lv_aload_n X.1.1 X.1.2.1 dJ2_add_0 rfl (lv_at hl 0 rfl) k) ?_
  refine J.pu (fun _ _ _ _ k => lv_dup X.1.1 X.1.2.1 dJ2_add_1 rfl k) ?_
  refine J.getI (k := 0) (ci := 15) X in_J2 (show jCl[15]? = some (RJ2, TJ2, 3) from rfl) (by decide) q557 (fun x h => u_same (X.1.2.2.2.2 _ q554) x h) dJ2_add_2 (fun v2 h2 => ?_)
  refine J.pu (fun _ _ _ _ k => lv_iconst (v := 1) X.1.1 X.1.2.1 dJ2_add_5 (by decide) k) ?_
  refine J.pu (fun _ _ _ _ k => lv_iadd X.1.1 X.1.2.1 dJ2_add_6 k) ?_
  refine J.putI (k := 0) (ci := 15) X in_J2 (show jCl[15]? = some (RJ2, TJ2, 3) from rfl) tyJ2_ok (fun a ha b hb h => Or.inl (nmJ2 a ha b hb h)) (by decide) q557 (fun x h => u_same (X.1.2.2.2.2 _ q554) x h) rfl rfl dJ2_add_7 (fun S7 h7 => ?_)
  refine J.pu (fun _ _ _ _ k => lv_aload_n X.1.1 X.1.2.1 dJ2_add_10 rfl (lv_at hl 0 rfl) k) ?_
  refine J.pu (fun _ _ _ _ k => W.rload_n X.1.1 X.1.2.1 dJ2_add_11 rfl (lv_at hl 1 rfl) k) ?_
  refine J.pu (fun _ _ _ _ k => lv_aload_n X.1.1 X.1.2.1 dJ2_add_12 rfl (lv_at hl 0 rfl) k) ?_
  refine J.getR (k := 1) (ci := 15) X in_J2 (show jCl[15]? = some (RJ2, TJ2, 3) from rfl) (by decide) q546 (fun _ h => h) dJ2_add_13 (fun v13 h13 => ?_)
  refine J.pu (fun _ _ _ _ k => lv_aload_n X.1.1 X.1.2.1 dJ2_add_16 rfl (lv_at hl 0 rfl) k) ?_
  refine J.getI (k := 2) (ci := 15) X in_J2 (show jCl[15]? = some (RJ2, TJ2, 3) from rfl) (by decide) q549 (fun _ h => h) dJ2_add_17 (fun v17 h17 => ?_)
  refine J.bind (fun o20 g20 => ?_)
  refine J.bd' (fun v20 S20 h20 => ?_)
  refine J.cV (q := (RJ2, TJ2, 3)) (ci := 15) (As := [va_rf a1, va_rf v13, .int v17]) (rest := []) (s2 := []) X ⟨rfl, rfl⟩ (ct_f_J2_add_2 l G n S7 o20 a1 v13 v17) h20 (fun _ _ => cwV 3 X.1.2.2.2.2 (lw_V q587 q589 qs1 q142 q590) rfl rfl rfl (by decide +kernel) ⟨(Nat.le_of_ble_eq_true rfl), (Nat.le_of_ble_eq_true rfl)⟩) g20 rfl rfl hl.1 rfl rfl (Nat.le_of_ble_eq_true rfl) dJ2_add_20 ?_
  refine J.pu (fun _ _ _ _ k => lv_iconst (v := 1) X.1.1 X.1.2.1 dJ2_add_23 (by decide) k) ?_
  exact J.zret (vr := fun t : Int32 × jH => jrI t.1) (fin := Prod.snd) (t := t) X hr (by decide) (by rfl) (by rfl) dJ2_add_24
noncomputable def f_J8_toString_b (G : jG) (n : Nat) (σ : jH) (this : Nat) : Option ((Option Nat) × jH) :=
  bd (nO σ 21 [.null, .int 0, .int 0, .int 0] 4) fun v0 S0 => bd (f_J9_init G n S0 v0 (some this)) fun v5 S5 => some ((some v0), S5)
noncomputable def f_J8_toString (G : jG) (n : Nat) (σ : jH) (this : Nat) : Option ((Option Nat) × jH) := jck σ (f_J8_toString_b G n σ this)
set_option maxHeartbeats 4000000 in
set_option maxRecDepth 100000 in
theorem ct_f_J8_toString (l : Launch) (G : jG) (n : Nat) (σ : jH) (this : Nat) : jCt l G yJ8_toString (ws_ yJ8_toString cJ8_toString 1 (some (.object "java/lang/String"))) 5 491 jrR [.ref this] σ (f_J8_toString G n σ this) := by
  refine jCt.wr (lv := [(0, .ref this)]) (plainFor_of_name (by decide)) (Nat.le_of_ble_eq_true rfl) rfl ?_
  intro t p e s m args below meth c ls X hr hnm hl
  have X : jCx p c cJ8_toString 1 s m args RJ8 G meth := X
  unfold f_J8_toString_b
  refine J.nO' (fs := [.null, .int 0, .int 0, .int 0]) X ⟨rfl, rfl⟩ in_J9 (show jCl[21]? = some (RJ9, TJ9, 4) from rfl) tyJ9 tyJ9_ok q455 q456 q149 rfl dJ8_toString_0 (fun v0 S0 h0 => ?_)
  refine J.pu (fun _ _ _ _ k => lv_dup X.1.1 X.1.2.1 dJ8_toString_3 rfl k) ?_
  refine J.pu (fun _ _ _ _ k => lv_aload_n X.1.1 X.1.2.1 dJ8_toString_4 rfl (lv_at hl 0 rfl) k) ?_
  refine J.bd' (fun v5 S5 h5 => ?_)
  refine J.cI (a := v0) (As := [.ref this]) (rest := [.ref v0]) (s2 := [.ref v0]) X ⟨rfl, rfl⟩ (ct_f_J9_init l G n S0 v0 (some this)) h5 (fun _ _ => jcwI 1 X.1.2.2.2.2 q457 q458 q149 q459 rfl rfl rfl (by decide +kernel) ⟨(Nat.le_of_ble_eq_true rfl), (Nat.le_of_ble_eq_true rfl)⟩) rfl hl.1 rfl rfl (Nat.le_of_ble_eq_true rfl) dJ8_toString_5 ?_
  exact J.aret (vr := fun t : (Option Nat) × jH => jrR t.1) (fin := Prod.snd) (t := t) X hr (Or.inl ⟨_, rfl⟩) (by rfl) (by rfl) dJ8_toString_8
