/-! Math: printed by wip gen/model.py -/
set_option maxRecDepth 100000
noncomputable def J12_max (n : Nat) (a0 : Int32) (a1 : Int32) : Option (Int32) :=
  if a0 < a1 then (some a1) else (some a0)
set_option maxHeartbeats 4000000 in
set_option maxRecDepth 100000 in
theorem ct_J12_max (l : Launch) (G : jG) (σ : jH) (n : Nat) (a0 : Int32) (a1 : Int32) : jCt l G yJ12_max (ws_ yJ12_max cJ12_max 2 (some .int)) 0 0 jrI [.int a0, .int a1] σ (jrd σ (J12_max n a0 a1)) := by
  refine jCt.rd (lv := [(0, .int a0), (1, .int a1)]) (by decide +kernel) (Nat.le_of_ble_eq_true rfl) rfl ?_
  intro t p e s m args below meth c ls X hr hnm hl
  have X : jCx p c cJ12_max 2 s m args RJ12 G meth := X
  unfold J12_max
  refine J.pu (fun _ _ _ _ k => lv_iload_n X.1.1 X.1.2.1 dJ12_max_0 rfl (lv_at hl 0 rfl) k) ?_
  refine J.pu (fun _ _ _ _ k => lv_iload_n X.1.1 X.1.2.1 dJ12_max_1 rfl (lv_at hl 1 rfl) k) ?_
  refine J.br (fun _ _ _ _ ka kb => lv_icmp_lt (tgt := 9) X.1.1 X.1.2.1 dJ12_max_2 (by decide) ka kb) (fun c2 => ?_) (fun c2 => ?_)
  · refine J.pu (fun _ _ _ _ k => lv_iload_n X.1.1 X.1.2.1 dJ12_max_9 rfl (lv_at hl 1 rfl) k) ?_
    exact J.iret (vr := jrI) (fin := fun _ : Int32 => σ) (t := t) X hr (by rfl) (by rfl) dJ12_max_10
  · refine J.pu (fun _ _ _ _ k => lv_iload_n X.1.1 X.1.2.1 dJ12_max_5 rfl (lv_at hl 0 rfl) k) ?_
    refine J.pu (fun _ _ _ _ k => lv_goto (tgt := 10) X.1.1 X.1.2.1 dJ12_max_6 (by decide) k) ?_
    exact J.iret (vr := jrI) (fin := fun _ : Int32 => σ) (t := t) X hr (by rfl) (by rfl) dJ12_max_10
noncomputable def J12_min (n : Nat) (a0 : Int32) (a1 : Int32) : Option (Int32) :=
  if a1 < a0 then (some a1) else (some a0)
set_option maxHeartbeats 4000000 in
set_option maxRecDepth 100000 in
theorem ct_J12_min (l : Launch) (G : jG) (σ : jH) (n : Nat) (a0 : Int32) (a1 : Int32) : jCt l G yJ12_min (ws_ yJ12_min cJ12_min 2 (some .int)) 0 0 jrI [.int a0, .int a1] σ (jrd σ (J12_min n a0 a1)) := by
  refine jCt.rd (lv := [(0, .int a0), (1, .int a1)]) (by decide +kernel) (Nat.le_of_ble_eq_true rfl) rfl ?_
  intro t p e s m args below meth c ls X hr hnm hl
  have X : jCx p c cJ12_min 2 s m args RJ12 G meth := X
  unfold J12_min
  refine J.pu (fun _ _ _ _ k => lv_iload_n X.1.1 X.1.2.1 dJ12_min_0 rfl (lv_at hl 0 rfl) k) ?_
  refine J.pu (fun _ _ _ _ k => lv_iload_n X.1.1 X.1.2.1 dJ12_min_1 rfl (lv_at hl 1 rfl) k) ?_
  refine J.br (fun _ _ _ _ ka kb => lv_icmp_gt (tgt := 9) X.1.1 X.1.2.1 dJ12_min_2 (by decide) ka kb) (fun c2 => ?_) (fun c2 => ?_)
  · refine J.pu (fun _ _ _ _ k => lv_iload_n X.1.1 X.1.2.1 dJ12_min_9 rfl (lv_at hl 1 rfl) k) ?_
    exact J.iret (vr := jrI) (fin := fun _ : Int32 => σ) (t := t) X hr (by rfl) (by rfl) dJ12_min_10
  · refine J.pu (fun _ _ _ _ k => lv_iload_n X.1.1 X.1.2.1 dJ12_min_5 rfl (lv_at hl 0 rfl) k) ?_
    refine J.pu (fun _ _ _ _ k => lv_goto (tgt := 10) X.1.1 X.1.2.1 dJ12_min_6 (by decide) k) ?_
    exact J.iret (vr := jrI) (fin := fun _ : Int32 => σ) (t := t) X hr (by rfl) (by rfl) dJ12_min_10
noncomputable def J12_floorMod (n : Nat) (a0 : Int32) (a1 : Int32) : Option (Int32) :=
  jnz a1 fun _ => if 0 ≤ (a0 ^^^ a1) then (some (a0 - a0 / a1 * a1)) else (if (a0 - a0 / a1 * a1) = 0 then (some (a0 - a0 / a1 * a1)) else (some ((a0 - a0 / a1 * a1) + a1)))
set_option maxHeartbeats 4000000 in
set_option maxRecDepth 100000 in
theorem ct_J12_floorMod (l : Launch) (G : jG) (σ : jH) (n : Nat) (a0 : Int32) (a1 : Int32) : jCt l G yJ12_floorMod (ws_ yJ12_floorMod cJ12_floorMod 3 (some .int)) 0 0 jrI [.int a0, .int a1] σ (jrd σ (J12_floorMod n a0 a1)) := by
  refine jCt.rd (lv := [(0, .int a0), (1, .int a1)]) (by decide +kernel) (Nat.le_of_ble_eq_true rfl) rfl ?_
  intro t p e s m args below meth c ls X hr hnm hl
  have X : jCx p c cJ12_floorMod 3 s m args RJ12 G meth := X
  unfold J12_floorMod
  refine J.pu (fun _ _ _ _ k => lv_iload_n X.1.1 X.1.2.1 dJ12_floorMod_0 rfl (lv_at hl 0 rfl) k) ?_
  refine J.pu (fun _ _ _ _ k => lv_iload_n X.1.1 X.1.2.1 dJ12_floorMod_1 rfl (lv_at hl 1 rfl) k) ?_
  refine J.nz (fun z2 => ?_)
  refine J.pu (fun _ _ _ _ k => lv_irem X.1.1 X.1.2.1 dJ12_floorMod_2 z2 k) ?_
  refine J.istore_n (i := 2) (lv' := [(2, .int (a0 - a0 / a1 * a1)), (0, .int a0), (1, .int a1)]) X.1.1 X.1.2.1 dJ12_floorMod_3 rfl hl (by decide) (by first | rfl | simp [va_rf_cat, jcI, jcA, jcJ, jcD, jcF]) (fun ls hl => ?_)
  refine J.pu (fun _ _ _ _ k => lv_iload_n X.1.1 X.1.2.1 dJ12_floorMod_4 rfl (lv_at hl 1 rfl) k) ?_
  refine J.pu (fun _ _ _ _ k => lv_iload_n X.1.1 X.1.2.1 dJ12_floorMod_5 rfl (lv_at hl 2 rfl) k) ?_
  refine J.pu (fun _ _ _ _ k => lv_ixor X.1.1 X.1.2.1 dJ12_floorMod_6 k) ?_
  refine J.br (fun _ _ _ _ ka kb => lv_if_ge (tgt := 18) X.1.1 X.1.2.1 dJ12_floorMod_7 (by decide) ka kb) (fun c7 => ?_) (fun c7 => ?_)
  · refine J.pu (fun _ _ _ _ k => lv_iload_n X.1.1 X.1.2.1 dJ12_floorMod_18 rfl (lv_at hl 0 rfl) k) ?_
    exact J.iret (vr := jrI) (fin := fun _ : Int32 => σ) (t := t) X hr (by rfl) (by rfl) dJ12_floorMod_19
  · refine J.pu (fun _ _ _ _ k => lv_iload_n X.1.1 X.1.2.1 dJ12_floorMod_10 rfl (lv_at hl 0 rfl) k) ?_
    refine J.br (fun _ _ _ _ ka kb => lv_if_eq (tgt := 18) X.1.1 X.1.2.1 dJ12_floorMod_11 (by decide) ka kb) (fun c11 => ?_) (fun c11 => ?_)
    · refine J.pu (fun _ _ _ _ k => lv_iload_n X.1.1 X.1.2.1 dJ12_floorMod_18 rfl (lv_at hl 0 rfl) k) ?_
      exact J.iret (vr := jrI) (fin := fun _ : Int32 => σ) (t := t) X hr (by rfl) (by rfl) dJ12_floorMod_19
    · refine J.pu (fun _ _ _ _ k => lv_iload_n X.1.1 X.1.2.1 dJ12_floorMod_14 rfl (lv_at hl 0 rfl) k) ?_
      refine J.pu (fun _ _ _ _ k => lv_iload_n X.1.1 X.1.2.1 dJ12_floorMod_15 rfl (lv_at hl 2 rfl) k) ?_
      refine J.pu (fun _ _ _ _ k => lv_iadd X.1.1 X.1.2.1 dJ12_floorMod_16 k) ?_
      exact J.iret (vr := jrI) (fin := fun _ : Int32 => σ) (t := t) X hr (by rfl) (by rfl) dJ12_floorMod_17
