/-! THE START, third part: the global facts hold (printed by wip gen/mkst3.py) -/
set_option maxRecDepth 100000
section ST3
variable {s : State} {b L : Nat} {xs : Nat → Int32}
/-- what is known of the constants' addresses -/
def stK (s : State) (b : Nat) (ad : Nat → Nat × Nat) (t0 t1 t2 t3 t4 : Nat) (K : Nat → Option Nat) : Prop :=
  (∀ i, i < 46 → stS s b i (ad i) ∧ K i = some (ad i).1) ∧
  (K 100 = some t0 ∧ va_T .byte t0 100 (fun j => .int (dOnes j)) (fun a => s.heap.size ≤ a) s s.heap) ∧
  (K 101 = some t1 ∧ va_T .byte t1 100 (fun j => .int (dTens j)) (fun a => s.heap.size ≤ a) s s.heap) ∧
  (K 102 = some t2 ∧ va_T .byte t2 256 (fun j => .int (kDg.getD j 0)) (fun a => s.heap.size ≤ a) s s.heap) ∧
  (K 103 = some t3 ∧ va_O "java/lang/CharacterDataLatin1" t3 (fun a => s.heap.size ≤ a) s s.heap) ∧
  (K 104 = some t4 ∧ va_T (.object "java/lang/Object") t4 0 (fun _ => .null) (fun a => s.heap.size ≤ a) s s.heap)
theorem st_gl (hts : ∀ w ∈ lw_tbl, w.before #[Value.ref b] s = true) (hgv : (Jvm.Cond.and given_1 narrow_1).before #[Value.ref b] s = true) : ∃ (G : jG) (ad : Nat → Nat × Nat) (t0 t1 t2 t3 t4 : Nat), G.2.2.1 = s.heap.size ∧ jGl G s ∧ stK s b ad t0 t1 t2 t3 t4 G.2.2.2 := by
  have hN : ∀ w ∈ NL, w.before #[Value.ref b] s = true := flat_of_before _ hgv
  have hA : ∀ a : Nat, a < s.heap.size → ¬ (fun a => s.heap.size ≤ a) a := fun a h => Nat.not_le.mpr h
  obtain ⟨dC, dI, hC⟩ := st_cls hts
  obtain ⟨aC, hAr⟩ := st_arr hts
  obtain ⟨ad, had⟩ := st_str hN
  obtain ⟨t0, u0, w0⟩ := st_tab hN (by decide) tOnes_m
  obtain ⟨t1, u1, w1⟩ := st_tab hN (by decide) tTens_m
  obtain ⟨t2, u2, w2⟩ := st_tab hN (by decide) tDig_m
  obtain ⟨t3, _, _, _, u3, -⟩ := Cond.exactly_spec (args := #[Value.ref b]) (first := s) (o := none) (s := s) (idx := []) (hN _ nr103)
  obtain ⟨t4, u4, w4⟩ := va_Tof (f := fun _ => .null) (A := fun a => s.heap.size ≤ a) (N := 0) (by decide) (hN _ n104a) (va_eqt (hN _ n104l)) (fun j hj => absurd hj (Nat.not_lt_zero _)) hA
  obtain ⟨r5, u5⟩ := st_ref (hN _ nr105)
  obtain ⟨r6, u6⟩ := st_ref (hN _ nr106)
  obtain ⟨r7, u7⟩ := st_ref (hN _ nr107)
  obtain ⟨r8, u8⟩ := st_ref (hN _ nr108)
  obtain ⟨mi, hmi⟩ := va_Mi.of (hN _ nMi)
  let K : Nat → Option Nat := fun i => if i < 46 then some (ad i).1 else match i with
    | 100 => some t0
    | 101 => some t1
    | 102 => some t2
    | 103 => some t3
    | 104 => some t4
    | 105 => r5
    | 106 => r6
    | 107 => r7
    | 108 => r8
    | 109 => some mi
    | _ => none
  have hK : ∀ i, i < 46 → K i = some (ad i).1 := fun i hi => if_pos hi
  have w3 : va_O "java/lang/CharacterDataLatin1" t3 (fun a => s.heap.size ≤ a) s s.heap := va_Oof (hN _ nr103) u3 hA
  refine ⟨((dC, dI), aC, s.heap.size, K), ad, t0, t1, t2, t3, t4, rfl, ⟨⟨hC, hAr⟩, ?_, ?_, ?_, ?_, ?_, ?_, ?_, ?_, ?_, ?_, ?_, ?_, ?_, ?_, ⟨mi, rfl, hmi⟩, t3, rfl, ?_, w3⟩, fun i hi => ⟨had i hi, hK i hi⟩, ⟨rfl, w0⟩, ⟨rfl, w1⟩, ⟨rfl, w2⟩, ⟨rfl, w3⟩, ⟨rfl, w4⟩⟩
  · exact fun q hq => va_any rfl (hts _ (jNf_t q hq))
  · exact fun q hq => va_any rfl (hts _ (jNm_t q hq))
  · exact fun q hq => va_any rfl (hts _ (jNc_t q hq))
  · intro q hq
    obtain ⟨h1, h2, h3, h4, h5, -⟩ := jFw_t q hq
    exact va_Fw.of (hts _ h1) (hts _ h2) (hts _ h3) (hts _ h4) (hts _ h5)
  · exact va_AO.of (hts _ (q223))
  · intro i q hq
    have hi : i < 46 := (List.getElem?_eq_some_iff.mp hq).1
    refine ⟨(ad i).1, hK i hi, vk_R.of (hts _ (jSr_t q (List.mem_of_getElem? hq))) ?_⟩
    have h1 := (had i hi).1
    unfold kTm at h1
    rw [hq] at h1
    exact h1
  · intro q hq
    obtain rfl := List.mem_singleton.mp hq
    exact va_Zof (hts _ (q282)) (hts _ (lw_all_tbl q149)) (va_eqt (hN _ nCS)) hA
  · exact List.forall_mem_cons.mpr ⟨va_Zof (hts _ (q440)) (hts _ (lw_all_tbl q158)) u0 hA, List.forall_mem_cons.mpr ⟨va_Zof (hts _ (q442)) (hts _ (lw_all_tbl q158)) u1 hA, List.forall_mem_cons.mpr ⟨va_Zof (hts _ (q1516)) (hts _ (lw_all_tbl q180)) u2 hA, List.forall_mem_cons.mpr ⟨va_Zof (hts _ (q1508)) (hts _ (lw_all_tbl q180)) u3 hA, List.forall_mem_cons.mpr ⟨va_Zof (hts _ (q576)) (hts _ (lw_all_tbl q142)) u4 hA, List.forall_mem_cons.mpr ⟨va_Zof (hts _ (q225)) (hts _ (lw_all_tbl q142)) u5 hA, List.forall_mem_cons.mpr ⟨va_Zof (hts _ (q370)) (hts _ (lw_all_tbl q155)) u6 hA, List.forall_mem_cons.mpr ⟨va_Zof (hts _ (q253)) (hts _ (lw_all_tbl q143)) u7 hA, List.forall_mem_cons.mpr ⟨va_Zof (hts _ (q255)) (hts _ (lw_all_tbl q143)) u8 hA, fun _ h => nomatch h⟩⟩⟩⟩⟩⟩⟩⟩⟩
  · exact vx_Zqof (hts _ (q253)) (hts _ (lw_all_tbl q143)) (hN _ nr107) hA
  · exact vx_Zqof (hts _ (q255)) (hts _ (lw_all_tbl q143)) (hN _ nr108) hA
  · exact fun q hq => va_any rfl (hts _ (jNd_t q hq))
  · exact List.forall_mem_cons.mpr ⟨va_Nc.of (hN _ nNc0), List.forall_mem_cons.mpr ⟨va_Nc.of (hN _ nNc1), List.forall_mem_cons.mpr ⟨va_Nc.of (hN _ nNc2), fun _ h => nomatch h⟩⟩⟩
  · exact List.forall_mem_cons.mpr ⟨va_any rfl (jsel (n := 6) (n2 := 8) (y := ⟨"SortingLoop$Parser", "at", "(I)I"⟩) (C := "SortingLoop$Setup") (by decide) (hts _ (lw_all_tbl q1396)) (hts _ (q1394)) (hts _ (lw_all_tbl q1395)) (hts _ (lw_all_tbl q1378))), List.forall_mem_cons.mpr ⟨va_any rfl (jsel (n := 6) (n2 := 8) (y := ⟨"SortingLoop$Parser", "at", "(I)I"⟩) (C := "SortingLoop$Script") (by decide) (hts _ (lw_all_tbl q1396)) (hts _ (q1394)) (hts _ (lw_all_tbl q1395)) (hts _ (lw_all_tbl q1761))), List.forall_mem_cons.mpr ⟨va_any rfl (jsel (n := 6) (n2 := 8) (y := ⟨"SortingLoop$Parser", "past", "(III)I"⟩) (C := "SortingLoop$Setup") (by decide) (hts _ (lw_all_tbl q1396)) (hts _ (q1402)) (hts _ (lw_all_tbl q1403)) (hts _ (lw_all_tbl q1378))), List.forall_mem_cons.mpr ⟨va_any rfl (jsel (n := 6) (n2 := 8) (y := ⟨"SortingLoop$Parser", "past", "(III)I"⟩) (C := "SortingLoop$Script") (by decide) (hts _ (lw_all_tbl q1396)) (hts _ (q1402)) (hts _ (lw_all_tbl q1403)) (hts _ (lw_all_tbl q1761))), List.forall_mem_cons.mpr ⟨va_any rfl (jsel (n := 6) (n2 := 8) (y := ⟨"SortingLoop$Parser", "text", "(II)Ljava/lang/String;"⟩) (C := "SortingLoop$Setup") (by decide) (hts _ (lw_all_tbl q1396)) (hts _ (q1406)) (hts _ (lw_all_tbl q1407)) (hts _ (lw_all_tbl q1378))), List.forall_mem_cons.mpr ⟨va_any rfl (jsel (n := 6) (n2 := 8) (y := ⟨"SortingLoop$Parser", "text", "(II)Ljava/lang/String;"⟩) (C := "SortingLoop$Script") (by decide) (hts _ (lw_all_tbl q1396)) (hts _ (q1406)) (hts _ (lw_all_tbl q1407)) (hts _ (lw_all_tbl q1761))), List.forall_mem_cons.mpr ⟨va_any rfl (hN _ nDW1), List.forall_mem_cons.mpr ⟨va_any rfl (hN _ nDW2), List.forall_mem_cons.mpr ⟨va_any rfl (selASB (hts _ (lw_all_tbl q355)) (hts _ (q322)) (hts _ (lw_all_tbl q323))), List.forall_mem_cons.mpr ⟨va_any rfl (selASB (hts _ (lw_all_tbl q355)) (hts _ (q318)) (hts _ (lw_all_tbl q319))), fun _ h => nomatch h⟩⟩⟩⟩⟩⟩⟩⟩⟩⟩
  · exact (hN _ nLD)
  · obtain ⟨cell, h1, -⟩ := w3
    exact (Array.getElem?_eq_some_iff.mp h1).1
end ST3
