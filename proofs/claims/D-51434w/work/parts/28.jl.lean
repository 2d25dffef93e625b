/-! LinkedList: the plain part -/
set_option maxRecDepth 100000
def nO17 (rs : List (Option Nat)) (ns : List Nat) (i : Nat) : jE := .inl (17, [va_rf (rs.getD i none), va_rf ns[i + 1]?, va_rf (if i = 0 then none else ns[i - 1]?)])
theorem open_LL {G : jG} {gh : jGh} {ow : Nat → Nat} {h : Nat → Option jX} {φ : Nat → Option jE} {a : Nat} {rs : List (Option Nat)} {r : List Int32 × Nat × Nat} (hr : jRelW G gh ow h φ) (ha : h a = some (.inr (1, rs, r))) :
    ow a = a ∧ (gh a).1.length = rs.length ∧ (gh a).1.Nodup ∧ rs.length < 2 ^ 30 ∧ (∀ y ∈ (gh a).1, G.2.2.1 ≤ y) ∧ φ a = some (.inl (16, [.int (gh a).2, .int (nI rs.length), va_rf (gh a).1.head?, va_rf (gh a).1.getLast?])) ∧ ∀ (i y : Nat), (gh a).1[i]? = some y → φ y = some (nO17 rs (gh a).1 i) ∧ ow y = a := by
  obtain ⟨r1, r2, r3⟩ := r
  obtain ⟨h1, ps, h2, h3, h4, h5, rfl⟩ := hr a _ ha
  refine ⟨h1, h3, h4, h5.1, h5.2, (h2 _ List.mem_cons_self).1, fun i y hi => ?_⟩
  have hil : i < rs.length := by rw [← h3]; exact (List.getElem?_eq_some_iff.mp hi).1
  have hy : (gh a).1.getD i 0 = y := by rw [List.getD_eq_getElem?_getD, hi]; rfl
  have h6 := h2 ((gh a).1.getD i 0, nO17 rs (gh a).1 i) (List.mem_cons_of_mem _ (List.mem_map.mpr ⟨i, List.mem_range.mpr hil, rfl⟩))
  rw [hy] at h6
  refine ⟨h6.1, h6.2.elim (fun q => absurd (h5.2 y (List.mem_of_getElem? hi)) (Nat.not_le.mpr q)) (fun q => q.2)⟩
theorem close_LL {G : jG} {gh : jGh} {ow : Nat → Nat} {σ : jH} {φ φ' : Nat → Option jE} {a : Nat} {rs' : List (Option Nat)} {r : List Int32 × Nat × Nat} {mc : Int32} {ns : List Nat} (hr : jRelW G gh ow σ.1 φ) (hn : G.2.2.1 ≤ a) (hoa : φ a = none ∨ ow a = a)
    (h1 : φ' a = some (.inl (16, [.int mc, .int (nI rs'.length), va_rf ns.head?, va_rf ns.getLast?]))) (h2 : ∀ (i y : Nat), ns[i]? = some y → φ' y = some (nO17 rs' ns i) ∧ (φ y = none ∨ ow y = a)) (h3 : ns.length = rs'.length) (h4 : ns.Nodup) (h5 : rs'.length < 2 ^ 30) (h6 : ∀ y ∈ ns, G.2.2.1 ≤ y) (hφ : Kp G ow a φ φ') : jRel G (cP σ a (1, rs', r)).1 φ' := by
  obtain ⟨r1, r2, r3⟩ := r
  have hg : (va_up gh a (ns, mc)) a = (ns, mc) := va_up_self _ _ _
  refine jRelW.upd (gh' := va_up gh a (ns, mc)) (ps := (a, .inl (16, [.int mc, .int (nI rs'.length), va_rf ns.head?, va_rf ns.getLast?])) :: (List.range rs'.length).map (fun i => (ns.getD i 0, nO17 rs' ns i))) hr hoa hn cP_hh cP_a (fun b hb => va_up_ne _ _ hb) hφ (fun x hx => ?_) ?_
  · rcases List.mem_cons.mp hx with rfl | hx
    · exact ⟨h1, hoa.elim (fun q => Or.inr (Or.inl q)) (fun q => Or.inr (Or.inr q))⟩
    · obtain ⟨i, hi, rfl⟩ := List.mem_map.mp hx
      have hil : i < ns.length := by rw [h3]; exact List.mem_range.mp hi
      have hy : ns[i]? = some (ns.getD i 0) := by rw [List.getD_eq_getElem?_getD, List.getElem?_eq_getElem hil]; rfl
      exact ⟨(h2 i _ hy).1, Or.inr (h2 i _ hy).2⟩
  · unfold jSh
    rw [hg]
    exact ⟨h3, h4, ⟨h5, h6⟩, rfl⟩
theorem getD_app {rs : List (Option Nat)} {x : Option Nat} {i : Nat} (h : i < rs.length) : (rs ++ [x]).getD i none = rs.getD i none := by
  rw [List.getD_eq_getElem?_getD, List.getD_eq_getElem?_getD, List.getElem?_append_left h]
section LL
variable {G : jG} {σ σ' : jH} {φ : Nat → Option jE} {a : Nat}
theorem p_J19_size (hr : jRel G σ.1 φ) {v : Int32} (h : lSize 1 σ a = some v) (n : Nat) : f_J19_size G n (jfn φ σ.2) a = some v := by
  obtain ⟨ow, gh, hr⟩ := hr
  obtain ⟨rs, hrs, rfl⟩ := Option.map_eq_some_iff.mp h
  obtain ⟨is, cap, d, hs⟩ := cRs_some hrs
  obtain ⟨-, -, -, h5, -, e1, -⟩ := open_LL hr hs
  simp [f_J19_size, gI_fn, gR_fn, pI_fn, pR_fn, pB_fn, rc_fn, jck_fn, bd_some, Option.bind_some, va_up_self, gIv_i, gRv_r, gRv_n, gRv_rf, List.getElem?_cons_zero, List.getElem?_cons_succ, List.set_cons_zero, List.set_cons_succ, List.length_cons, List.length_nil, jfn_2, if_true, if_false, and_true, true_and, Nat.le_refl, e1]
theorem p_J0_isEmpty (hr : jRel G σ.1 φ) {v : Int32} (h : lEmpty 1 σ a = some v) (n : Nat) : f_J0_isEmpty_J19 G n (jfn φ σ.2) a = some v := by
  obtain ⟨ow, gh, hr⟩ := hr
  obtain ⟨rs, hrs, rfl⟩ := Option.map_eq_some_iff.mp h
  obtain ⟨is, cap, d, hs⟩ := cRs_some hrs
  obtain ⟨-, -, -, h5, -, e1, -⟩ := open_LL hr hs
  have e : (nI rs.length = 0) ↔ rs.length = 0 := by rw [zI_zero, zI_inj (by omega) (by omega)]
  simp only [f_J0_isEmpty_J19, f_J19_size, gI_fn, gR_fn, pI_fn, pR_fn, pB_fn, rc_fn, jck_fn, bd_some, Option.bind_some, va_up_self, gIv_i, gRv_r, gRv_n, gRv_rf, List.getElem?_cons_zero, List.getElem?_cons_succ, List.set_cons_zero, List.set_cons_succ, List.length_cons, List.length_nil, jfn_2, if_true, if_false, and_true, true_and, Nat.le_refl, e1, e]
  by_cases hz : rs.length = 0 <;> simp [hz]
theorem p_J19_init (hr : jRel G σ.1 φ) {v : Unit} (h : llInit G σ a = some (v, σ')) : ∃ n φ', f_J19_init G n (jfn φ σ.2) a = some (v, jfn φ' σ'.2) ∧ jRel G σ'.1 φ' := by
  obtain ⟨ow, gh, hr⟩ := hr
  unfold llInit at h
  split at h
  · next hc =>
    obtain ⟨hs, hn⟩ := isO_some hc
    cases h
    have e1 := (hr a _ hs).1
    have hoa := (hr a _ hs).2
    refine ⟨0, va_up (va_up φ a (some (.inl (16, [.int 0, .int 0, .null, .null])))) a (some (.inl (16, [.int 0, .int 0, .null, .null]))), ?_, ?_⟩
    · simp [f_J19_init, f_J19_init_b, f_J18_init_J19, f_J18_init_J19_b, f_J1_init_J19, f_J1_init_J19_b, f_J0_init_J19, gI_fn, gR_fn, pI_fn, pR_fn, pB_fn, rc_fn, jck_fn, bd_some, Option.bind_some, va_up_self, gIv_i, gRv_r, gRv_n, gRv_rf, List.getElem?_cons_zero, List.getElem?_cons_succ, List.set_cons_zero, List.set_cons_succ, List.length_cons, List.length_nil, jfn_2, if_true, if_false, and_true, true_and, Nat.le_refl, e1, hn]
      rfl
    · exact close_LL hr hn (Or.inr hoa) (mc := 0) (ns := []) (rs' := []) (va_up_self _ _ _) (fun i y hi => by cases hi) rfl List.nodup_nil (by decide) (fun y hy => by cases hy) ((Kp.rf.own hn hoa).own hn hoa)
  · cases h
theorem p_J19_add (hr : jRel G σ.1 φ) (hz : ∀ b, σ.2.1 ≤ b → φ b = none) (hzn : G.2.2.1 ≤ σ.2.1) {x : Option Nat} {v : Int32} (h : llAdd G σ a x = some (v, σ')) : ∃ n φ', f_J19_add G n (jfn φ σ.2) a x = some (v, jfn φ' σ'.2) ∧ jRel G σ'.1 φ' := by
  obtain ⟨ow, gh, hr⟩ := hr
  obtain ⟨rs, hrs, h⟩ := Option.bind_eq_some_iff.mp h
  obtain ⟨is, cap, d, hs⟩ := cRs_some hrs
  split at h
  · next hc =>
    obtain ⟨hl6, hn⟩ := hc
    cases h
    obtain ⟨hoa, hl, hnd, h5, hge, e1, hN⟩ := open_LL hr hs
    have hz1 : φ σ.2.1 = none := hz _ (Nat.le_refl _)
    have hza : a ≠ σ.2.1 := by rintro h; rw [← h, e1] at hz1; cases hz1
    have hzN : σ.2.1 ∉ (gh a).1 := by
      intro hm
      obtain ⟨i, hi⟩ := List.getElem?_of_mem hm
      rw [(hN i _ hi).1] at hz1
      cases hz1
    have hlen : (rs ++ [x]).length = rs.length + 1 := by simp
    have hnd' : ((gh a).1 ++ [σ.2.1]).Nodup := by
      rw [List.nodup_append]
      refine ⟨hnd, by simp, fun p hp q hq => ?_⟩
      rw [List.mem_singleton] at hq
      subst hq
      rintro rfl
      exact hzN hp
    have hget : ∀ i, i < rs.length → ((gh a).1 ++ [σ.2.1])[i]? = (gh a).1[i]? := fun i hi => List.getElem?_append_left (by omega)
    have hgetz : ((gh a).1 ++ [σ.2.1])[rs.length]? = some σ.2.1 := by rw [List.getElem?_append_right (by omega), hl]; simp
    cases hlast : (gh a).1.getLast? with
    | none =>
      have hnil : (gh a).1 = [] := List.getLast?_eq_none_iff.mp hlast
      have hrs0 : rs = [] := by rw [hnil] at hl; exact List.length_eq_zero_iff.mp hl.symm
      subst hrs0
      rw [hnil] at e1
      refine ⟨0, ?φ, ?h1, ?h2⟩
      case h1 =>
        simp [f_J19_add, f_J19_add_b, f_J19_linkLast, f_J19_linkLast_b, f_J19_linkLast_j38, f_J17_init, f_J17_init_b, nO_fn, gI_fn, gR_fn, pI_fn, pR_fn, pB_fn, rc_fn, jck_fn, bd_some, Option.bind_some, va_up_self, gIv_i, gRv_r, gRv_n, gRv_rf, List.getElem?_cons_zero, List.getElem?_cons_succ, List.set_cons_zero, List.set_cons_succ, List.length_cons, List.length_nil, jfn_2, if_true, if_false, and_true, true_and, Nat.le_refl, e1, hn, hzn, va_up_ne _ _ hza, va_rf_s, va_rf_n, zI_add1]
        rfl
      case h2 =>
        refine close_LL hr hn (Or.inr hoa) (mc := (gh a).2 + 1) (ns := [σ.2.1]) (rs' := [] ++ [x]) (va_up_self _ _ _) (fun i y hi => ?_) rfl (by simp) (by simp) (fun y hy => by rw [List.mem_singleton.mp hy]; exact hzn) ((((Kp.own (Kp.new (Kp.new (Kp.new (Kp.new Kp.rf hz1) hz1) hz1) hz1) hn hoa).own hn hoa).own hn hoa).own hn hoa)
        have hi0 : i = 0 ∧ y = σ.2.1 := by
          cases i with
          | zero => exact ⟨rfl, (Option.some.inj hi).symm⟩
          | succ j => cases hi
        obtain ⟨rfl, rfl⟩ := hi0
        refine ⟨?_, Or.inl hz1⟩
        rw [va_up_ne _ _ (Ne.symm hza), va_up_ne _ _ (Ne.symm hza), va_up_ne _ _ (Ne.symm hza), va_up_ne _ _ (Ne.symm hza), va_up_self]
        rfl
    | some y =>
      have hyl : (gh a).1[rs.length - 1]? = some y := by rw [List.getLast?_eq_getElem?, hl] at hlast; exact hlast
      have hpos : 0 < rs.length := by
        rw [← hl]
        exact List.length_pos_iff.mpr (fun q => by rw [q] at hlast; cases hlast)
      obtain ⟨ey, hoy⟩ := hN _ _ hyl
      have hyz : y ≠ σ.2.1 := by rintro rfl; rw [ey] at hz1; cases hz1
      have hya : y ≠ a := by rintro rfl; rw [ey] at e1; cases e1
      have hyn : G.2.2.1 ≤ y := hge y (List.mem_of_getElem? hyl)
      rw [hlast] at e1
      unfold nO17 at ey
      refine ⟨0, ?φ2, ?h3, ?h4⟩
      case h3 =>
        simp [f_J19_add, f_J19_add_b, f_J19_linkLast, f_J19_linkLast_b, f_J19_linkLast_j38, f_J17_init, f_J17_init_b, nO_fn, gI_fn, gR_fn, pI_fn, pR_fn, pB_fn, rc_fn, jck_fn, bd_some, Option.bind_some, va_up_self, gIv_i, gRv_r, gRv_n, gRv_rf, List.getElem?_cons_zero, List.getElem?_cons_succ, List.set_cons_zero, List.set_cons_succ, List.length_cons, List.length_nil, jfn_2, if_true, if_false, and_true, true_and, Nat.le_refl, e1, hn, hzn, hyn, ey, va_up_ne _ _ hza, va_up_ne _ _ hyz, va_up_ne _ _ hya, va_up_ne _ _ (Ne.symm hya), va_rf_s, va_rf_n, zI_add1]
        rfl
      case h4 =>
        refine close_LL hr hn (Or.inr hoa) (mc := (gh a).2 + 1) (ns := (gh a).1 ++ [σ.2.1]) (rs' := rs ++ [x]) ?_ (fun i w hi => ?_) (by simp [hl]) hnd' (by rw [hlen]; omega) (fun w hw => ?_) ((((Kp.own (Kp.own (Kp.new (Kp.new (Kp.new (Kp.new Kp.rf hz1) hz1) hz1) hz1) hn hoa) hyn hoy).own hn hoa).own hn hoa))
        · rw [va_up_self, hlen, List.getLast?_concat, List.head?_append]
          have : (gh a).1.head?.or [σ.2.1].head? = (gh a).1.head? := by
            cases hgl : (gh a).1 with
            | nil => rw [hgl] at hlast; cases hlast
            | cons p q => rfl
          rw [this]
          rfl
        · by_cases hil : i < rs.length
          · have hi' := hi
            rw [hget i hil] at hi
            obtain ⟨ew, how⟩ := hN i w hi
            have hwa : w ≠ a := by rintro rfl; rw [ew] at e1; cases e1
            have hwz : w ≠ σ.2.1 := by rintro rfl; rw [ew] at hz1; cases hz1
            refine ⟨?_, Or.inr how⟩
            rw [va_up_ne _ _ hwa, va_up_ne _ _ hwa]
            by_cases hil1 : i = rs.length - 1
            · subst hil1
              cases hi.symm.trans hyl
              rw [va_up_self]
              unfold nO17
              rw [show rs.length - 1 + 1 = rs.length by omega, hgetz, getD_app hil]
              by_cases h0 : rs.length - 1 = 0
              · simp [h0, va_rf_s]
              · rw [if_neg h0, if_neg h0, hget _ (by omega)]; rfl
            · have hwy : w ≠ y := by
                rintro rfl
                have := (List.getElem?_inj (by omega) hnd).mp (hi.trans hyl.symm)
                omega
              rw [va_up_ne _ _ hwy, va_up_ne _ _ hwa, va_up_ne _ _ hwz, va_up_ne _ _ hwz, va_up_ne _ _ hwz, va_up_ne _ _ hwz, ew]
              unfold nO17
              rw [hget (i + 1) (by omega), getD_app hil]
              by_cases h0 : i = 0
              · simp [h0]
              · rw [if_neg h0, if_neg h0, hget _ (by omega)]
          · have hil2 : i = rs.length := by
              have := (List.getElem?_eq_some_iff.mp hi).1
              simp [hl] at this
              omega
            subst hil2
            cases hi.symm.trans hgetz
            refine ⟨?_, Or.inl hz1⟩
            rw [va_up_ne _ _ (Ne.symm hza), va_up_ne _ _ (Ne.symm hza), va_up_ne _ _ (Ne.symm hyz), va_up_ne _ _ (Ne.symm hza), va_up_self]
            unfold nO17
            rw [if_neg (by omega), hget (rs.length - 1) (by omega), hyl]
            simp [List.getD_eq_getElem?_getD, hl, va_rf_s, va_rf_n]
        · rcases List.mem_append.mp hw with hw | hw
          · exact hge w hw
          · rw [List.mem_singleton.mp hw]; exact hzn
  · cases h
end LL
