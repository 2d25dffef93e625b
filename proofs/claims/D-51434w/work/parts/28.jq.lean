/-! setLength, toString; String: the plain part -/
set_option maxRecDepth 100000
theorem open_ST {G : jG} {gh : jGh} {ow : Nat → Nat} {h : Nat → Option jX} {φ : Nat → Option jE} {a : Nat} {rs : List (Option Nat)} {xs : List Int32} {c d : Nat} (hr : jRelW G gh ow h φ) (ha : h a = some (.inr (4, rs, xs, c, d))) :
    ow a = a ∧ ∃ (arr : Nat) (f : Nat → Int32) (hs hz : Int32), φ a = some (.inl (21, [.ref arr, .int 0, .int hs, .int hz])) ∧ φ arr = some (.inr (.inl (1, xs.length, f))) ∧ (arr < G.2.2.1 ∨ (G.2.2.1 ≤ a ∧ ow arr = a)) ∧ arr ≠ a ∧ xs.length < 2 ^ 30 ∧ (∀ i, i < xs.length → some (f i) = xs[i]?) ∧ (∀ x ∈ xs, 0 ≤ x ∧ x < 128) ∧ (G.2.2.1 ≤ a → G.2.2.1 ≤ arr ∧ (hz = 0 ∨ hz = 1) ∧ (hz = 1 → hs = 0 ∧ xs.foldl (fun h x => 31 * h + x) 0 = 0) ∧ (hs ≠ 0 → hs = xs.foldl (fun h x => 31 * h + x) 0)) := by
  obtain ⟨h1, ps, h2, arr, f, hs, hz, rfl, h3, h4, h5, h6⟩ := hr a _ ha
  have e1 := h2 _ List.mem_cons_self
  have e2 := h2 _ (List.mem_cons_of_mem _ List.mem_cons_self)
  refine ⟨h1, arr, f, hs, hz, e1.1, e2.1, e2.2, ?_, h3, h4, h5, h6⟩
  rintro rfl
  have e3 := e1.1.symm.trans e2.1
  cases e3
section ST
variable {G : jG} {σ σ' : jH} {φ : Nat → Option jE} {a : Nat}
theorem p_J8_setLength (hr : jRel G σ.1 φ) {i : Int32} {v : Unit} (h : sbSet G σ a i = some (v, σ')) : ∃ n φ', f_J8_setLength G n (jfn φ σ.2) a i = some (v, jfn φ' σ'.2) ∧ jRel G σ'.1 φ' := by
  obtain ⟨ow, gh, hr⟩ := hr
  unfold sbSet at h
  split at h
  · next rs xs cap d hs =>
    obtain ⟨hn, hs⟩ := cW_some hs
    obtain ⟨hoa, arr, f, ml, e1, e2, hown, hne, h3, h4, h5, h6, h7, h8⟩ := open_SB hr hs
    split at h
    · next hc =>
      obtain ⟨hi, hk⟩ := hc
      cases h
      obtain ⟨k, hk2, rfl, hkk⟩ := zI_of hi
      rw [hkk] at hk ⊢
      have htest : nI k - nI cap ≤ 0 := by
        rw [Int32.le_iff_toInt_le, toInt_subn (by omega) (by omega), show (0 : Int32).toInt = 0 from rfl]
        omega
      have hens : f_J7_ensureCapacityInternal_J8 G 0 (jfn φ σ.2) a (nI k) = some ((), jfn φ σ.2) := by
        simp only [f_J7_ensureCapacityInternal_J8, f_J7_ensureCapacityInternal_J8_b, gI_fn, gR_fn, pI_fn, pR_fn, pB_fn, rc_fn, jck_fn, bd_some, Option.bind_some, va_up_self, gIv_i, gRv_r, gRv_n, gRv_rf, List.getElem?_cons_zero, List.getElem?_cons_succ, List.set_cons_zero, List.set_cons_succ, List.length_cons, List.length_nil, jfn_2, if_true, if_false, and_true, true_and, Nat.le_refl, e1, aLenB e2, shr0, htest]
      have h0 : (0 : Int32) ≤ nI k := by rw [zI_zero, zI_le (by omega) (by omega)]; omega
      have hlen : (xs.take k).length = k := by rw [List.length_take]; omega
      have hx8 : ∀ x ∈ xs.take k, 0 ≤ x ∧ x < 128 := fun x hx => h8 x (List.mem_of_mem_take hx)
      have hx7 : ∀ i, i < (xs.take k).length → some (f i) = (xs.take k)[i]? := by
        intro i hi
        rw [hlen] at hi
        rw [List.getElem?_take, if_pos hi]
        exact h7 i (by omega)
      by_cases hle : xs.length ≤ k
      · refine ⟨0, va_up φ a (some (.inl (20, [.ref arr, .int 0, .int ml, .int (nI k)]))), ?_, ?_⟩
        · simp [f_J8_setLength, f_J8_setLength_b, f_J7_setLength_J8, f_J7_setLength_J8_b, f_J7_setLength_J8_j76, gI_fn, gR_fn, pI_fn, pR_fn, pB_fn, rc_fn, jck_fn, bd_some, Option.bind_some, va_up_self, gIv_i, gRv_r, gRv_n, gRv_rf, List.getElem?_cons_zero, List.getElem?_cons_succ, List.set_cons_zero, List.set_cons_succ, List.length_cons, List.length_nil, jfn_2, if_true, if_false, and_true, true_and, Nat.le_refl, e1, h0, hens, hn, (zI_le (show k < 2 ^ 31 by omega) (show xs.length < 2 ^ 31 by omega)).mpr hk, (zI_le (show xs.length < 2 ^ 31 by omega) (show k < 2 ^ 31 by omega)).mpr hle]
          rfl
        · exact close_SB hr hn (Or.inr hoa) (f := f) (ml := ml) (by rw [va_up_self, hlen]) (by rw [va_up_ne _ _ hne]; exact e2) (Or.inr hown) h3 (by omega) h5 h6 hx7 hx8 (Kp.rf.own hn hoa)
      · refine ⟨0, va_up (va_up φ a (some (.inl (20, [.ref arr, .int 0, .int 1, .int (nI xs.length)])))) a (some (.inl (20, [.ref arr, .int 0, .int 1, .int (nI k)]))), ?_, ?_⟩
        · have hng : ¬ nI xs.length ≤ nI k := by rw [zI_le (by omega) (by omega)]; exact hle
          simp [f_J8_setLength, f_J8_setLength_b, f_J7_setLength_J8, f_J7_setLength_J8_b, f_J7_setLength_J8_j76, gI_fn, gR_fn, pI_fn, pR_fn, pB_fn, rc_fn, jck_fn, bd_some, Option.bind_some, va_up_self, gIv_i, gRv_r, gRv_n, gRv_rf, List.getElem?_cons_zero, List.getElem?_cons_succ, List.set_cons_zero, List.set_cons_succ, List.length_cons, List.length_nil, jfn_2, if_true, if_false, and_true, true_and, Nat.le_refl, e1, h0, hens, hn, (zI_le (show k < 2 ^ 31 by omega) (show xs.length < 2 ^ 31 by omega)).mpr hk, hng]
          rfl
        · exact close_SB hr hn (Or.inr hoa) (f := f) (ml := 1) (by rw [va_up_self, hlen]) (by rw [va_up_ne _ _ hne, va_up_ne _ _ hne]; exact e2) (Or.inr hown) h3 (by omega) h5 h6 hx7 hx8 ((Kp.rf.own hn hoa).own hn hoa)
    · cases h
  · cases h
theorem p_J8_toString (hr : jRel G σ.1 φ) (hz : ∀ b, σ.2.1 ≤ b → φ b = none) (hzn : G.2.2.1 ≤ σ.2.1) {v : Option Nat} (h : sbStr σ a = some (v, σ')) : ∃ n φ', f_J8_toString G n (jfn φ σ.2) a = some (v, jfn φ' σ'.2) ∧ jRel G σ'.1 φ' := by
  have hr0 := hr
  obtain ⟨ow, gh, hr⟩ := hr
  unfold sbStr at h
  split at h
  · next rs xs cap d hc =>
    have hs : σ.1 a = some (.inr (3, rs, xs, cap, d)) := by
      unfold cG at hc
      split at hc
      · next hs => cases hc; exact hs
      · cases hc
    obtain ⟨hoa, arr, f, ml, e1, e2, hown, hne, h3, h4, h5, h6, h7, h8⟩ := open_SB hr hs
    split at h
    · cases h
    · next hx =>
      cases h
      have hx0 : xs.length ≠ 0 := fun q => hx (Or.inl q)
      have hxc : xs.length ≠ cap := fun q => hx (Or.inr (Or.inl q))
      have hx6 : xs.length ≤ 60000 := Nat.not_lt.mp (fun q => hx (Or.inr (Or.inr q)))
      have hz1 : φ σ.2.1 = none := hz _ (Nat.le_refl _)
      have hz2 : φ (σ.2.1 + 1) = none := hz _ (Nat.le_succ _)
      have hza : a ≠ σ.2.1 := by rintro q; rw [← q, e1] at hz1; cases hz1
      have hza2 : a ≠ σ.2.1 + 1 := by rintro q; rw [← q, e1] at hz2; cases hz2
      have hzr : arr ≠ σ.2.1 := by rintro q; rw [← q, e2] at hz1; cases hz1
      have hzr2 : arr ≠ σ.2.1 + 1 := by rintro q; rw [← q, e2] at hz2; cases hz2
      have hzz : σ.2.1 ≠ σ.2.1 + 1 := by omega
      let ψ1 : Nat → Option jE := va_up (va_up φ σ.2.1 (some (.inl (21, [.null, .int 0, .int 0, .int 0])))) σ.2.1 (some (.inl (21, [.null, .int 0, .int 0, .int 0])))
      have w1 : ψ1 a = some (.inl (20, [.ref arr, .int 0, .int ml, .int (nI xs.length)])) := by show va_up _ _ _ a = _; rw [va_up_ne _ _ hza, va_up_ne _ _ hza]; exact e1
      have w2 : ψ1 arr = some (.inr (.inl (1, cap, f))) := by show va_up _ _ _ arr = _; rw [va_up_ne _ _ hzr, va_up_ne _ _ hzr]; exact e2
      have w3 : ψ1 σ.2.1 = some (.inl (21, [.null, .int 0, .int 0, .int 0])) := va_up_self _ _ _
      let row : jE := .inr (.inl (1, xs.length, va_cpy f (fun _ => 0) 0 0 xs.length))
      have hcr : f_J13_copyOfRange G 0 (jfn ψ1 (σ.2.1 + 1, σ.2.2 + 4)) (some arr) 0 (nI xs.length) = some (some (σ.2.1 + 1), jfn (va_up (va_up ψ1 (σ.2.1 + 1) (some (.inr (.inl (1, xs.length, fun _ => 0))))) (σ.2.1 + 1) (some row)) (σ.2.1 + 1 + 1, σ.2.2 + 4 + xs.length)) := by
        have w2' : (va_up ψ1 (σ.2.1 + 1) (some (.inr (.inl (1, xs.length, fun _ => 0))))) arr = some (.inr (.inl (1, cap, f))) := by rw [va_up_ne _ _ hzr2]; exact w2
        have hsub : ∀ m : Nat, nI m - 0 = nI m := fun m => Int32.sub_zero _
        have hcl : f_J13_checkLength G 0 (jfn ψ1 (σ.2.1 + 1, σ.2.2 + 4)) 0 (nI xs.length) = some () := by
          unfold f_J13_checkLength
          rw [if_pos (by rw [zI_zero, zI_le (by omega) (by omega)]; omega)]
        have hb : f_J13_copyOfRangeByte G 0 (jfn ψ1 (σ.2.1 + 1, σ.2.2 + 4)) (some arr) 0 (nI xs.length) = some (some (σ.2.1 + 1), jfn (va_up (va_up ψ1 (σ.2.1 + 1) (some (.inr (.inl (1, xs.length, fun _ => 0))))) (σ.2.1 + 1) (some row)) (σ.2.1 + 1 + 1, σ.2.2 + 4 + xs.length)) := by
          unfold f_J13_copyOfRangeByte f_J13_copyOfRangeByte_b
          rw [hcl, Option.bind_some, hsub, nB_at (by omega), bd_some, aLenB w2', Option.bind_some, hsub, f_min (by omega) (by omega), Option.bind_some, show min cap xs.length = xs.length by omega]
          rw [acB_at0 (n := xs.length) (f := f) (g := fun _ => 0) w2' (va_up_self _ _ _) h3 (show G.2.2.1 ≤ σ.2.1 + 1 by omega) h4 (Nat.le_refl _) h6 (by omega) (fun z hz => h5 z (by omega)), Option.bind_some, jck_fn]
          rw [if_pos ⟨by omega, by omega⟩]
        unfold f_J13_copyOfRange f_J13_copyOfRange_b f_J13_copyOfRange_j10
        rw [if_pos rfl, aLenB w2, Option.bind_some, if_neg (by rw [zI_inj (by omega) (by omega)]; exact hxc), hb, bd_some, jck_fn]
        simp
      have hL8 : f_J8_length G 0 (jfn φ σ.2) a = some (nI xs.length) := p_J8_length hr0 (by unfold sbLen sbTxt; rw [hc]; rfl) 0
      refine ⟨0, ?φ, ?h1, ?h2⟩
      case h1 =>
        have w9 : (va_up (va_up ψ1 (σ.2.1 + 1) (some (.inr (.inl (1, xs.length, fun _ => 0))))) (σ.2.1 + 1) (some row)) σ.2.1 = some (.inl (21, [.null, .int 0, .int 0, .int 0])) := by rw [va_up_ne _ _ hzz, va_up_ne _ _ hzz]; exact w3
        have hi2 : f_J9_init_2 G 0 (jfn (va_up φ σ.2.1 (some (.inl (21, [.null, .int 0, .int 0, .int 0])))) (σ.2.1 + 1, σ.2.2 + 4)) σ.2.1 (some a) none = some ((), jfn (va_up (va_up (va_up ψ1 (σ.2.1 + 1) (some (.inr (.inl (1, xs.length, fun _ => 0))))) (σ.2.1 + 1) (some row)) σ.2.1 (some (.inl (21, [.ref (σ.2.1 + 1), .int 0, .int 0, .int 0])))) (σ.2.1 + 1 + 1, σ.2.2 + 4 + xs.length)) := by
          have hcr' : f_J13_copyOfRange G 0 (jfn (va_up (va_up φ σ.2.1 (some (.inl (21, [.null, .int 0, .int 0, .int 0])))) σ.2.1 (some (.inl (21, [.null, .int 0, .int 0, .int 0])))) (σ.2.1 + 1, σ.2.2 + 4)) (some arr) 0 (nI xs.length) = some (some (σ.2.1 + 1), jfn (va_up (va_up ψ1 (σ.2.1 + 1) (some (.inr (.inl (1, xs.length, fun _ => 0))))) (σ.2.1 + 1) (some row)) (σ.2.1 + 1 + 1, σ.2.2 + 4 + xs.length)) := hcr
          simp [f_J9_init_2, f_J9_init_2_b, f_J7_getValue_J8, f_J8_length, f_J7_length_J8, f_J7_isLatin1_J8, gI_fn, gR_fn, pI_fn, pR_fn, pB_fn, rc_fn, jck_fn, bd_some, Option.bind_some, va_up_self, gIv_i, gRv_r, gRv_n, gRv_rf, List.getElem?_cons_zero, List.getElem?_cons_succ, List.set_cons_zero, List.set_cons_succ, List.length_cons, List.length_nil, jfn_2, if_true, if_false, and_true, true_and, Nat.le_refl, va_up_ne _ _ hza, e1, hzn, hcr', w9, va_rf_s]
        simp only [f_J8_toString, f_J8_toString_b, f_J9_init, f_J9_init_b, nO_fn, gI_fn, gR_fn, pI_fn, pR_fn, pB_fn, rc_fn, jck_fn, bd_some, Option.bind_some, va_up_self, gIv_i, gRv_r, gRv_n, gRv_rf, List.getElem?_cons_zero, List.getElem?_cons_succ, List.set_cons_zero, List.set_cons_succ, List.length_cons, List.length_nil, jfn_2, if_true, if_false, and_true, true_and, Nat.le_refl, hi2]
        rw [if_pos ⟨by omega, by omega⟩]
        simp only [gI_fn, gR_fn, pI_fn, pR_fn, pB_fn, rc_fn, jck_fn, bd_some, Option.bind_some, va_up_self, gIv_i, gRv_r, gRv_n, gRv_rf, List.getElem?_cons_zero, List.getElem?_cons_succ, List.set_cons_zero, List.set_cons_succ, List.length_cons, List.length_nil, jfn_2, if_true, if_false, and_true, true_and, Nat.le_refl]
        rw [if_pos ⟨by omega, by omega⟩]
      case h2 =>
        refine jRelW.upd (a := σ.2.1) (c' := (4, [], xs, 0, 0)) (gh' := gh) (ps := [(σ.2.1, .inl (21, [.ref (σ.2.1 + 1), .int 0, .int 0, .int 0])), (σ.2.1 + 1, row)]) hr (Or.inl hz1) hzn (fun c y hcb hy => ⟨by rw [← hy]; exact (va_up_ne _ _ hcb).symm, fun _ _ => rfl⟩) (va_up_self _ _ _) (fun _ _ => rfl) (((((Kp.rf.new hz1).new hz1).new hz2).new hz2).new hz1) (fun y hy => ?_) ?_
        · rcases List.mem_cons.mp hy with rfl | hy
          · exact ⟨va_up_self _ _ _, Or.inr (Or.inl hz1)⟩
          · rw [List.mem_singleton.mp hy]
            exact ⟨by rw [va_up_ne _ _ (Ne.symm hzz), va_up_self], Or.inr (Or.inl hz2)⟩
        · refine ⟨σ.2.1 + 1, va_cpy f (fun _ => 0) 0 0 xs.length, 0, 0, rfl, by omega, fun i hi => ?_, h8, fun _ => ⟨by omega, Or.inl rfl, fun q => absurd q (by decide), fun q => absurd rfl q⟩⟩
          unfold va_cpy
          rw [if_pos (by omega), show 0 + (i - 0) = i by omega]
          exact h7 i hi
  · cases h
theorem p_J9_length (hr : jRel G σ.1 φ) {v : Int32} (h : sLen σ a = some v) (n : Nat) : f_J9_length G n (jfn φ σ.2) a = some v := by
  obtain ⟨ow, gh, hr⟩ := hr
  unfold sLen at h
  split at h
  · next rs xs c d hs =>
    obtain ⟨-, arr, f, hsh, hz, e1, e2, -⟩ := open_ST hr hs
    cases h
    have hj : ∀ o : Option Int32, jbo .byte 0 o = o := fun o => rfl
    simp [f_J9_length, f_J9_coder, gI_fn, gR_fn, pI_fn, pR_fn, pB_fn, rc_fn, jck_fn, bd_some, Option.bind_some, va_up_self, gIv_i, gRv_r, gRv_n, gRv_rf, List.getElem?_cons_zero, List.getElem?_cons_succ, List.set_cons_zero, List.set_cons_succ, List.length_cons, List.length_nil, jfn_2, if_true, if_false, and_true, true_and, Nat.le_refl, e1, aLenB e2, hj, shr0]
  · cases h
theorem p_chr {z : Nat × Nat} {arr n : Nat} {xs : List Int32} {f : Nat → Int32} {hsh hz : Int32} (e1 : φ a = some (.inl (21, [.ref arr, .int 0, .int hsh, .int hz]))) (e2 : φ arr = some (.inr (.inl (1, xs.length, f)))) (h3 : xs.length < 2 ^ 30) (h4 : ∀ i, i < xs.length → some (f i) = xs[i]?) (h5 : ∀ x ∈ xs, 0 ≤ x ∧ x < 128) {k : Nat} (hk : k < xs.length) {v : Int32} (hv : xs[k]? = some v) : f_J9_charAt G n (jfn φ z) a (nI k) = some v := by
  have hf : f k = v := Option.some.inj ((h4 k hk).trans hv)
  obtain ⟨w, hw, rfl⟩ := char_of (h5 v (List.mem_of_getElem? hv)).1 (h5 v (List.mem_of_getElem? hv)).2
  have hc : f_J9_checkIndex G n (jfn φ z) (nI k) (nI xs.length) = some () := by
    unfold f_J9_checkIndex
    rw [f_chk hk (by omega)]
    rfl
  have hai : aI (jfn φ z) (some arr) 1 (nI k) = some (nI w) := by rw [aI_at e2 hk (by omega), hf]
  have h15 : f_J15_charAt G n (jfn φ z) (some arr) (nI k) = some (nI w) := by
    simp only [f_J15_charAt, aLenB e2, Option.bind_some, hc, hai, charm1 hw, charm2 hw]
  have hl : f_J9_isLatin1 G n (jfn φ z) a = some 1 := by
    simp [f_J9_isLatin1, gI_fn, gR_fn, pI_fn, pR_fn, pB_fn, rc_fn, jck_fn, bd_some, Option.bind_some, va_up_self, gIv_i, gRv_r, gRv_n, gRv_rf, List.getElem?_cons_zero, List.getElem?_cons_succ, List.set_cons_zero, List.set_cons_succ, List.length_cons, List.length_nil, jfn_2, if_true, if_false, and_true, true_and, Nat.le_refl, e1]
  simp [f_J9_charAt, gI_fn, gR_fn, pI_fn, pR_fn, pB_fn, rc_fn, jck_fn, bd_some, Option.bind_some, va_up_self, gIv_i, gRv_r, gRv_n, gRv_rf, List.getElem?_cons_zero, List.getElem?_cons_succ, List.set_cons_zero, List.set_cons_succ, List.length_cons, List.length_nil, jfn_2, if_true, if_false, and_true, true_and, Nat.le_refl, e1, hl, h15, charm2 hw]
theorem p_J9_charAt (hr : jRel G σ.1 φ) {i v : Int32} (h : sChr σ a i = some v) (n : Nat) : f_J9_charAt G n (jfn φ σ.2) a i = some v := by
  obtain ⟨ow, gh, hr⟩ := hr
  unfold sChr at h
  split at h
  · next rs xs c d hs =>
    obtain ⟨-, arr, f, hsh, hz, e1, e2, -, -, h3, h4, h5, -⟩ := open_ST hr hs
    split at h
    · next hin =>
      obtain ⟨k, hk2, rfl, hkk⟩ := zI_of (fun q => hin (Or.inl q))
      rw [hkk] at h hin
      exact p_chr e1 e2 h3 h4 h5 (Nat.not_le.mp (fun q => hin (Or.inr q))) h
    · cases h
  · cases h
theorem stTxt_some {xs : List Int32} (h : stTxt σ a = some xs) : ∃ rs c d, σ.1 a = some (.inr (4, rs, xs, c, d)) := by
  unfold stTxt cG at h
  split at h
  · next rs xs' r hc =>
    cases h
    split at hc
    · next hs => cases hc; exact ⟨_, _, _, hs⟩
    · cases hc
  · cases h
/-- equals -/
theorem eq_loop {z : Nat × Nat} {p q n : Nat} {xs ys : List Int32} {f g : Nat → Int32} (e1 : φ p = some (.inr (.inl (1, xs.length, f)))) (e2 : φ q = some (.inr (.inl (1, ys.length, g)))) (hl : xs.length = ys.length) (h3 : xs.length < 2 ^ 30) (h4 : ∀ i, i < xs.length → some (f i) = xs[i]?) (h5 : ∀ i, i < ys.length → some (g i) = ys[i]?) : ∀ (d j m : Nat), j + d = xs.length → jloop (f_J15_equals_h9 G n (jfn φ z) (some p) (some q)) (d + 1 + m) (nI j) = some (if xs.drop j = ys.drop j then 1 else 0) := by
  intro d
  induction d with
  | zero =>
    intro j m hj
    rw [show 0 + 1 + m = m + 1 by omega, jloop_s]
    unfold f_J15_equals_h9
    dsimp only
    rw [aLenB e1, Option.bind_some, if_pos (by rw [zI_le (by omega) (by omega)]; omega), List.drop_eq_nil_of_le (by omega), List.drop_eq_nil_of_le (by omega), if_pos rfl]
  | succ d ih =>
    intro j m hj
    have hjx : j < xs.length := by omega
    have hjy : j < ys.length := by omega
    have hstep : ∀ rec, f_J15_equals_h9 G n (jfn φ z) (some p) (some q) rec (nI j) = if f j = g j then rec (nI (j + 1)) else some 0 := by
      intro rec
      unfold f_J15_equals_h9
      dsimp only
      rw [aLenB e1, Option.bind_some, if_neg (by rw [zI_le (by omega) (by omega)]; omega), aI_at e1 hjx (by omega), Option.bind_some, aI_at e2 hjy (by omega), Option.bind_some, zI_add1]
    rw [show d + 1 + 1 + m = (d + 1 + m) + 1 by omega, jloop_s, hstep]
    have hx : xs.drop j = f j :: xs.drop (j + 1) := by
      rw [List.drop_eq_getElem_cons hjx]
      congr 1
      have := h4 j hjx
      rw [List.getElem?_eq_getElem hjx] at this
      exact (Option.some.inj this).symm
    have hy : ys.drop j = g j :: ys.drop (j + 1) := by
      rw [List.drop_eq_getElem_cons hjy]
      congr 1
      have := h5 j hjy
      rw [List.getElem?_eq_getElem hjy] at this
      exact (Option.some.inj this).symm
    rw [hx, hy]
    by_cases hfg : f j = g j
    · rw [if_pos hfg, ih (j + 1) m (by omega), hfg]
      congr 1
      by_cases hd : xs.drop (j + 1) = ys.drop (j + 1)
      · rw [if_pos hd, if_pos (by rw [hd])]
      · rw [if_neg hd, if_neg (fun q => hd (List.cons.inj q).2)]
    · rw [if_neg hfg, if_neg (fun q => hfg (List.cons.inj q).1)]
theorem p_J9_equals (hr : jRel G σ.1 φ) {r : Option Nat} {v : Int32} (h : stEq σ a r = some v) : ∃ n, f_J9_equals G n (jfn φ σ.2) a r = some v := by
  obtain ⟨ow, gh, hr⟩ := hr
  obtain ⟨b, hrb, h1⟩ := Option.bind_eq_some_iff.mp h
  subst hrb
  obtain ⟨xs, hx, h2⟩ := Option.bind_eq_some_iff.mp h1
  obtain ⟨ys, hy, rfl⟩ := Option.map_eq_some_iff.mp h2
  by_cases hab : a = b
  · subst hab
    cases hx.symm.trans hy
    exact ⟨0, by simp [f_J9_equals]⟩
  · obtain ⟨rs, c, d, hs⟩ := stTxt_some hx
    obtain ⟨rs2, c2, d2, hs2⟩ := stTxt_some hy
    obtain ⟨-, arr, f, hsh, hz, e1, e2, -, -, h3, h4, -, -⟩ := open_ST hr hs
    obtain ⟨-, brr, g, hsh2, hz2, p1, p2, -, -, p3, p4, -, -⟩ := open_ST hr hs2
    refine ⟨xs.length + 1 + 0, ?_⟩
    have h15 : f_J15_equals G (xs.length + 1 + 0) (jfn φ σ.2) (some arr) (some brr) = some (if xs = ys then 1 else 0) := by
      unfold f_J15_equals
      rw [aLenB e2, Option.bind_some, aLenB p2, Option.bind_some]
      by_cases hl : xs.length = ys.length
      · rw [if_pos (by rw [hl])]
        have := eq_loop (G := G) (z := σ.2) (n := xs.length + 1 + 0) e2 p2 hl h3 h4 p4 xs.length 0 0 (by omega)
        rw [List.drop_zero, List.drop_zero] at this
        exact this
      · rw [if_neg (by rw [zI_inj (by omega) (by omega)]; exact hl), if_neg (fun q => hl (by rw [q]))]
    have hne : ¬ (some a = some b) := fun q => hab (Option.some.inj q)
    have hc : ([21] : List Nat).contains 21 = true := rfl
    simp only [f_J9_equals, f_J9_equals_j36, if_neg hne, jIs_fn, jckc_fn, gI_fn, gR_fn, pI_fn, pR_fn, pB_fn, rc_fn, jck_fn, bd_some, Option.bind_some, va_up_self, gIv_i, gRv_r, gRv_n, gRv_rf, List.getElem?_cons_zero, List.getElem?_cons_succ, List.set_cons_zero, List.set_cons_succ, List.length_cons, List.length_nil, jfn_2, if_true, if_false, and_true, true_and, Nat.le_refl, e1, p1, h15, hc]
    by_cases hxy : xs = ys
    · simp [hxy]
    · simp [hxy]
/-- hashCode -/
theorem and255 : ∀ k : Fin 128, nI k.1 &&& 255 = nI k.1 := by decide +kernel
theorem hash_loop {z : Nat × Nat} {p n : Nat} {xs : List Int32} {f : Nat → Int32} {w1 w2 w3 : Int32} (e1 : φ p = some (.inr (.inl (1, xs.length, f)))) (h3 : xs.length < 2 ^ 30) (h4 : ∀ i, i < xs.length → some (f i) = xs[i]?) (h5 : ∀ x ∈ xs, 0 ≤ x ∧ x < 128) : ∀ (d j m : Nat) (r : Int32), j + d = xs.length → jloop (f_J11_signedHashCode_h8 G n (jfn φ z) w1 (some p) w2 w3 (nI xs.length)) (d + 1 + m) (r, nI j) = some ((xs.drop j).foldl (fun h x => 31 * h + x) r) := by
  intro d
  induction d with
  | zero =>
    intro j m r hj
    rw [show 0 + 1 + m = m + 1 by omega, jloop_s]
    unfold f_J11_signedHashCode_h8
    dsimp only
    rw [if_pos (by rw [zI_le (by omega) (by omega)]; omega), List.drop_eq_nil_of_le (by omega)]
    rfl
  | succ d ih =>
    intro j m r hj
    have hjx : j < xs.length := by omega
    have hfj := h4 j hjx
    obtain ⟨w, hw, hfw⟩ := char_of (h5 (f j) (List.mem_of_getElem? hfj.symm)).1 (h5 (f j) (List.mem_of_getElem? hfj.symm)).2
    rw [show d + 1 + 1 + m = (d + 1 + m) + 1 by omega, jloop_s]
    unfold f_J11_signedHashCode_h8
    dsimp only
    rw [if_neg (by rw [zI_le (by omega) (by omega)]; omega), aI_at e1 hjx (by omega), Option.bind_some, zI_add1, hfw, and255 ⟨w, hw⟩]
    have := ih (j + 1) m (31 * r + nI w) (by omega)
    unfold f_J11_signedHashCode_h8 at this
    rw [this]
    have hx : xs.drop j = nI w :: xs.drop (j + 1) := by
      rw [List.drop_eq_getElem_cons hjx]
      congr 1
      rw [List.getElem?_eq_getElem hjx] at hfj
      exact (Option.some.inj hfj).symm.trans hfw
    rw [hx, List.foldl_cons]
theorem p_hash {z : Nat × Nat} {p : Nat} {xs : List Int32} {f : Nat → Int32} (e1 : φ p = some (.inr (.inl (1, xs.length, f)))) (hp : G.2.2.1 ≤ p) (h3 : xs.length < 2 ^ 30) (h4 : ∀ i, i < xs.length → some (f i) = xs[i]?) (h5 : ∀ x ∈ xs, 0 ≤ x ∧ x < 128) : f_J15_hashCode G (xs.length + 1 + 0) (jfn φ z) (some p) = some (xs.foldl (fun h x => 31 * h + x) 0) := by
  unfold f_J15_hashCode
  rw [aLenB e1, Option.bind_some]
  by_cases h0 : xs.length = 0
  · rw [if_pos (by rw [h0]; rfl), List.length_eq_zero_iff.mp h0]
    rfl
  · rw [if_neg (by rw [zI_zero, zI_inj (by omega) (by omega)]; exact h0)]
    by_cases h1 : xs.length = 1
    · rw [if_pos (by rw [h1]; rfl)]
      have hf0 := h4 0 (by omega)
      obtain ⟨w, hw, hfw⟩ := char_of (h5 (f 0) (List.mem_of_getElem? hf0.symm)).1 (h5 (f 0) (List.mem_of_getElem? hf0.symm)).2
      rw [show (0 : Int32) = nI 0 from rfl, aI_at e1 (by omega) (by omega), Option.bind_some, hfw, and255 ⟨w, hw⟩]
      obtain ⟨x, rfl⟩ := List.length_eq_one_iff.mp h1
      rw [hfw] at hf0
      have : x = nI w := (Option.some.inj hf0).symm
      subst this
      show some (nI w) = some (31 * 0 + nI w)
      congr 1
      rw [Int32.mul_zero, Int32.zero_add]
    · rw [if_neg (by rw [zI_one, zI_inj (by omega) (by omega)]; exact h1), Option.bind_some]
      unfold f_J11_vectorizedHashCode
      rw [if_pos rfl, gB_fn, e1]
      dsimp only
      rw [if_pos ⟨rfl, hp⟩, Option.bind_some]
      unfold f_J11_signedHashCode
      have := hash_loop (G := G) (z := z) (n := xs.length + 1 + 0) (w1 := 0) (w2 := 0) (w3 := nI xs.length) e1 h3 h4 h5 xs.length 0 0 0 (by omega)
      rw [List.drop_zero] at this
      rw [Int32.zero_add]
      rw [show ((0 : Int32), (0 : Int32)) = ((0 : Int32), nI 0) from rfl, this]
      rfl
theorem p_J9_hashCode (hr : jRel G σ.1 φ) {v : Int32} (h : stHash G σ a = some (v, σ')) : ∃ n φ', f_J9_hashCode G n (jfn φ σ.2) a = some (v, jfn φ' σ'.2) ∧ jRel G σ'.1 φ' := by
  have hr0 := hr
  obtain ⟨ow, gh, hr⟩ := hr
  unfold stHash at h
  split at h
  · next hn =>
    obtain ⟨xs, hx, h⟩ := Option.map_eq_some_iff.mp h
    cases h
    obtain ⟨rs, c, d, hs⟩ := stTxt_some hx
    obtain ⟨hoa, arr, f, hsh, hz, e1, e2, e3, hne, h3, h4, h5, h6⟩ := open_ST hr hs
    obtain ⟨h6, h7, h8, h9⟩ := h6 hn
    have hown : ow arr = a := e3.elim (fun q => absurd h6 (Nat.not_le.mpr q)) (fun q => q.2)
    have hupd : ∀ hs' hz' : Int32, (hz' = 0 ∨ hz' = 1) → (hz' = 1 → hs' = 0 ∧ xs.foldl (fun h x => 31 * h + x) 0 = 0) → (hs' ≠ 0 → hs' = xs.foldl (fun h x => 31 * h + x) 0) → jRel G σ.1 (va_up φ a (some (.inl (21, [.ref arr, .int 0, .int hs', .int hz'])))) := by
      intro hs' hz' k1 k2 k3
      refine jRelW.upd (a := a) (c' := (4, rs, xs, c, d)) (gh' := gh) (ps := [(a, .inl (21, [.ref arr, .int 0, .int hs', .int hz'])), (arr, .inr (.inl (1, xs.length, f)))]) hr (Or.inr hoa) hn (fun b x hb hx => ⟨hx, fun _ _ => rfl⟩) hs (fun _ _ => rfl) (Kp.rf.own hn hoa) (fun y hy => ?_) ⟨arr, f, hs', hz', rfl, h3, h4, h5, fun _ => ⟨h6, k1, k2, k3⟩⟩
      rcases List.mem_cons.mp hy with rfl | hy
      · exact ⟨va_up_self _ _ _, Or.inr (Or.inr hoa)⟩
      · rw [List.mem_singleton.mp hy]
        exact ⟨by rw [va_up_ne _ _ hne]; exact e2, Or.inr (Or.inr hown)⟩
    have hH := p_hash (G := G) (z := σ.2) e2 h6 h3 h4 h5
    have hl : f_J9_isLatin1 G (xs.length + 1 + 0) (jfn φ σ.2) a = some 1 := by
      simp [f_J9_isLatin1, gI_fn, gR_fn, pI_fn, pR_fn, pB_fn, rc_fn, jck_fn, bd_some, Option.bind_some, va_up_self, gIv_i, gRv_r, gRv_n, gRv_rf, List.getElem?_cons_zero, List.getElem?_cons_succ, List.set_cons_zero, List.set_cons_succ, List.length_cons, List.length_nil, jfn_2, if_true, if_false, and_true, true_and, Nat.le_refl, e1]
    obtain ⟨H, hHe⟩ : ∃ H, H = xs.foldl (fun h x => 31 * h + x) 0 := ⟨_, rfl⟩
    rw [← hHe] at hH h8 h9 hupd ⊢
    by_cases hs0 : hsh = 0
    · by_cases hz0 : hz = 0
      · subst hs0; subst hz0
        by_cases hv : H = 0
        · refine ⟨xs.length + 1 + 0, _, ?_, hupd 0 1 (Or.inr rfl) (fun _ => ⟨rfl, hv⟩) (fun q => absurd rfl q)⟩
          simp [f_J9_hashCode, f_J9_hashCode_b, gI_fn, gR_fn, pI_fn, pR_fn, pB_fn, rc_fn, jck_fn, bd_some, Option.bind_some, va_up_self, gIv_i, gRv_r, gRv_n, gRv_rf, List.getElem?_cons_zero, List.getElem?_cons_succ, List.set_cons_zero, List.set_cons_succ, List.length_cons, List.length_nil, jfn_2, if_true, if_false, and_true, true_and, Nat.le_refl, e1, hl, hH, hv, hn]
        · refine ⟨xs.length + 1 + 0, _, ?_, hupd H 0 (Or.inl rfl) (fun q => absurd q (by decide)) (fun _ => rfl)⟩
          simp [f_J9_hashCode, f_J9_hashCode_b, gI_fn, gR_fn, pI_fn, pR_fn, pB_fn, rc_fn, jck_fn, bd_some, Option.bind_some, va_up_self, gIv_i, gRv_r, gRv_n, gRv_rf, List.getElem?_cons_zero, List.getElem?_cons_succ, List.set_cons_zero, List.set_cons_succ, List.length_cons, List.length_nil, jfn_2, if_true, if_false, and_true, true_and, Nat.le_refl, e1, hl, hH, hv, hn]
      · have hz1 : hz = 1 := h7.resolve_left hz0
        subst hs0; subst hz1
        refine ⟨xs.length + 1 + 0, φ, ?_, hr0⟩
        simp [f_J9_hashCode, f_J9_hashCode_b, gI_fn, gR_fn, pI_fn, pR_fn, pB_fn, rc_fn, jck_fn, bd_some, Option.bind_some, va_up_self, gIv_i, gRv_r, gRv_n, gRv_rf, List.getElem?_cons_zero, List.getElem?_cons_succ, List.set_cons_zero, List.set_cons_succ, List.length_cons, List.length_nil, jfn_2, if_true, if_false, and_true, true_and, Nat.le_refl, e1, (h8 rfl).2]
    · refine ⟨xs.length + 1 + 0, φ, ?_, hr0⟩
      simp [f_J9_hashCode, f_J9_hashCode_b, gI_fn, gR_fn, pI_fn, pR_fn, pB_fn, rc_fn, jck_fn, bd_some, Option.bind_some, va_up_self, gIv_i, gRv_r, gRv_n, gRv_rf, List.getElem?_cons_zero, List.getElem?_cons_succ, List.set_cons_zero, List.set_cons_succ, List.length_cons, List.length_nil, jfn_2, if_true, if_false, and_true, true_and, Nat.le_refl, e1, hs0]
      exact h9 hs0
  · cases h
end ST
