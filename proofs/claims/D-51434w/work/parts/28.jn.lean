/-! ArrayDeque: the plain part -/
set_option maxRecDepth 100000
theorem mod_up {x n : Nat} (h1 : n ≤ x) (h2 : x < 2 * n) : x % n = x - n := by
  rw [Nat.mod_eq_sub_mod h1, Nat.mod_eq_of_lt (by omega)]
theorem mod_lo {x n : Nat} (h1 : x < n) : x % n = x := Nat.mod_eq_of_lt h1
theorem open_DQ {G : jG} {gh : jGh} {ow : Nat → Nat} {h : Nat → Option jX} {φ : Nat → Option jE} {a : Nat} {rs : List (Option Nat)} {is : List Int32} {cap d : Nat} (hr : jRelW G gh ow h φ) (ha : h a = some (.inr (2, rs, is, cap, d))) :
    ow a = a ∧ ∃ (arr hd : Nat) (f : Nat → Option Nat), φ a = some (.inl (18, [.ref arr, .int (nI hd), .int (nI ((hd + rs.length) % cap))])) ∧ φ arr = some (.inr (.inr (.inr (cap, f)))) ∧ ow arr = a ∧ arr ≠ a ∧ G.2.2.1 ≤ arr ∧ rs.length < cap ∧ hd < cap ∧ cap < 2 ^ 30 ∧ (∀ i, i < rs.length → some (f ((hd + i) % cap)) = rs[i]?) ∧ (∀ i, rs.length ≤ i → i < cap → f ((hd + i) % cap) = none) ∧ (∀ r ∈ rs, r ≠ none) := by
  obtain ⟨h1, ps, h2, arr, hd, f, rfl, h3, h4, h5, h6, h7, h8, h9⟩ := hr a _ ha
  have e1 := h2 _ List.mem_cons_self
  have e2 := h2 _ (List.mem_cons_of_mem _ List.mem_cons_self)
  refine ⟨h1, arr, hd, f, e1.1, e2.1, e2.2.elim (fun q => absurd h3 (Nat.not_le.mpr q)) (fun q => q.2), ?_, h3, h4, h5, h6, h7, h8, h9⟩
  rintro rfl
  have e3 := e1.1.symm.trans e2.1
  cases e3
theorem close_DQ {G : jG} {gh : jGh} {ow : Nat → Nat} {σ : jH} {φ φ' : Nat → Option jE} {a : Nat} {rs' : List (Option Nat)} {is : List Int32} {cap d arr hd tl : Nat} {f : Nat → Option Nat} (hr : jRelW G gh ow σ.1 φ) (hn : G.2.2.1 ≤ a) (hoa : φ a = none ∨ ow a = a)
    (h1 : φ' a = some (.inl (18, [.ref arr, .int (nI hd), .int (nI tl)]))) (ht : tl = (hd + rs'.length) % cap) (h2 : φ' arr = some (.inr (.inr (.inr (cap, f))))) (hown : φ arr = none ∨ ow arr = a) (h3 : G.2.2.1 ≤ arr) (h4 : rs'.length < cap) (h5 : hd < cap) (h6 : cap < 2 ^ 30) (h7 : ∀ i, i < rs'.length → some (f ((hd + i) % cap)) = rs'[i]?) (h8 : ∀ i, rs'.length ≤ i → i < cap → f ((hd + i) % cap) = none) (h9 : ∀ r ∈ rs', r ≠ none) (hφ : Kp G ow a φ φ') : jRel G (cP σ a (2, rs', is, cap, d)).1 φ' := by
  subst ht
  refine jRelW.upd (gh' := gh) (ps := [(a, .inl (18, [.ref arr, .int (nI hd), .int (nI ((hd + rs'.length) % cap))])), (arr, .inr (.inr (.inr (cap, f))))]) hr hoa hn cP_hh cP_a (fun _ _ => rfl) hφ (fun x hx => ?_) ⟨arr, hd, f, rfl, h3, h4, h5, h6, h7, h8, h9⟩
  rcases List.mem_cons.mp hx with rfl | hx
  · exact ⟨h1, hoa.elim (fun q => Or.inr (Or.inl q)) (fun q => Or.inr (Or.inr q))⟩
  · rw [List.mem_singleton.mp hx]
    exact ⟨h2, Or.inr hown⟩
theorem toInt_subn {a b : Nat} (ha : a < 2 ^ 31) (hb : b < 2 ^ 31) : (nI a - nI b).toInt = (a : Int) - b := by
  rw [Int32.toInt_sub, zI_toInt ha, zI_toInt hb, Int.bmod_def]
  omega
theorem sub_addn (x y w : Int32) : x - y + w = x + w - y := by
  rw [Int32.sub_eq_add_neg, Int32.add_assoc, Int32.add_comm (-y), ← Int32.add_assoc, ← Int32.sub_eq_add_neg]
section DQ
variable {G : jG} {σ σ' : jH} {φ : Nat → Option jE} {a : Nat}
theorem p_J20_size (hr : jRel G σ.1 φ) {v : Int32} (h : dqSize σ a = some v) (n : Nat) : f_J20_size G n (jfn φ σ.2) a = some v := by
  obtain ⟨ow, gh, hr⟩ := hr
  obtain ⟨rs, hrs, rfl⟩ := Option.map_eq_some_iff.mp h
  obtain ⟨is, cap, d, hs⟩ := cRs_some hrs
  obtain ⟨-, arr, hd, f, e1, e2, -, -, -, h4, h5, h6, -, -, -⟩ := open_DQ hr hs
  simp only [f_J20_size, f_J20_sub, gI_fn, gR_fn, pI_fn, pR_fn, pB_fn, rc_fn, jck_fn, bd_some, Option.bind_some, va_up_self, gIv_i, gRv_r, gRv_n, gRv_rf, List.getElem?_cons_zero, List.getElem?_cons_succ, List.set_cons_zero, List.set_cons_succ, List.length_cons, List.length_nil, jfn_2, if_true, if_false, and_true, true_and, Nat.le_refl, e1, aLenR e2]
  have ht : (hd + rs.length) % cap < cap := Nat.mod_lt _ (by omega)
  by_cases hw : hd + rs.length < cap
  · rw [mod_lo hw, zI_sub (by omega), if_pos (by rw [zI_zero, zI_le (by omega) (by omega)]; omega)]
    simp
  · rw [mod_up (by omega) (by omega), if_neg (by
      rw [Int32.le_iff_toInt_le, toInt_subn (by omega) (by omega)]
      rw [show ((0 : Int32).toInt) = 0 from rfl]
      omega), sub_addn, zI_add, zI_sub (by omega)]
    simp only [Option.bind_some]
    congr 2
    omega
theorem p_J20_isEmpty (hr : jRel G σ.1 φ) {v : Int32} (h : dqEmpty σ a = some v) (n : Nat) : f_J20_isEmpty G n (jfn φ σ.2) a = some v := by
  obtain ⟨ow, gh, hr⟩ := hr
  obtain ⟨rs, hrs, rfl⟩ := Option.map_eq_some_iff.mp h
  obtain ⟨is, cap, d, hs⟩ := cRs_some hrs
  obtain ⟨-, arr, hd, f, e1, e2, -, -, -, h4, h5, h6, -, -, -⟩ := open_DQ hr hs
  have ht : (hd + rs.length) % cap < cap := Nat.mod_lt _ (by omega)
  have e : (nI hd = nI ((hd + rs.length) % cap)) ↔ rs.length = 0 := by
    rw [zI_inj (by omega) (by omega)]
    by_cases hw : hd + rs.length < cap
    · rw [mod_lo hw]; omega
    · rw [mod_up (by omega) (by omega)]; omega
  simp only [f_J20_isEmpty, gI_fn, gR_fn, pI_fn, pR_fn, pB_fn, rc_fn, jck_fn, bd_some, Option.bind_some, va_up_self, gIv_i, gRv_r, gRv_n, gRv_rf, List.getElem?_cons_zero, List.getElem?_cons_succ, List.set_cons_zero, List.set_cons_succ, List.length_cons, List.length_nil, jfn_2, if_true, if_false, and_true, true_and, Nat.le_refl, e1, e]
  by_cases hz : rs.length = 0 <;> simp [hz]
theorem p_J20_init (hr : jRel G σ.1 φ) (hz : ∀ b, σ.2.1 ≤ b → φ b = none) (hzn : G.2.2.1 ≤ σ.2.1) {v : Unit} (h : dqInit G σ a = some (v, σ')) : ∃ n φ', f_J20_init G n (jfn φ σ.2) a = some (v, jfn φ' σ'.2) ∧ jRel G σ'.1 φ' := by
  obtain ⟨ow, gh, hr⟩ := hr
  unfold dqInit at h
  split at h
  · next hc =>
    obtain ⟨hs, hn⟩ := isO_some hc
    cases h
    have e1 := (hr a _ hs).1
    have hoa := (hr a _ hs).2
    have hz1 : φ σ.2.1 = none := hz _ (Nat.le_refl _)
    have hza : σ.2.1 ≠ a := by rintro h; rw [h, e1] at hz1; cases hz1
    refine ⟨0, va_up (va_up φ σ.2.1 (some (.inr (.inr (.inr (17, fun _ => none)))))) a (some (.inl (18, [.ref σ.2.1, .int 0, .int 0]))), ?_, ?_⟩
    · have := nR_at (φ := φ) (z := σ.2) (show 17 ≤ 65536 by omega)
      rw [show nI 17 = (17 : Int32) from rfl] at this
      simp [f_J20_init, f_J20_init_b, f_J0_init_J20, gI_fn, gR_fn, pI_fn, pR_fn, pB_fn, rc_fn, jck_fn, bd_some, Option.bind_some, va_up_self, gIv_i, gRv_r, gRv_n, gRv_rf, List.getElem?_cons_zero, List.getElem?_cons_succ, List.set_cons_zero, List.set_cons_succ, List.length_cons, List.length_nil, jfn_2, if_true, if_false, and_true, true_and, Nat.le_refl, e1, hn, this, va_up_ne _ _ (Ne.symm hza), va_rf_s]
      rfl
    · exact close_DQ hr hn (Or.inr hoa) (hd := 0) (tl := 0) (f := fun _ => none) (rs' := []) (va_up_self _ _ _) rfl (by rw [va_up_ne _ _ hza, va_up_self]) (Or.inl hz1) hzn (by decide) (by decide) (by decide) (fun i hi => absurd hi (Nat.not_lt_zero _)) (fun _ _ _ => rfl) (fun r hr => by cases hr) ((Kp.rf.new hz1).own hn hoa)
  · cases h
theorem p_J20_addLast (hr : jRel G σ.1 φ) {x : Option Nat} {v : Unit} (h : dqAdd G σ a x = some (v, σ')) : ∃ n φ', f_J20_addLast G n (jfn φ σ.2) a x = some (v, jfn φ' σ'.2) ∧ jRel G σ'.1 φ' := by
  obtain ⟨ow, gh, hr⟩ := hr
  unfold dqAdd at h
  split at h
  · next rs is cap d hs =>
    obtain ⟨hn, hs⟩ := cW_some hs
    obtain ⟨hoa, arr, hd, f, e1, e2, hown, hne, h3, h4, h5, h6, h7, h8, h9⟩ := open_DQ hr hs
    split at h
    · next hc =>
      obtain ⟨hc1, hxn, hok⟩ := hc
      cases h
      have ht : (hd + rs.length) % cap < cap := Nat.mod_lt _ (by omega)
      have hlen : (rs ++ [x]).length = rs.length + 1 := by simp
      have hinc : ∀ τ, f_J20_inc G 0 τ (nI ((hd + rs.length) % cap)) (nI cap) = some (nI ((hd + (rs.length + 1)) % cap)) := by
        intro τ
        unfold f_J20_inc
        rw [zI_add1]
        by_cases hw : hd + rs.length < cap
        · rw [mod_lo hw]
          by_cases hw2 : hd + rs.length + 1 < cap
          · rw [if_pos ((zI_lt (by omega) (by omega)).mpr hw2), mod_lo (show hd + (rs.length + 1) < cap by omega)]; rfl
          · rw [if_neg (fun q => hw2 ((zI_lt (by omega) (by omega)).mp q)), mod_up (show cap ≤ hd + (rs.length + 1) by omega) (by omega), show hd + (rs.length + 1) - cap = 0 by omega]; rfl
        · rw [mod_up (by omega) (by omega), if_pos ((zI_lt (by omega) (by omega)).mpr (by omega)), mod_up (show cap ≤ hd + (rs.length + 1) by omega) (by omega)]
          congr 2
          omega
      have hnt : ¬ nI hd = nI ((hd + (rs.length + 1)) % cap) := by
        rw [zI_inj (by omega) (by have := Nat.mod_lt (hd + (rs.length + 1)) (show 0 < cap by omega); omega)]
        by_cases hw : hd + (rs.length + 1) < cap
        · rw [mod_lo hw]; omega
        · rw [mod_up (by omega) (by omega)]; omega
      have hinj : ∀ i, i < cap → (hd + i) % cap = (hd + rs.length) % cap → i = rs.length := by
        intro i hi h
        by_cases hw : hd + rs.length < cap <;> by_cases hw2 : hd + i < cap
        · rw [mod_lo hw, mod_lo hw2] at h; omega
        · rw [mod_lo hw, mod_up (x := hd + i) (by omega) (by omega)] at h; omega
        · rw [mod_up (x := hd + rs.length) (by omega) (by omega), mod_lo hw2] at h; omega
        · rw [mod_up (x := hd + rs.length) (by omega) (by omega), mod_up (x := hd + i) (by omega) (by omega)] at h; omega
      refine ⟨0, ?φ, ?h1, ?h2⟩
      case h1 =>
        simp only [f_J20_addLast, f_J20_addLast_b, gI_fn, gR_fn, pI_fn, pR_fn, pB_fn, rc_fn, jck_fn, bd_some, Option.bind_some, va_up_self, gIv_i, gRv_r, gRv_n, gRv_rf, List.getElem?_cons_zero, List.getElem?_cons_succ, List.set_cons_zero, List.set_cons_succ, List.length_cons, List.length_nil, jfn_2, if_true, if_false, and_true, true_and, Nat.le_refl, e1, if_neg hxn, sR_at (z := σ.2) e2 ht (by omega) h3 (okC_of hr hok)]
        simp only [gI_fn, gR_fn, pI_fn, pR_fn, pB_fn, rc_fn, jck_fn, bd_some, Option.bind_some, va_up_self, gIv_i, gRv_r, gRv_n, gRv_rf, List.getElem?_cons_zero, List.getElem?_cons_succ, List.set_cons_zero, List.set_cons_succ, List.length_cons, List.length_nil, jfn_2, if_true, if_false, and_true, true_and, Nat.le_refl, aLenR (va_up_self φ arr _), va_up_ne _ _ (Ne.symm hne), e1, hn, hinc]
        simp [gI_fn, gR_fn, pI_fn, pR_fn, pB_fn, rc_fn, jck_fn, bd_some, Option.bind_some, va_up_self, gIv_i, gRv_r, gRv_n, gRv_rf, List.getElem?_cons_zero, List.getElem?_cons_succ, List.set_cons_zero, List.set_cons_succ, List.length_cons, List.length_nil, jfn_2, if_true, if_false, and_true, true_and, Nat.le_refl, hnt]
        rfl
      case h2 =>
        refine close_DQ hr hn (Or.inr hoa) (hd := hd) (tl := (hd + (rs.length + 1)) % cap) (f := va_up f ((hd + rs.length) % cap) x) (rs' := rs ++ [x]) (va_up_self _ _ _) (by rw [hlen]) (by rw [va_up_ne _ _ hne, va_up_self]) (Or.inr hown) h3 (by rw [hlen]; exact hc1) h5 h6 (fun i hi => ?_) (fun i hi hi2 => ?_) (fun r hr => ?_) ((Kp.rf.own h3 hown).own hn hoa)
        · by_cases hil : i = rs.length
          · subst hil; rw [va_up_self]; simp
          · rw [hlen] at hi
            rw [va_up_ne _ _ (fun q => hil (hinj i (by omega) q)), List.getElem?_append_left (by omega)]
            exact h7 i (by omega)
        · rw [hlen] at hi
          rw [va_up_ne _ _ (fun q => by have := hinj i hi2 q; omega)]
          exact h8 i (by omega) hi2
        · rcases List.mem_append.mp hr with q | q
          · exact h9 r q
          · rw [List.mem_singleton.mp q]; exact hxn
    · cases h
  · cases h
theorem p_J20_removeFirst (hr : jRel G σ.1 φ) {v : Option Nat} (h : dqFirst G σ a = some (v, σ')) : ∃ n φ', f_J20_removeFirst G n (jfn φ σ.2) a = some (v, jfn φ' σ'.2) ∧ jRel G σ'.1 φ' := by
  obtain ⟨ow, gh, hr⟩ := hr
  unfold dqFirst at h
  split at h
  · next x rs is cap d hs =>
    obtain ⟨hn, hs⟩ := cW_some hs
    obtain ⟨hoa, arr, hd, f, e1, e2, hown, hne, h3, h4, h5, h6, h7, h8, h9⟩ := open_DQ hr hs
    cases h
    have hv : v ≠ none := h9 v List.mem_cons_self
    have hf0 : f hd = v := by
      have := h7 0 (by simp)
      rw [Nat.add_zero, mod_lo h5] at this
      exact Option.some.inj this
    rw [List.length_cons] at e1 h4 h7 h8
    have hinc : ∀ τ, f_J20_inc G 0 τ (nI hd) (nI cap) = some (nI ((hd + 1) % cap)) := by
      intro τ
      unfold f_J20_inc
      rw [zI_add1]
      by_cases hw : hd + 1 < cap
      · rw [if_pos ((zI_lt (by omega) (by omega)).mpr hw), mod_lo hw]
      · rw [if_neg (fun q => hw ((zI_lt (by omega) (by omega)).mp q)), mod_up (by omega) (by omega), show hd + 1 - cap = 0 by omega]; rfl
    have hsh : ∀ i, i + 1 < cap → ((hd + 1) % cap + i) % cap = (hd + (i + 1)) % cap := by
      intro i hi
      rw [Nat.mod_add_mod]
      congr 1
      omega
    refine ⟨0, ?φ, ?h1, ?h2⟩
    case h1 =>
      simp only [f_J20_removeFirst, f_J20_removeFirst_b, f_J20_pollFirst, f_J20_pollFirst_b, f_J20_elementAt, gI_fn, gR_fn, pI_fn, pR_fn, pB_fn, rc_fn, jck_fn, bd_some, Option.bind_some, va_up_self, gIv_i, gRv_r, gRv_n, gRv_rf, List.getElem?_cons_zero, List.getElem?_cons_succ, List.set_cons_zero, List.set_cons_succ, List.length_cons, List.length_nil, jfn_2, if_true, if_false, and_true, true_and, Nat.le_refl, e1, aR_fn e2 h5 (by omega), hf0, if_neg hv, sR_at (z := σ.2) e2 h5 (by omega) h3 (show okC φ none = true from rfl)]
      simp only [gI_fn, gR_fn, pI_fn, pR_fn, pB_fn, rc_fn, jck_fn, bd_some, Option.bind_some, va_up_self, gIv_i, gRv_r, gRv_n, gRv_rf, List.getElem?_cons_zero, List.getElem?_cons_succ, List.set_cons_zero, List.set_cons_succ, List.length_cons, List.length_nil, jfn_2, if_true, if_false, and_true, true_and, Nat.le_refl, aLenR (va_up_self φ arr _), va_up_ne _ _ (Ne.symm hne), e1, hn, hinc]
      simp [gI_fn, gR_fn, pI_fn, pR_fn, pB_fn, rc_fn, jck_fn, bd_some, Option.bind_some, va_up_self, gIv_i, gRv_r, gRv_n, gRv_rf, List.getElem?_cons_zero, List.getElem?_cons_succ, List.set_cons_zero, List.set_cons_succ, List.length_cons, List.length_nil, jfn_2, if_true, if_false, and_true, true_and, Nat.le_refl, hv]
      rfl
    case h2 =>
      refine close_DQ hr hn (Or.inr hoa) (hd := (hd + 1) % cap) (tl := (hd + (rs.length + 1)) % cap) (f := va_up f hd none) (rs' := rs) (va_up_self _ _ _) ?_ (by rw [va_up_ne _ _ hne, va_up_self]) (Or.inr hown) h3 (by omega) (Nat.mod_lt _ (by omega)) h6 (fun i hi => ?_) (fun i hi hi2 => ?_) (fun r hr => h9 r (List.mem_cons_of_mem _ hr)) ((Kp.rf.own h3 hown).own hn hoa)
      · exact (hsh rs.length (by omega)).symm
      · rw [hsh i (by omega)]
        have hni : (hd + (i + 1)) % cap ≠ hd := by
          by_cases hw : hd + (i + 1) < cap
          · rw [mod_lo hw]; omega
          · rw [mod_up (by omega) (by omega)]; omega
        rw [va_up_ne _ _ hni]
        exact h7 (i + 1) (by omega)
      · by_cases hil : i + 1 < cap
        · rw [hsh i hil]
          have hni : (hd + (i + 1)) % cap ≠ hd := by
            by_cases hw : hd + (i + 1) < cap
            · rw [mod_lo hw]; omega
            · rw [mod_up (by omega) (by omega)]; omega
          rw [va_up_ne _ _ hni]
          exact h8 (i + 1) (by omega) hil
        · rw [Nat.mod_add_mod, show hd + 1 + i = hd + cap by omega, Nat.add_mod_right, mod_lo h5, va_up_self]
  · cases h
theorem p_J20_removeLast (hr : jRel G σ.1 φ) {v : Option Nat} (h : dqLast G σ a = some (v, σ')) : ∃ n φ', f_J20_removeLast G n (jfn φ σ.2) a = some (v, jfn φ' σ'.2) ∧ jRel G σ'.1 φ' := by
  obtain ⟨ow, gh, hr⟩ := hr
  unfold dqLast at h
  split at h
  · next rs is cap d hs =>
    obtain ⟨hn, hs⟩ := cW_some hs
    obtain ⟨hoa, arr, hd, f, e1, e2, hown, hne, h3, h4, h5, h6, h7, h8, h9⟩ := open_DQ hr hs
    obtain ⟨x, hx, h⟩ := Option.map_eq_some_iff.mp h
    cases h
    have hv : v ≠ none := h9 v (List.mem_of_getLast? hx)
    have hpos : 0 < rs.length := List.length_pos_iff.mpr (fun q => by rw [q] at hx; cases hx)
    rw [List.getLast?_eq_getElem?] at hx
    have hf0 : f ((hd + (rs.length - 1)) % cap) = v := Option.some.inj ((h7 (rs.length - 1) (by omega)).trans hx)
    have ht : (hd + (rs.length - 1)) % cap < cap := Nat.mod_lt _ (by omega)
    have hdec : ∀ τ, f_J20_dec G 0 τ (nI ((hd + rs.length) % cap)) (nI cap) = some (nI ((hd + (rs.length - 1)) % cap)) := by
      intro τ
      unfold f_J20_dec
      have e : ∀ t : Nat, nI t + -1 = nI t - nI 1 := fun t => (Int32.sub_eq_add_neg (a := nI t) (b := nI 1)).symm
      rw [e]
      have h0 : (0 : Int32).toInt = 0 := rfl
      by_cases hw : hd + rs.length < cap
      · rw [mod_lo hw, if_pos (by rw [Int32.le_iff_toInt_le, toInt_subn (by omega) (by omega), h0]; omega), zI_sub (by omega), mod_lo (show hd + (rs.length - 1) < cap by omega)]
        congr 2
        omega
      · rw [mod_up (x := hd + rs.length) (by omega) (by omega)]
        by_cases hz : hd + rs.length - cap = 0
        · rw [hz, if_neg (by rw [Int32.le_iff_toInt_le, toInt_subn (by omega) (by omega), h0]; omega), mod_lo (show hd + (rs.length - 1) < cap by omega), show (1 : Int32) = nI 1 from rfl, zI_sub (by omega)]
          congr 2
          omega
        · rw [if_pos (by rw [Int32.le_iff_toInt_le, toInt_subn (by omega) (by omega), h0]; omega), zI_sub (by omega), mod_up (x := hd + (rs.length - 1)) (by omega) (by omega)]
          congr 2
          omega
    have hinj : ∀ i, i < cap → (hd + i) % cap = (hd + (rs.length - 1)) % cap → i = rs.length - 1 := by
      intro i hi h
      by_cases hw : hd + (rs.length - 1) < cap <;> by_cases hw2 : hd + i < cap
      · rw [mod_lo hw, mod_lo hw2] at h; omega
      · rw [mod_lo hw, mod_up (x := hd + i) (by omega) (by omega)] at h; omega
      · rw [mod_up (x := hd + (rs.length - 1)) (by omega) (by omega), mod_lo hw2] at h; omega
      · rw [mod_up (x := hd + (rs.length - 1)) (by omega) (by omega), mod_up (x := hd + i) (by omega) (by omega)] at h; omega
    have hlen : rs.dropLast.length = rs.length - 1 := List.length_dropLast
    obtain ⟨t0, ht0⟩ : ∃ t0, t0 = (hd + rs.length) % cap := ⟨_, rfl⟩
    obtain ⟨t, htt⟩ : ∃ t, t = (hd + (rs.length - 1)) % cap := ⟨_, rfl⟩
    simp only [← ht0, ← htt] at e1 hdec hf0 ht hinj
    have e2' : (va_up φ a (some (.inl (18, [.ref arr, .int (nI hd), .int (nI t)])))) arr = some (.inr (.inr (.inr (cap, f)))) := by rw [va_up_ne _ _ hne]; exact e2
    refine ⟨0, va_up (va_up φ a (some (.inl (18, [.ref arr, .int (nI hd), .int (nI t)])))) arr (some (.inr (.inr (.inr (cap, va_up f t none))))), ?h1, ?h2⟩
    case h1 =>
      have g1 : gR (jfn φ σ.2) (some a) 18 0 = some (some arr) := by rw [gR_fn, e1]; rfl
      have g2 : gI (jfn φ σ.2) (some a) 18 2 = some (nI t0) := by rw [gI_fn, e1]; rfl
      have g3 : pI G (jfn φ σ.2) (some a) 18 2 (nI t) = some (jfn (va_up φ a (some (.inl (18, [.ref arr, .int (nI hd), .int (nI t)])))) σ.2) := by rw [pI_fn, e1]; dsimp only; rw [if_pos ⟨rfl, by simp, hn⟩]; rfl
      have g4 : rc (jfn φ σ.2) (some a) 18 = some a := by rw [rc_fn, e1]; rfl
      have g5 : aR (jfn φ σ.2) (some arr) (nI t) = some v := by rw [aR_fn e2 ht (by omega), hf0]
      have g6 := sR_at (G := G) (z := σ.2) (x := none) e2' ht (by omega) h3 rfl
      have g7 : f_J20_pollLast G 0 (jfn φ σ.2) a = some (v, jfn (va_up (va_up φ a (some (.inl (18, [.ref arr, .int (nI hd), .int (nI t)])))) arr (some (.inr (.inr (.inr (cap, va_up f t none)))))) σ.2) := by
        unfold f_J20_pollLast f_J20_pollLast_b f_J20_elementAt
        rw [g1, Option.bind_some, g2, Option.bind_some, aLenR e2, Option.bind_some, hdec, Option.bind_some, g5, Option.bind_some, Option.bind_some, if_neg hv, g3, Option.bind_some, g6, Option.bind_some, jck_fn, if_pos ⟨Nat.le_refl _, Nat.le_refl _⟩]
      unfold f_J20_removeLast f_J20_removeLast_b
      rw [g4, Option.bind_some, g7, bd_some, if_neg hv, jck_fn, if_pos ⟨Nat.le_refl _, Nat.le_refl _⟩]
      rfl
    case h2 =>
      refine close_DQ hr hn (Or.inr hoa) (hd := hd) (tl := t) (f := va_up f t none) (rs' := rs.dropLast) (by rw [va_up_ne _ _ (Ne.symm hne), va_up_self]) (by rw [hlen]; exact htt) (va_up_self _ _ _) (Or.inr hown) h3 (by omega) h5 h6 (fun i hi => ?_) (fun i hi hi2 => ?_) (fun r hr => h9 r (List.dropLast_subset _ hr)) ((Kp.rf.own hn hoa).own h3 hown)
      · rw [hlen] at hi
        rw [va_up_ne _ _ (fun q => by have := hinj i (by omega) q; omega), List.getElem?_dropLast, if_pos hi]
        exact h7 i (by omega)
      · rw [hlen] at hi
        by_cases hil : i = rs.length - 1
        · subst hil; rw [← htt, va_up_self]
        · rw [va_up_ne _ _ (fun q => hil (hinj i hi2 q))]
          exact h8 i (by omega) hi2
  · cases h
theorem cc_step {n : Nat} {r : Option Nat} {a1 a2 x y : Int32} {B : jH} {rec : Int32 × Int32 × jH → Option (Unit × jH)} : f_J20_circularClear_h12 G n r a1 a2 rec (x, y, B) = if y ≤ x then (if y = a2 then some ((), B) else rec (0, a2, B)) else ((sR G B r x none).bind fun S20 => rec (x + 1, y, S20)) := rfl
theorem cclr {z : Nat × Nat} {arr cap : Nat} {a1 : Int32} {en : Nat} (n : Nat) (h3 : G.2.2.1 ≤ arr) (hc : cap < 2 ^ 30) : ∀ (d i to m : Nat) (ψ : Nat → Option jE) (g : Nat → Option Nat), i + d = to → to ≤ cap → ψ arr = some (.inr (.inr (.inr (cap, g)))) → ∃ ψ' g', jloop (f_J20_circularClear_h12 G n (some arr) a1 (nI en)) (d + m) (nI i, nI to, jfn ψ z) = jloop (f_J20_circularClear_h12 G n (some arr) a1 (nI en)) m (nI to, nI to, jfn ψ' z) ∧ ψ' arr = some (.inr (.inr (.inr (cap, g')))) ∧ (∀ b, b ≠ arr → ψ' b = ψ b) ∧ ∀ j, g' j = if i ≤ j ∧ j < to then none else g j := by
  intro d
  induction d with
  | zero =>
    intro i to m ψ g hi hto e
    have : i = to := by omega
    subst this
    exact ⟨ψ, g, by rw [Nat.zero_add], e, fun _ _ => rfl, fun j => by rw [if_neg (by omega)]⟩
  | succ d ih =>
    intro i to m ψ g hi hto e
    obtain ⟨ψ', g', k1, k2, k3, k4⟩ := ih (i + 1) to m (va_up ψ arr (some (.inr (.inr (.inr (cap, va_up g i none)))))) (va_up g i none) (by omega) hto (va_up_self _ _ _)
    refine ⟨ψ', g', ?_, k2, fun b hb => by rw [k3 b hb, va_up_ne _ _ hb], fun j => ?_⟩
    · rw [← k1, show d + 1 + m = (d + m) + 1 by omega, jloop_s]
      unfold f_J20_circularClear_h12
      dsimp only
      rw [if_neg (by rw [zI_le (by omega) (by omega)]; omega), sR_at e (show i < cap by omega) (by omega) h3 rfl, Option.bind_some, zI_add1]
    · rw [k4 j]
      by_cases hji : j = i
      · subst hji; rw [va_up_self, if_neg (by omega), if_pos (by omega)]
      · rw [va_up_ne _ _ hji]
        by_cases hj : i + 1 ≤ j ∧ j < to
        · rw [if_pos hj, if_pos (by omega)]
        · rw [if_neg hj, if_neg (by omega)]
theorem p_J20_clear (hr : jRel G σ.1 φ) {v : Unit} (h : dqClear G σ a = some (v, σ')) : ∃ n φ', f_J20_clear G n (jfn φ σ.2) a = some (v, jfn φ' σ'.2) ∧ jRel G σ'.1 φ' := by
  obtain ⟨ow, gh, hr⟩ := hr
  unfold dqClear at h
  split at h
  · next rs is cap d hs =>
    obtain ⟨hn, hs⟩ := cW_some hs
    obtain ⟨hoa, arr, hd, f, e1, e2, hown, hne, h3, h4, h5, h6, h7, h8, h9⟩ := open_DQ hr hs
    cases h
    have ht : (hd + rs.length) % cap < cap := Nat.mod_lt _ (by omega)
    have key : ∃ n ψ g, f_J20_circularClear G n (jfn φ σ.2) (some arr) (nI hd) (nI ((hd + rs.length) % cap)) = some ((), jfn ψ σ.2) ∧ ψ arr = some (.inr (.inr (.inr (cap, g)))) ∧ (∀ b, b ≠ arr → ψ b = φ b) ∧ ∀ j, j < cap → g j = none := by
      by_cases hw : hd + rs.length < cap
      · rw [mod_lo hw]
        obtain ⟨ψ, g, k1, k2, k3, k4⟩ := cclr (G := G) (z := σ.2) (a1 := nI hd) (en := hd + rs.length) (rs.length + (0 + 1)) h3 h6 rs.length hd (hd + rs.length) (0 + 1) φ f rfl (by omega) e2
        refine ⟨rs.length + (0 + 1), ψ, g, ?_, k2, k3, fun j hj => ?_⟩
        · unfold f_J20_circularClear f_J20_circularClear_b f_J20_circularClear_j11
          rw [if_neg (by rw [zI_lt (by omega) (by omega)]; omega), k1, jloop_s, cc_step]
          rw [if_pos (Int32.le_refl _), if_pos rfl, jck_fn]
          simp
        · rw [k4 j]
          by_cases hj2 : hd ≤ j ∧ j < hd + rs.length
          · rw [if_pos hj2]
          · rw [if_neg hj2]
            by_cases hj3 : hd + rs.length ≤ j
            · have := h8 (j - hd) (by omega) (by omega)
              rw [mod_lo (by omega), show hd + (j - hd) = j by omega] at this
              exact this
            · have := h8 (j + cap - hd) (by omega) (by omega)
              rw [mod_up (by omega) (by omega), show hd + (j + cap - hd) - cap = j by omega] at this
              exact this
      · rw [mod_up (by omega) (by omega)]
        obtain ⟨ψ1, g1, k1, k2, k3, k4⟩ := cclr (G := G) (z := σ.2) (a1 := nI hd) (en := hd + rs.length - cap) ((cap - hd) + ((hd + rs.length - cap) + (0 + 1) + 1)) h3 h6 (cap - hd) hd cap ((hd + rs.length - cap) + (0 + 1) + 1) φ f (by omega) (Nat.le_refl _) e2
        obtain ⟨ψ, g, p1, p2, p3, p4⟩ := cclr (G := G) (z := σ.2) (a1 := nI hd) (en := hd + rs.length - cap) ((cap - hd) + ((hd + rs.length - cap) + (0 + 1) + 1)) h3 h6 (hd + rs.length - cap) 0 (hd + rs.length - cap) (0 + 1) ψ1 g1 (by omega) (by omega) k2
        refine ⟨(cap - hd) + ((hd + rs.length - cap) + (0 + 1) + 1), ψ, g, ?_, p2, fun b hb => (p3 b hb).trans (k3 b hb), fun j hj => ?_⟩
        · unfold f_J20_circularClear f_J20_circularClear_b f_J20_circularClear_j11
          rw [if_pos (by rw [zI_lt (by omega) (by omega)]; omega), aLenR e2, Option.bind_some, k1, jloop_s, cc_step]
          rw [if_pos (Int32.le_refl _), if_neg (by rw [zI_inj (by omega) (by omega)]; omega), zI_zero, p1, jloop_s, cc_step]
          rw [if_pos (Int32.le_refl _), if_pos rfl, jck_fn]
          simp
        · rw [p4 j, k4 j]
          by_cases hj2 : 0 ≤ j ∧ j < hd + rs.length - cap
          · rw [if_pos hj2]
          · rw [if_neg hj2]
            by_cases hj3 : hd ≤ j ∧ j < cap
            · rw [if_pos hj3]
            · rw [if_neg hj3]
              have := h8 (j + cap - hd) (by omega) (by omega)
              rw [mod_up (by omega) (by omega), show hd + (j + cap - hd) - cap = j by omega] at this
              exact this
    obtain ⟨n, ψ, g, k1, k2, k3, k4⟩ := key
    have e1' := (k3 a (Ne.symm hne)).trans e1
    refine ⟨n, ?φ, ?h1, ?h2⟩
    case h1 =>
      simp [f_J20_clear, f_J20_clear_b, gI_fn, gR_fn, pI_fn, pR_fn, pB_fn, rc_fn, jck_fn, bd_some, Option.bind_some, va_up_self, gIv_i, gRv_r, gRv_n, gRv_rf, List.getElem?_cons_zero, List.getElem?_cons_succ, List.set_cons_zero, List.set_cons_succ, List.length_cons, List.length_nil, jfn_2, if_true, if_false, and_true, true_and, Nat.le_refl, e1, k1, e1', hn]
      rfl
    case h2 =>
      refine close_DQ hr hn (Or.inr hoa) (hd := 0) (tl := 0) (f := g) (rs' := []) (va_up_self _ _ _) (by simp) (by rw [va_up_ne _ _ hne, va_up_ne _ _ hne]; exact k2) (Or.inr hown) h3 (show 0 < cap by omega) (by omega) h6 (fun i hi => absurd hi (Nat.not_lt_zero _)) (fun i _ hi => k4 _ (Nat.mod_lt _ (by omega))) (fun r hr => by cases hr) (Kp.own (Kp.own (fun b e he hb => ?_) hn hoa) hn hoa)
      rw [k3 b (fun q => ?_)]
      · exact he
      · rcases hb with r | r
        · rw [q] at r; exact absurd h3 (Nat.not_le.mpr r)
        · rw [q] at r; exact r hown
  · cases h
end DQ
