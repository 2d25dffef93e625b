/-! LinkedList: get, clear, contains, iterators: the plain part -/
set_option maxRecDepth 100000
section LM
variable {G : jG} {σ σ' : jH} {φ : Nat → Option jE} {a : Nat}
theorem gR17n {z : Nat × Nat} {ns : List Nat} {rs : List (Option Nat)} {i y : Nat} (h : φ y = some (nO17 rs ns i)) : gR (jfn φ z) (some y) 17 1 = some ns[i + 1]? := by
  rw [gR_fn, h]; unfold nO17; simp [gRv_rf]
theorem gR17p {z : Nat × Nat} {ns : List Nat} {rs : List (Option Nat)} {i y : Nat} (h : φ y = some (nO17 rs ns i)) : gR (jfn φ z) (some y) 17 2 = some (if i = 0 then none else ns[i - 1]?) := by
  rw [gR_fn, h]; unfold nO17; simp [gRv_rf]
theorem gR17i {z : Nat × Nat} {ns : List Nat} {rs : List (Option Nat)} {i y : Nat} (h : φ y = some (nO17 rs ns i)) : gR (jfn φ z) (some y) 17 0 = some (rs.getD i none) := by
  rw [gR_fn, h]; unfold nO17; simp [gRv_rf]
theorem node_f {z : Nat × Nat} {ns : List Nat} {rs : List (Option Nat)} (n : Nat) (hN : ∀ i y : Nat, ns[i]? = some y → φ y = some (nO17 rs ns i)) (hl : ns.length < 2 ^ 30) {k : Nat} (hk : k < ns.length) : ∀ (d j m : Nat), j + d = k → jloop (f_J19_node_h17 G n (jfn φ z) a (nI k)) (d + 1 + m) (ns[j]?, nI j) = some ns[k]? := by
  intro d
  induction d with
  | zero =>
    intro j m hj
    have : j = k := by omega
    subst this
    rw [show 0 + 1 + m = m + 1 by omega, jloop_s]
    unfold f_J19_node_h17
    simp [Int32.le_refl]
  | succ d ih =>
    intro j m hj
    rw [show d + 1 + 1 + m = (d + 1 + m) + 1 by omega, jloop_s]
    unfold f_J19_node_h17
    dsimp only
    have hjl : j < ns.length := by omega
    rw [if_neg (by rw [zI_le (by omega) (by omega)]; omega), List.getElem?_eq_getElem hjl, gR17n (hN j _ (List.getElem?_eq_getElem hjl)), Option.bind_some, zI_add1]
    exact ih (j + 1) m (by omega)
theorem node_b {z : Nat × Nat} {ns : List Nat} {rs : List (Option Nat)} (n : Nat) (hN : ∀ i y : Nat, ns[i]? = some y → φ y = some (nO17 rs ns i)) (hl : ns.length < 2 ^ 30) {k : Nat} : ∀ (d j m : Nat), k + d = j → j < ns.length → jloop (f_J19_node_h47 G n (jfn φ z) a (nI k)) (d + 1 + m) (ns[j]?, nI j) = some ns[k]? := by
  intro d
  induction d with
  | zero =>
    intro j m hj hjl
    have : j = k := by omega
    subst this
    rw [show 0 + 1 + m = m + 1 by omega, jloop_s]
    unfold f_J19_node_h47
    simp [Int32.le_refl]
  | succ d ih =>
    intro j m hj hjl
    rw [show d + 1 + 1 + m = (d + 1 + m) + 1 by omega, jloop_s]
    unfold f_J19_node_h47
    dsimp only
    rw [if_neg (by rw [zI_le (by omega) (by omega)]; omega), List.getElem?_eq_getElem hjl, gR17p (hN j _ (List.getElem?_eq_getElem hjl)), Option.bind_some, if_neg (by omega)]
    have e : nI j + -1 = nI (j - 1) := by
      rw [← zI_sub (a := j) (b := 1) (by omega)]
      rw [Int32.sub_eq_add_neg]
      rfl
    rw [e]
    exact ih (j - 1) m (by omega) (by omega)
theorem p_node {z : Nat × Nat} {ns : List Nat} {rs : List (Option Nat)} {mc : Int32} (hN : ∀ i y : Nat, ns[i]? = some y → φ y = some (nO17 rs ns i)) (hlr : ns.length = rs.length) (hl : rs.length < 2 ^ 30) (e1 : φ a = some (.inl (16, [.int mc, .int (nI rs.length), va_rf ns.head?, va_rf ns.getLast?]))) {k : Nat} (hk : k < rs.length) (m : Nat) : f_J19_node G (rs.length + 2 + m) (jfn φ z) a (nI k) = some ns[k]? := by
  unfold f_J19_node
  simp only [gI_fn, gR_fn, pI_fn, pR_fn, pB_fn, rc_fn, jck_fn, bd_some, Option.bind_some, va_up_self, gIv_i, gRv_r, gRv_n, gRv_rf, List.getElem?_cons_zero, List.getElem?_cons_succ, List.set_cons_zero, List.set_cons_succ, List.length_cons, List.length_nil, jfn_2, if_true, if_false, and_true, true_and, Nat.le_refl, e1]
  rw [zI_shr (by omega)]
  by_cases h : rs.length / 2 ≤ k
  · rw [if_pos ((zI_le (by omega) (by omega)).mpr h)]
    have e : nI rs.length - 1 = nI (rs.length - 1) := zI_sub (b := 1) (by omega)
    rw [e, List.getLast?_eq_getElem?, hlr]
    have := node_b (G := G) (a := a) (z := z) (k := k) (rs.length + 2 + m) hN (by omega) (rs.length - 1 - k) (rs.length - 1) (k + 2 + m) (by omega) (by omega)
    rw [show rs.length - 1 - k + 1 + (k + 2 + m) = rs.length + 2 + m by omega] at this
    exact this
  · rw [if_neg (fun q => h ((zI_le (by omega) (by omega)).mp q)), List.head?_eq_getElem?]
    have := node_f (G := G) (a := a) (z := z) (k := k) (rs.length + 2 + m) hN (by omega) (by omega) k 0 (rs.length + 1 - k + m) (by omega)
    rw [show k + 1 + (rs.length + 1 - k + m) = rs.length + 2 + m by omega] at this
    exact this
theorem p_J19_get (hr : jRel G σ.1 φ) {i : Int32} {v : Option Nat} (h : lGet 1 σ a i = some v) : ∃ n, f_J19_get G n (jfn φ σ.2) a i = some v := by
  obtain ⟨ow, gh, hr⟩ := hr
  obtain ⟨rs, hrs, h⟩ := Option.bind_eq_some_iff.mp h
  obtain ⟨is, cap, d, hs⟩ := cRs_some hrs
  obtain ⟨-, hl, hnd, h5, hge, e1, hN⟩ := open_LL hr hs
  split at h
  · next hin =>
    obtain ⟨k, hk, hk2, rfl, hkk⟩ := inR_of hin
    rw [hkk] at h
    refine ⟨rs.length + 2 + 0, ?_⟩
    have hkl : k < (gh a).1.length := by omega
    have hc : f_J19_checkElementIndex G (rs.length + 2 + 0) (jfn φ σ.2) a (nI k) = some () := by
      simp only [f_J19_checkElementIndex, f_J19_isElementIndex, gI_fn, gR_fn, pI_fn, pR_fn, pB_fn, rc_fn, jck_fn, bd_some, Option.bind_some, va_up_self, gIv_i, gRv_r, gRv_n, gRv_rf, List.getElem?_cons_zero, List.getElem?_cons_succ, List.set_cons_zero, List.set_cons_succ, List.length_cons, List.length_nil, jfn_2, if_true, if_false, and_true, true_and, Nat.le_refl, e1]
      rw [if_neg (zI_neg hk2), if_neg (by rw [zI_le (by omega) hk2]; omega)]
      rfl
    simp only [f_J19_get, gI_fn, gR_fn, pI_fn, pR_fn, pB_fn, rc_fn, jck_fn, bd_some, Option.bind_some, va_up_self, gIv_i, gRv_r, gRv_n, gRv_rf, List.getElem?_cons_zero, List.getElem?_cons_succ, List.set_cons_zero, List.set_cons_succ, List.length_cons, List.length_nil, jfn_2, if_true, if_false, and_true, true_and, Nat.le_refl, e1, hc, p_node (fun i y hy => (hN i y hy).1) hl h5 e1 hk 0]
    rw [List.getElem?_eq_getElem hkl, gR17i (hN k _ (List.getElem?_eq_getElem hkl)).1, List.getD_eq_getElem?_getD, h]
    rfl
  · cases h
/-- clear -/
theorem clr {z : Nat × Nat} (n : Nat) (hn : G.2.2.1 ≤ a) : ∀ (l : List Nat) (ψ : Nat → Option jE) (m : Nat) (mc sz : Int32) (r1 r2 : Option Nat), l.Nodup → a ∉ l → (∀ y ∈ l, G.2.2.1 ≤ y) → (∀ i y : Nat, l[i]? = some y → ∃ it pv : Value, ψ y = some (.inl (17, [it, va_rf l[i + 1]?, pv]))) → ψ a = some (.inl (16, [.int mc, .int sz, va_rf r1, va_rf r2])) →
    ∃ ψ', jloop (f_J19_clear_h5 G n a) (l.length + 1 + m) (l.head?, jfn ψ z) = some ((), jfn ψ' z) ∧ (∀ b, b ∉ l → b ≠ a → ψ' b = ψ b) ∧ ψ' a = some (.inl (16, [.int (mc + 1), .int 0, .null, .null])) := by
  intro l
  induction l with
  | nil =>
    intro ψ m mc sz r1 r2 hnd ha hg hl e1
    refine ⟨va_up (va_up (va_up (va_up ψ a (some (.inl (16, [.int mc, .int sz, va_rf r1, .null])))) a (some (.inl (16, [.int mc, .int sz, .null, .null])))) a (some (.inl (16, [.int mc, .int 0, .null, .null])))) a (some (.inl (16, [.int (mc + 1), .int 0, .null, .null]))), ?_, fun b _ hb => by rw [va_up_ne _ _ hb, va_up_ne _ _ hb, va_up_ne _ _ hb, va_up_ne _ _ hb], va_up_self _ _ _⟩
    rw [show ([] : List Nat).length + 1 + m = m + 1 by simp; omega, jloop_s]
    unfold f_J19_clear_h5
    simp [gI_fn, gR_fn, pI_fn, pR_fn, pB_fn, rc_fn, jck_fn, bd_some, Option.bind_some, va_up_self, gIv_i, gRv_r, gRv_n, gRv_rf, List.getElem?_cons_zero, List.getElem?_cons_succ, List.set_cons_zero, List.set_cons_succ, List.length_cons, List.length_nil, jfn_2, if_true, if_false, and_true, true_and, Nat.le_refl, e1, hn, va_rf_n]
  | cons x l ih =>
    intro ψ m mc sz r1 r2 hnd ha hg hl e1
    obtain ⟨it, pv, ex⟩ := hl 0 x rfl
    have hxa : x ≠ a := fun q => ha (by rw [q]; exact List.mem_cons_self)
    have hxn : G.2.2.1 ≤ x := hg x List.mem_cons_self
    have hxl : x ∉ l := (List.nodup_cons.mp hnd).1
    let ψ1 : Nat → Option jE := va_up (va_up (va_up ψ x (some (.inl (17, [.null, va_rf l[0]?, pv])))) x (some (.inl (17, [.null, .null, pv])))) x (some (.inl (17, [.null, .null, .null])))
    obtain ⟨ψ', k1, k2, k3⟩ := ih ψ1 m mc sz r1 r2 (List.nodup_cons.mp hnd).2 (fun q => ha (List.mem_cons_of_mem _ q)) (fun y hy => hg y (List.mem_cons_of_mem _ hy)) (fun i y hy => by
        obtain ⟨it', pv', e⟩ := hl (i + 1) y hy
        refine ⟨it', pv', ?_⟩
        have hyx : y ≠ x := fun q => hxl (by rw [← q]; exact List.mem_of_getElem? hy)
        show va_up _ _ _ y = _
        rw [va_up_ne _ _ hyx, va_up_ne _ _ hyx, va_up_ne _ _ hyx, e]
        rfl) (by
        show va_up _ _ _ a = _
        rw [va_up_ne _ _ (Ne.symm hxa), va_up_ne _ _ (Ne.symm hxa), va_up_ne _ _ (Ne.symm hxa), e1])
    refine ⟨ψ', ?_, fun b hb hba => ?_, k3⟩
    · rw [List.head?_eq_getElem?] at k1
      rw [show (x :: l).length + 1 + m = (l.length + 1 + m) + 1 by simp; omega, jloop_s, ← k1]
      unfold f_J19_clear_h5
      have hx0 : (x :: l)[0 + 1]? = l[0]? := rfl
      rw [hx0] at ex
      simp [gI_fn, gR_fn, pI_fn, pR_fn, pB_fn, rc_fn, jck_fn, bd_some, Option.bind_some, va_up_self, gIv_i, gRv_r, gRv_n, gRv_rf, List.getElem?_cons_zero, List.getElem?_cons_succ, List.set_cons_zero, List.set_cons_succ, List.length_cons, List.length_nil, jfn_2, if_true, if_false, and_true, true_and, Nat.le_refl, ex, hxn, va_rf_n]
      rfl
    · rw [k2 b (fun q => hb (List.mem_cons_of_mem _ q)) hba]
      have hbx : b ≠ x := fun q => hb (by rw [q]; exact List.mem_cons_self)
      show va_up _ _ _ b = _
      rw [va_up_ne _ _ hbx, va_up_ne _ _ hbx, va_up_ne _ _ hbx]
theorem p_J19_clear (hr : jRel G σ.1 φ) {v : Unit} (h : llClear G σ a = some (v, σ')) : ∃ n φ', f_J19_clear G n (jfn φ σ.2) a = some (v, jfn φ' σ'.2) ∧ jRel G σ'.1 φ' := by
  obtain ⟨ow, gh, hr⟩ := hr
  obtain ⟨rs, hrs, h⟩ := Option.bind_eq_some_iff.mp h
  obtain ⟨is, cap, d, hs⟩ := cRs_some hrs
  split at h
  · next hn =>
    cases h
    obtain ⟨hoa, hl, hnd, h5, hge, e1, hN⟩ := open_LL hr hs
    have hal : a ∉ (gh a).1 := by
      intro hm
      obtain ⟨i, hi⟩ := List.getElem?_of_mem hm
      have := (hN i _ hi).1
      rw [e1] at this
      cases this
    obtain ⟨ψ', k1, k2, k3⟩ := clr (G := G) (a := a) (z := σ.2) ((gh a).1.length + 1 + 0) hn (gh a).1 φ 0 (gh a).2 (nI rs.length) _ _ hnd hal hge (fun i y hy => ⟨_, _, (hN i y hy).1⟩) e1
    refine ⟨(gh a).1.length + 1 + 0, ψ', ?_, ?_⟩
    · simp only [f_J19_clear, f_J19_clear_b, gI_fn, gR_fn, pI_fn, pR_fn, pB_fn, rc_fn, jck_fn, bd_some, Option.bind_some, va_up_self, gIv_i, gRv_r, gRv_n, gRv_rf, List.getElem?_cons_zero, List.getElem?_cons_succ, List.set_cons_zero, List.set_cons_succ, List.length_cons, List.length_nil, jfn_2, if_true, if_false, and_true, true_and, Nat.le_refl, e1, k1]
      rfl
    · refine close_LL hr hn (Or.inr hoa) (mc := (gh a).2 + 1) (ns := []) (rs' := []) k3 (fun i y hi => by cases hi) rfl List.nodup_nil (by decide) (fun y hy => by cases hy) (fun b e he hb => ?_)
      rw [k2 b (fun hm => ?_) (fun hba => ?_)]
      · exact he
      · obtain ⟨i, hi⟩ := List.getElem?_of_mem hm
        rcases hb with q | q
        · exact absurd (hge b hm) (Nat.not_le.mpr q)
        · exact q (hN i _ hi).2
      · rcases hb with q | q
        · rw [hba] at q; exact absurd hn (Nat.not_le.mpr q)
        · rw [hba] at q; exact q hoa
  · cases h
/-- contains -/
theorem idx {z : Nat × Nat} {ns : List Nat} {rs : List (Option Nat)} {b : Nat} {fs : List Value} (n : Nat) (hN : ∀ i y : Nat, ns[i]? = some y → φ y = some (nO17 rs ns i)) (hlr : ns.length = rs.length) (hl : ns.length < 2 ^ 30) (eb : φ b = some (.inl (4, fs))) : ∀ (d j m : Nat), j + d = ns.length → ∃ v, jloop (f_J19_indexOf_h43 G n (jfn φ z) a (some b)) (d + 1 + m) (nI j, ns[j]?) = some v ∧ (if v < 0 then (0 : Int32) else 1) = if (rs.drop j).contains (some b) then 1 else 0 := by
  intro d
  induction d with
  | zero =>
    intro j m hj
    refine ⟨-1, ?_, ?_⟩
    · rw [show 0 + 1 + m = m + 1 by omega, jloop_s, List.getElem?_eq_none (by omega)]
      unfold f_J19_indexOf_h43
      simp
    · rw [if_pos (by decide), List.drop_eq_nil_of_le (by omega)]
      rfl
  | succ d ih =>
    intro j m hj
    have hjl : j < ns.length := by omega
    have hjr : j < rs.length := by omega
    rw [show d + 1 + 1 + m = (d + 1 + m) + 1 by omega]
    have ej := hN j _ (List.getElem?_eq_getElem hjl)
    have hstep : ∀ rec, f_J19_indexOf_h43 G n (jfn φ z) a (some b) rec (nI j, ns[j]?) = if some b = rs.getD j none then some (nI j) else rec (nI (j + 1), ns[j + 1]?) := by
      intro rec
      unfold f_J19_indexOf_h43
      dsimp only
      rw [List.getElem?_eq_getElem hjl, if_neg (by simp), gR17i ej, Option.bind_some, rc_fn, eb]
      dsimp only
      rw [if_pos rfl, Option.bind_some]
      unfold f_J35_equals_X5
      by_cases hb : some b = rs.getD j none
      · rw [if_pos hb, if_pos hb, Option.bind_some, if_neg (by decide)]
      · rw [if_neg hb, if_neg hb, Option.bind_some, if_pos rfl, gR17n ej, Option.bind_some, zI_add1]
    have hdrop : rs.drop j = rs.getD j none :: rs.drop (j + 1) := by
      rw [List.drop_eq_getElem_cons hjr, List.getD_eq_getElem?_getD, List.getElem?_eq_getElem hjr]
      rfl
    by_cases hb : some b = rs.getD j none
    · refine ⟨nI j, by rw [jloop_s, hstep, if_pos hb], ?_⟩
      rw [if_neg (zI_neg (by omega)), hdrop, hb]
      simp
    · obtain ⟨v, k1, k2⟩ := ih (j + 1) m (by omega)
      refine ⟨v, by rw [jloop_s, hstep, if_neg hb]; exact k1, ?_⟩
      rw [k2, hdrop, List.contains_cons]
      have : ((some b == rs.getD j none) = false) := by simpa using hb
      rw [this, Bool.false_or]
theorem rc_fine {gh : jGh} {ow : Nat → Nat} (hr : jRelW G gh ow σ.1 φ) {x : Option Nat} {b : Nat} (h : rc σ x 4 = some b) : x = some b ∧ ∃ fs, φ b = some (.inl (4, fs)) := by
  unfold rc at h
  split at h
  · cases h
  · next q =>
    split at h
    · next y hy =>
      split at h
      · next hc =>
        cases h
        refine ⟨rfl, ?_⟩
        have h1 := hr b y hy
        match y, hc, h1 with
        | .inl (.inl (c, fs)), hc, h1 => cases hc; exact ⟨fs, h1.1⟩
        | .inl (.inr _), hc, h1 => cases hc
        | .inr (0, _), hc, h1 => cases hc
        | .inr (1, _), hc, h1 => cases hc
        | .inr (2, _), hc, h1 => cases hc
        | .inr (3, _), hc, h1 => cases hc
        | .inr (4, _), hc, h1 => cases hc
        | .inr (5, _), hc, h1 => cases hc
        | .inr (n + 6, _), hc, h1 => cases hc
      · cases h
    · cases h
theorem p_J19_contains (hr : jRel G σ.1 φ) {x : Option Nat} {v : Int32} (h : llHas σ a x = some v) : ∃ n, f_J19_contains G n (jfn φ σ.2) a x = some v := by
  obtain ⟨ow, gh, hr⟩ := hr
  obtain ⟨b, hb, h⟩ := Option.bind_eq_some_iff.mp h
  obtain ⟨rs, hrs, rfl⟩ := Option.map_eq_some_iff.mp h
  obtain ⟨rfl, fs, eb⟩ := rc_fine hr hb
  obtain ⟨is, cap, d, hs⟩ := cRs_some hrs
  obtain ⟨-, hl, hnd, h5, hge, e1, hN⟩ := open_LL hr hs
  obtain ⟨v, k1, k2⟩ := idx (G := G) (a := a) (z := σ.2) ((gh a).1.length + 1 + 0) (fun i y hy => (hN i y hy).1) hl (by omega) eb (gh a).1.length 0 0 (by omega)
  refine ⟨(gh a).1.length + 1 + 0, ?_⟩
  rw [← List.head?_eq_getElem?] at k1
  have k3 : f_J19_indexOf G ((gh a).1.length + 1 + 0) (jfn φ σ.2) a (some b) = some v := by
    unfold f_J19_indexOf
    rw [if_neg (by simp)]
    simp only [gI_fn, gR_fn, pI_fn, pR_fn, pB_fn, rc_fn, jck_fn, bd_some, Option.bind_some, va_up_self, gIv_i, gRv_r, gRv_n, gRv_rf, List.getElem?_cons_zero, List.getElem?_cons_succ, List.set_cons_zero, List.set_cons_succ, List.length_cons, List.length_nil, jfn_2, if_true, if_false, and_true, true_and, Nat.le_refl, e1]
    exact k1
  simp only [f_J19_contains, gI_fn, gR_fn, pI_fn, pR_fn, pB_fn, rc_fn, jck_fn, bd_some, Option.bind_some, va_up_self, gIv_i, gRv_r, gRv_n, gRv_rf, List.getElem?_cons_zero, List.getElem?_cons_succ, List.set_cons_zero, List.set_cons_succ, List.length_cons, List.length_nil, jfn_2, if_true, if_false, and_true, true_and, Nat.le_refl, e1, k3]
  rw [List.drop_zero] at k2
  rw [← k2]
  by_cases hv : v < 0
  · rw [if_pos hv, if_pos hv]
  · rw [if_neg hv, if_neg hv]
end LM
/-! iterators -/
section IT
variable {G : jG} {σ σ' : jH} {φ : Nat → Option jE} {a : Nat}
theorem open_IT {gh : jGh} {ow : Nat → Nat} {h : Nat → Option jX} {b : Nat} {i : Int32} {r : Nat × Nat} (hr : jRelW G gh ow h φ) (hb : h b = some (.inr (5, [some a], [i], r))) : ow b = b ∧ ¬ i < 0 ∧ ∃ lr : Option Nat, φ b = some (.inl (19, [va_rf lr, va_rf (gh a).1[i.toNatClampNeg]?, .int i, .int (gh a).2, .ref a])) := by
  obtain ⟨r2, r3⟩ := r
  obtain ⟨h1, ps, h2, lr, rfl, h3⟩ := hr b _ hb
  exact ⟨h1, h3, lr, (h2 _ List.mem_cons_self).1⟩
theorem itGet_some {b : Nat} {q : Nat × Int32 × List (Option Nat)} (h : itGet σ b = some q) : ∃ r, σ.1 b = some (.inr (5, [some q.1], [q.2.1], r)) ∧ cRs σ 1 q.1 = some q.2.2 := by
  unfold itGet at h
  split at h
  · next a' i' r' hc =>
    obtain ⟨rs, hrs, rfl⟩ := Option.map_eq_some_iff.mp h
    unfold cG at hc
    split at hc
    · next hs => cases hc; exact ⟨_, hs, hrs⟩
    · cases hc
  · cases h
theorem p_J26_hasNext (hr : jRel G σ.1 φ) {b : Nat} {v : Int32} (h : itHas σ b = some v) (n : Nat) : f_J26_hasNext G n (jfn φ σ.2) b = some v := by
  obtain ⟨ow, gh, hr⟩ := hr
  obtain ⟨⟨a, i, rs⟩, hq, rfl⟩ := Option.map_eq_some_iff.mp h
  obtain ⟨r, hs, hrs⟩ := itGet_some hq
  obtain ⟨is, cap, d, hs2⟩ := cRs_some hrs
  obtain ⟨-, hl, hnd, h5, hge, e1, hN⟩ := open_LL hr hs2
  obtain ⟨-, hi, lr, e2⟩ := open_IT hr hs
  dsimp only at hs hs2 hrs h5 e1 e2 hl hi
  obtain ⟨k, hk, rfl, hkk⟩ := zI_of hi
  simp only [f_J26_hasNext, gI_fn, gR_fn, pI_fn, pR_fn, pB_fn, rc_fn, jck_fn, bd_some, Option.bind_some, va_up_self, gIv_i, gRv_r, gRv_n, gRv_rf, List.getElem?_cons_zero, List.getElem?_cons_succ, List.set_cons_zero, List.set_cons_succ, List.length_cons, List.length_nil, jfn_2, if_true, if_false, and_true, true_and, Nat.le_refl, e1, e2, zI_le (show rs.length < 2 ^ 31 by omega) hk]
  unfold inR
  rw [hkk]
  by_cases hle : rs.length ≤ k
  · rw [if_pos hle, if_neg]; simp [hle]
  · rw [if_neg hle, if_pos]
    rw [decide_eq_true_iff]
    exact fun q => q.elim (zI_neg hk) hle
theorem p_J26_next (hr : jRel G σ.1 φ) {b : Nat} {v : Option Nat} (h : itNext G σ b = some (v, σ')) : ∃ n φ', f_J26_next G n (jfn φ σ.2) b = some (v, jfn φ' σ'.2) ∧ jRel G σ'.1 φ' := by
  have hr0 := hr
  obtain ⟨ow, gh, hr⟩ := hr
  obtain ⟨⟨a, i, rs⟩, hq, h⟩ := Option.bind_eq_some_iff.mp h
  have hhas : itHas σ b = some (if inR i rs.length then 1 else 0) := by unfold itHas; rw [hq]; rfl
  have hHN := p_J26_hasNext hr0 hhas 0
  obtain ⟨r, hs, hrs⟩ := itGet_some hq
  obtain ⟨is, cap, d, hs2⟩ := cRs_some hrs
  obtain ⟨-, hl, hnd, h5, hge, e1, hN⟩ := open_LL hr hs2
  obtain ⟨hob, hi, lr, e2⟩ := open_IT hr hs
  dsimp only at h hs hs2 e1 hN e2 hl h5 hrs hhas
  split at h
  · next hc =>
    obtain ⟨hin, hbn⟩ := hc
    rw [if_pos hin] at hHN
    obtain ⟨k, hk, hk2, rfl, hkk⟩ := inR_of hin
    rw [hkk] at h e2
    obtain ⟨x, hx, h⟩ := Option.map_eq_some_iff.mp h
    cases h
    have hkl : k < (gh a).1.length := by omega
    have hy := List.getElem?_eq_getElem hkl
    obtain ⟨ey, hoy⟩ := hN k _ hy
    rw [hy] at e2
    have hby : (gh a).1[k] ≠ b := by rintro q; rw [q, e2] at ey; unfold nO17 at ey; cases ey
    unfold nO17 at ey
    have hxk : rs.getD k none = v := by rw [List.getD_eq_getElem?_getD, hx]; rfl
    rw [hxk] at ey
    refine ⟨0, ?φ, ?h1, ?h2⟩
    case h1 =>
      have hcm : f_J26_checkForComodification G 0 (jfn φ σ.2) b = some () := by
        simp [f_J26_checkForComodification, gI_fn, gR_fn, pI_fn, pR_fn, pB_fn, rc_fn, jck_fn, bd_some, Option.bind_some, va_up_self, gIv_i, gRv_r, gRv_n, gRv_rf, List.getElem?_cons_zero, List.getElem?_cons_succ, List.set_cons_zero, List.set_cons_succ, List.length_cons, List.length_nil, jfn_2, if_true, if_false, and_true, true_and, Nat.le_refl, e1, e2]
      simp [f_J26_next, f_J26_next_b, hHN, hcm, gI_fn, gR_fn, pI_fn, pR_fn, pB_fn, rc_fn, jck_fn, bd_some, Option.bind_some, va_up_self, gIv_i, gRv_r, gRv_n, gRv_rf, List.getElem?_cons_zero, List.getElem?_cons_succ, List.set_cons_zero, List.set_cons_succ, List.length_cons, List.length_nil, jfn_2, if_true, if_false, and_true, true_and, Nat.le_refl, e1, e2, ey, hbn, va_up_ne _ _ hby, va_rf_s, zI_add1]
      rfl
    case h2 =>
      refine jRelW.upd (a := b) (c' := (5, [some a], [nI k + 1], 0, 0)) (gh' := gh) (ps := [(b, .inl (19, [va_rf (some (gh a).1[k]), va_rf (gh a).1[k + 1]?, .int (nI (k + 1)), .int (gh a).2, .ref a]))]) hr (Or.inr hob) hbn (fun c y hcb hy => ⟨by rw [← hy]; exact (va_up_ne _ _ hcb).symm, fun _ _ => rfl⟩) (va_up_self _ _ _) (fun _ _ => rfl) (((Kp.rf.own hbn hob).own hbn hob).own hbn hob) (fun y hy => ?_) ?_
      · rw [List.mem_singleton.mp hy]
        exact ⟨by rw [va_up_self]; rfl, Or.inr (Or.inr hob)⟩
      · rw [zI_add1]
        refine ⟨some (gh a).1[k], ?_, zI_neg (by omega)⟩
        rw [zI_clamp (by omega)]
  · cases h
theorem p_J18_iterator (hr : jRel G σ.1 φ) (hz : ∀ b, σ.2.1 ≤ b → φ b = none) (hzn : G.2.2.1 ≤ σ.2.1) {v : Option Nat} (h : llIter σ a = some (v, σ')) : ∃ n φ', f_J18_iterator_J19 G n (jfn φ σ.2) a = some (v, jfn φ' σ'.2) ∧ jRel G σ'.1 φ' := by
  obtain ⟨ow, gh, hr⟩ := hr
  obtain ⟨rs, hrs, h⟩ := Option.map_eq_some_iff.mp h
  cases h
  obtain ⟨is, cap, d, hs⟩ := cRs_some hrs
  obtain ⟨hoa, hl, hnd, h5, hge, e1, hN⟩ := open_LL hr hs
  have hz1 : φ σ.2.1 = none := hz _ (Nat.le_refl _)
  have hza : a ≠ σ.2.1 := by rintro h; rw [← h, e1] at hz1; cases hz1
  have hcp : ∀ n, f_J19_checkPositionIndex G n (jfn φ σ.2) a 0 = some () := by
    intro n
    have h1 : ¬ nI rs.length < 0 := zI_neg (by omega)
    simp [f_J19_checkPositionIndex, f_J19_isPositionIndex, gI_fn, gR_fn, pI_fn, pR_fn, pB_fn, rc_fn, jck_fn, bd_some, Option.bind_some, va_up_self, gIv_i, gRv_r, gRv_n, gRv_rf, List.getElem?_cons_zero, List.getElem?_cons_succ, List.set_cons_zero, List.set_cons_succ, List.length_cons, List.length_nil, jfn_2, if_true, if_false, and_true, true_and, Nat.le_refl, e1, h1]
  refine ⟨rs.length + 2 + 0, ?φ, ?h1, ?h2⟩
  case h1 =>
    simp only [f_J18_iterator_J19, f_J18_iterator_J19_b, f_J1_listIterator_J19, f_J1_listIterator_J19_b, f_J19_listIterator, f_J19_listIterator_b, gI_fn, gR_fn, pI_fn, pR_fn, pB_fn, rc_fn, jck_fn, bd_some, Option.bind_some, va_up_self, gIv_i, gRv_r, gRv_n, gRv_rf, List.getElem?_cons_zero, List.getElem?_cons_succ, List.set_cons_zero, List.set_cons_succ, List.length_cons, List.length_nil, jfn_2, if_true, if_false, and_true, true_and, Nat.le_refl, e1, hcp, nO_fn]
    have hfin : f_J26_init G (rs.length + 2 + 0) (jfn (va_up φ σ.2.1 (some (.inl (19, [.null, .null, .int 0, .int 0, .null])))) (σ.2.1 + 1, σ.2.2 + 5)) σ.2.1 (some a) 0 = some ((), jfn (va_up (va_up (va_up (va_up (va_up φ σ.2.1 (some (.inl (19, [.null, .null, .int 0, .int 0, .null])))) σ.2.1 (some (.inl (19, [.null, .null, .int 0, .int 0, .ref a])))) σ.2.1 (some (.inl (19, [.null, .null, .int 0, .int (gh a).2, .ref a])))) σ.2.1 (some (.inl (19, [.null, va_rf (gh a).1[0]?, .int 0, .int (gh a).2, .ref a])))) σ.2.1 (some (.inl (19, [.null, va_rf (gh a).1[0]?, .int 0, .int (gh a).2, .ref a])))) (σ.2.1 + 1, σ.2.2 + 5)) := by
      simp only [f_J26_init, f_J26_init_b]
      by_cases h0 : rs.length = 0
      · have hnil : (gh a).1[0]? = none := List.getElem?_eq_none (by omega)
        have hz0 : (0 : Int32) = nI rs.length := by rw [h0]; rfl
        simp only [f_J26_init_j38, gI_fn, gR_fn, pI_fn, pR_fn, pB_fn, rc_fn, jck_fn, bd_some, Option.bind_some, va_up_self, gIv_i, gRv_r, gRv_n, gRv_rf, List.getElem?_cons_zero, List.getElem?_cons_succ, List.set_cons_zero, List.set_cons_succ, List.length_cons, List.length_nil, jfn_2, if_true, if_false, and_true, true_and, Nat.le_refl, e1, hzn, va_up_ne _ _ hza, hnil]
        simp [f_J26_init_j38, gI_fn, gR_fn, pI_fn, pR_fn, pB_fn, rc_fn, jck_fn, bd_some, Option.bind_some, va_up_self, gIv_i, gRv_r, gRv_n, gRv_rf, List.getElem?_cons_zero, List.getElem?_cons_succ, List.set_cons_zero, List.set_cons_succ, List.length_cons, List.length_nil, jfn_2, if_true, if_false, and_true, true_and, Nat.le_refl, e1, hzn, va_up_ne _ _ hza, hnil, hz0, va_rf_s, va_rf_n]
      · have hz0 : ¬ (0 : Int32) = nI rs.length := by rw [zI_zero, zI_inj (by omega) (by omega)]; omega
        have hpn := p_node (G := G) (a := a) (z := (σ.2.1 + 1, σ.2.2 + 5)) (φ := va_up (va_up (va_up φ σ.2.1 (some (.inl (19, [.null, .null, .int 0, .int 0, .null])))) σ.2.1 (some (.inl (19, [.null, .null, .int 0, .int 0, .ref a])))) σ.2.1 (some (.inl (19, [.null, .null, .int 0, .int (gh a).2, .ref a])))) (ns := (gh a).1) (rs := rs) (mc := (gh a).2) (fun i y hy => by
          have ey := (hN i y hy).1
          have hyz : y ≠ σ.2.1 := by rintro rfl; rw [ey] at hz1; cases hz1
          rw [va_up_ne _ _ hyz, va_up_ne _ _ hyz, va_up_ne _ _ hyz]; exact ey) hl h5 (by rw [va_up_ne _ _ hza, va_up_ne _ _ hza, va_up_ne _ _ hza]; exact e1) (show 0 < rs.length by omega) 0
        rw [← zI_zero] at hpn
        simp [f_J26_init_j38, gI_fn, gR_fn, pI_fn, pR_fn, pB_fn, rc_fn, jck_fn, bd_some, Option.bind_some, va_up_self, gIv_i, gRv_r, gRv_n, gRv_rf, List.getElem?_cons_zero, List.getElem?_cons_succ, List.set_cons_zero, List.set_cons_succ, List.length_cons, List.length_nil, jfn_2, if_true, if_false, and_true, true_and, Nat.le_refl, e1, hzn, va_up_ne _ _ hza, hz0, hpn, va_rf_s, va_rf_n]
    rw [hfin]
    simp [gI_fn, gR_fn, pI_fn, pR_fn, pB_fn, rc_fn, jck_fn, bd_some, Option.bind_some, va_up_self, gIv_i, gRv_r, gRv_n, gRv_rf, List.getElem?_cons_zero, List.getElem?_cons_succ, List.set_cons_zero, List.set_cons_succ, List.length_cons, List.length_nil, jfn_2, if_true, if_false, and_true, true_and, Nat.le_refl]
    rfl
  case h2 =>
    refine jRelW.upd (a := σ.2.1) (c' := (5, [some a], [0], 0, 0)) (gh' := gh) (ps := [(σ.2.1, .inl (19, [.null, va_rf (gh a).1[0]?, .int 0, .int (gh a).2, .ref a]))]) hr (Or.inl hz1) hzn (fun c y hcb hy => ⟨by rw [← hy]; exact (va_up_ne _ _ hcb).symm, fun _ _ => rfl⟩) (va_up_self _ _ _) (fun _ _ => rfl) (((((Kp.rf.new hz1).new hz1).new hz1).new hz1).new hz1) (fun y hy => ?_) ?_
    · rw [List.mem_singleton.mp hy]
      exact ⟨va_up_self _ _ _, Or.inr (Or.inl hz1)⟩
    · exact ⟨none, rfl, by decide⟩
end IT
