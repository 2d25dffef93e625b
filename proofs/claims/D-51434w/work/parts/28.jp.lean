/-! StringBuilder.append(int), setLength, toString; String: the plain part -/
set_option maxRecDepth 100000
theorem dT_some {G : jG} {gh : jGh} {ow : Nat → Nat} {σ : jH} {φ : Nat → Option jE} (hr : jRelW G gh ow σ.1 φ) {i n lo hi : Nat} {F : Nat → Int32} (h : dT G σ i n lo hi F = true) : ∃ d f, G.2.2.2 i = some d ∧ φ d = some (.inr (.inl (1, n, f))) ∧ (∀ z, z < hi → lo ≤ z → f z = F z) ∧ ow d = d := by
  unfold dT at h
  split at h
  · cases h
  · next d hd =>
    split at h
    · next k m f hs =>
      obtain ⟨rfl, rfl, h3⟩ := of_decide_eq_true h
      exact ⟨d, f, hd, (hr d _ hs).1, h3, (hr d _ hs).2⟩
    · cases h
def decPut (N len : Nat) (g : Nat → Int32) : Nat → Int32 := if N < 10 then upd g len (nI (48 + N)) else upd (upd g (len + 1) (nI (48 + N % 10))) len (nI (48 + N / 10))
section SB2
variable {G : jG} {σ σ' : jH} {φ : Nat → Option jE} {a : Nat}
theorem p_size {τ : jH} {N : Nat} (hN : N < 100) : f_J16_stringSize G 3 τ (nI N) = some (nI (if N < 10 then 1 else 2)) := by
  have h10 : ((-10 : Int32)).toInt = -10 := by decide
  have h100 : (10 * (-10 : Int32)).toInt = -100 := by decide
  unfold f_J16_stringSize f_J16_stringSize_j11
  rw [if_neg (zI_neg (by omega)), show (3 : Nat) = 2 + 1 from rfl, jloop_s]
  unfold f_J16_stringSize_h16
  dsimp only
  rw [if_neg (by decide)]
  by_cases h : N < 10
  · rw [if_neg (by rw [Int32.le_iff_toInt_le, neg_toInt (by omega), h10]; omega), if_pos h]
    rfl
  · rw [if_pos (by rw [Int32.le_iff_toInt_le, neg_toInt (by omega), h10]; omega), show (2 : Nat) = 1 + 1 from rfl, jloop_s]
    dsimp only
    rw [if_neg (by decide), if_neg (by rw [Int32.le_iff_toInt_le, neg_toInt (by omega), h100]; omega), if_neg h]
    rfl
theorem decTxt_len {N : Nat} : (decTxt N).length = if N < 10 then 1 else 2 := by
  unfold decTxt
  split <;> rfl
theorem decTxt_c {N : Nat} (hN : N < 100) : ∀ x ∈ decTxt N, 0 ≤ x ∧ x < 128 := by
  have key : ∀ k, k < 128 → (0 : Int32) ≤ nI k ∧ nI k < 128 := fun k hk => ⟨by rw [zI_zero, zI_le (by omega) (by omega)]; omega, by rw [show (128 : Int32) = nI 128 from rfl, zI_lt (by omega) (by omega)]; exact hk⟩
  intro x hx
  unfold decTxt at hx
  split at hx
  · rw [List.mem_singleton.mp hx]; exact key _ (by omega)
  · rcases List.mem_cons.mp hx with rfl | hx
    · exact key _ (by omega)
    · rw [List.mem_singleton.mp hx]; exact key _ (by omega)
theorem dec1 {p : Nat} (hp : 0 < p) (hp2 : p < 2 ^ 31) : nI p + (-1) = nI (p - 1) := by
  rw [← zI_sub (a := p) (b := 1) (by omega), Int32.sub_eq_add_neg]
  rfl
theorem p_gch {z : Nat × Nat} {arr cap len N d1 d2 : Nat} {g f1 f2 : Nat → Int32} (hN : N < 100) (e2 : φ arr = some (.inr (.inl (1, cap, g)))) (har : G.2.2.1 ≤ arr) (hl : len + (if N < 10 then 1 else 2) ≤ cap) (hcap : cap < 2 ^ 30) (q1 : G.2.2.2 100 = some d1) (q2 : φ d1 = some (.inr (.inl (1, 100, f1)))) (q3 : ∀ z, z < 100 → 0 ≤ z → f1 z = dOnes z) (p1 : G.2.2.2 101 = some d2) (p2 : φ d2 = some (.inr (.inl (1, 100, f2)))) (p3 : ∀ z, z < 100 → 0 ≤ z → f2 z = dTens z) (h1 : d1 ≠ arr) (h2 : d2 ≠ arr) :
    ∃ v φ', f_J16_getChars G 3 (jfn φ z) (nI N) (nI (len + (if N < 10 then 1 else 2))) (some arr) = some (v, jfn φ' z) ∧ φ' arr = some (.inr (.inl (1, cap, decPut N len g))) ∧ ∀ b, b ≠ arr → φ' b = φ b := by
  have h9 : ((-9 : Int32)).toInt = -9 := by decide
  have h100 : ((-100 : Int32)).toInt = -100 := by decide
  unfold f_J16_getChars f_J16_getChars_b f_J16_getChars_j12
  rw [if_pos (by rw [zI_zero, zI_le (by omega) (by omega)]; omega), if_pos rfl, show (3 : Nat) = 2 + 1 from rfl, jloop_s]
  unfold f_J16_getChars_h22
  dsimp only
  rw [if_pos (by rw [Int32.lt_iff_toInt_lt, neg_toInt (by omega), h100]; omega), negneg, q1, aI_at q2 hN (by omega), Option.bind_some, q3 N hN (Nat.zero_le _)]
  unfold dOnes
  by_cases h : N < 10
  · rw [if_pos h] at hl
    rw [if_pos h]
    rw [dec1 (by omega) (by omega), show len + 1 - 1 = len by omega, sI_at e2 (show len < cap by omega) (by omega) har (show 48 + N % 10 < 128 by omega), Option.bind_some, if_pos (by rw [Int32.le_iff_toInt_le, neg_toInt (by omega), h9]; omega)]
    unfold f_J16_getChars_j104
    rw [if_pos rfl, jck_fn, if_pos ⟨Nat.le_refl _, Nat.le_refl _⟩]
    refine ⟨_, _, rfl, ?_, fun b hb => va_up_ne _ _ hb⟩
    rw [va_up_self]
    unfold decPut
    rw [if_pos h, show N % 10 = N by omega]
  · rw [if_neg h] at hl
    rw [if_neg h]
    rw [dec1 (by omega) (by omega), show len + 2 - 1 = len + 1 by omega, sI_at e2 (show len + 1 < cap by omega) (by omega) har (show 48 + N % 10 < 128 by omega), Option.bind_some, if_neg (by rw [Int32.le_iff_toInt_le, neg_toInt (by omega), h9]; omega)]
    rw [p1, aI_at (φ := va_up φ arr (some (.inr (.inl (1, cap, upd g (len + 1) (nI (48 + N % 10))))))) (by rw [va_up_ne _ _ h2]; exact p2) hN (by omega), Option.bind_some, p3 N hN (Nat.zero_le _)]
    unfold dTens
    rw [dec1 (by omega) (by omega), show len + 1 - 1 = len by omega, sI_at (va_up_self _ _ _) (show len < cap by omega) (by omega) har (show 48 + N / 10 < 128 by omega), Option.bind_some]
    unfold f_J16_getChars_j104
    rw [if_pos rfl, jck_fn, if_pos ⟨Nat.le_refl _, Nat.le_refl _⟩]
    refine ⟨_, _, rfl, ?_, fun b hb => by rw [va_up_ne _ _ hb, va_up_ne _ _ hb]⟩
    rw [va_up_self]
    unfold decPut
    rw [if_neg h]
theorem decPut_lo {N len i : Nat} {g : Nat → Int32} (h : i < len) : decPut N len g i = g i := by
  unfold decPut upd
  split
  · dsimp only; rw [if_neg (by omega)]
  · dsimp only; rw [if_neg (by omega), if_neg (by omega)]
theorem decPut_hi {N len i : Nat} {g : Nat → Int32} (h : i < (if N < 10 then 1 else 2)) : some (decPut N len g (len + i)) = (decTxt N)[i]? := by
  unfold decPut decTxt upd
  by_cases hN : N < 10
  · rw [if_pos hN] at h ⊢
    rw [if_pos hN]
    have : i = 0 := by omega
    subst this
    simp
  · rw [if_neg hN] at h ⊢
    rw [if_neg hN]
    by_cases h0 : i = 0
    · subst h0; simp
    · have : i = 1 := by omega
      subst this
      simp
theorem decPut_fit {N len cap : Nat} {g : Nat → Int32} (hN : N < 100) (hg : ∀ i, i < cap → fits .byte (.int (g i)) = true) : ∀ i, i < cap → fits .byte (.int (decPut N len g i)) = true := by
  intro i hi
  unfold decPut upd
  split
  · dsimp only
    split
    · exact byte_fit (by omega)
    · exact hg i hi
  · dsimp only
    split
    · exact byte_fit (by omega)
    · split
      · exact byte_fit (by omega)
      · exact hg i hi
theorem p_J8_append_2 (hr : jRel G σ.1 φ) (hz : ∀ b, σ.2.1 ≤ b → φ b = none) (hzn : G.2.2.1 ≤ σ.2.1) {x : Int32} {v : Option Nat} (h : sbAppI G σ a x = some (v, σ')) : ∃ n φ', f_J8_append_2 G n (jfn φ σ.2) a x = some (v, jfn φ' σ'.2) ∧ jRel G σ'.1 φ' := by
  obtain ⟨ow, gh, hr⟩ := hr
  unfold sbAppI at h
  split at h
  case isFalse => cases h
  case isTrue hx =>
  obtain ⟨ht1, ht2, hx1, hx2⟩ := hx
  obtain ⟨N, hN31, rfl, hNN⟩ := zI_of hx1
  have hN : N < 100 := by rw [show (100 : Int32) = nI 100 from rfl, zI_lt hN31 (by omega)] at hx2; exact hx2
  obtain ⟨d1, f1, q1, q2, q3, q4⟩ := dT_some hr ht1
  obtain ⟨d2, f2, p1, p2, p3, p4⟩ := dT_some hr ht2
  obtain ⟨σ1, h, h9⟩ := Option.map_eq_some_iff.mp h
  cases h9
  unfold sbApp at h
  split at h
  · next rs xs cap d hs =>
    obtain ⟨hn, hs⟩ := cW_some hs
    obtain ⟨hoa, arr, f, ml, e1, e2, hown, hne, h3, h4, h5, h6, h7, h8⟩ := open_SB hr hs
    have hil : (intTxt (nI N)) = decTxt N := by unfold intTxt; rw [hNN]
    rw [hil] at h
    split at h
    · next hg =>
      rw [decTxt_len] at h hg
      obtain ⟨nd, hnd⟩ : ∃ nd, nd = (if N < 10 then 1 else 2) := ⟨_, rfl⟩
      rw [← hnd] at h hg
      have hz1 : φ σ.2.1 = none := hz _ (Nat.le_refl _)
      obtain ⟨arr', g, ψ, k1, k2, k3, k4, k5, k6, k7⟩ := p_ens (z := σ.2) (need := xs.length + nd) 3 hn e1 e2 h3 hz1 hzn hg.2 hg.1 h5
      have hla : arr' ≠ a := by rintro q; rw [q, k2] at k3; cases k3
      have hcap : xs.length + nd ≤ sbCap (xs.length + nd) cap := by unfold sbCap; split <;> omega
      have hcap2 : sbCap (xs.length + nd) cap < 2 ^ 30 := by unfold sbCap; split <;> omega
      have hlen : (xs ++ decTxt N).length = xs.length + nd := by rw [List.length_append, decTxt_len, ← hnd]
      have hkp : Kp G ow a φ ψ := by
        by_cases hle : xs.length + nd ≤ cap
        · rw [if_pos hle] at k7; rw [k7.1]; exact Kp.rf
        · rw [if_neg hle] at k7
          intro b e he hb
          rw [k7.2 b (fun q => by rw [q, hz1] at he; cases he) (fun q => by rw [q] at hb; rcases hb with r | r; exact absurd hn (Nat.not_le.mpr r); exact r hoa)]
          exact he
      have hown' : φ arr' = none ∨ ow arr' = a := by
        by_cases hle : xs.length + nd ≤ cap
        · rw [if_pos hle] at k7; rw [k7.2]; exact Or.inr hown
        · rw [if_neg hle] at k7; rw [k7.1]; exact Or.inl hz1
      have hda : ∀ d f, φ d = some (.inr (.inl (1, 100, f))) → ow d = d → d ≠ a ∧ d ≠ arr' ∧ ψ d = some (.inr (.inl (1, 100, f))) := by
        intro d f hd hod
        have hd1 : d ≠ a := by rintro rfl; rw [hd] at e1; cases e1
        refine ⟨hd1, ?_, hkp d _ hd (Or.inr (by rw [hod]; exact hd1))⟩
        rintro rfl
        rcases hown' with q | q
        · rw [hd] at q; cases q
        · rw [hod] at q; exact hd1 q
      obtain ⟨-, r1, r2⟩ := hda d1 f1 q2 q4
      obtain ⟨-, s1, s2⟩ := hda d2 f2 p2 p4
      obtain ⟨y, hy⟩ : ∃ y, y = (if xs.length + nd ≤ cap then σ.2 else (σ.2.1 + 1, σ.2.2 + sbCap (xs.length + nd) cap)) := ⟨_, rfl⟩
      have hy1 : σ.2.1 ≤ y.1 ∧ σ.2.2 ≤ y.2 := by
        rw [hy]
        split
        · exact ⟨Nat.le_refl _, Nat.le_refl _⟩
        · exact ⟨Nat.le_succ _, Nat.le_add_right _ _⟩
      obtain ⟨v, ψ2, t1, t2, t3⟩ := p_gch (G := G) (z := y) (len := xs.length) hN k3 k6 (by rw [← hnd]; exact hcap) hcap2 q1 r2 q3 p1 s2 p3 (Ne.symm (Ne.symm r1)) s1
      rw [← hnd] at t1
      have t4 : ψ2 a = some (.inl (20, [.ref arr', .int 0, .int ml, .int (nI xs.length)])) := (t3 a (Ne.symm hla)).trans k2
      have hres : f_J8_append_2 G 3 (jfn φ σ.2) a (nI N) = some (some a, jfn (va_up ψ2 a (some (.inl (20, [.ref arr', .int 0, .int ml, .int (nI (xs.length + nd))])))) y) := by
        rw [← hy] at k1
        have hsz := p_size (G := G) (τ := jfn φ σ.2) hN
        rw [← hnd] at hsz
        have r9 : f_J7_append_2_J8 G 3 (jfn φ σ.2) a (nI N) = some (some a, jfn (va_up ψ2 a (some (.inl (20, [.ref arr', .int 0, .int ml, .int (nI (xs.length + nd))])))) y) := by
          simp [f_J7_append_2_J8, f_J7_append_2_J8_b, f_J7_isLatin1_J8, gI_fn, gR_fn, pI_fn, pR_fn, pB_fn, rc_fn, jck_fn, bd_some, Option.bind_some, va_up_self, gIv_i, gRv_r, gRv_n, gRv_rf, List.getElem?_cons_zero, List.getElem?_cons_succ, List.set_cons_zero, List.set_cons_succ, List.length_cons, List.length_nil, jfn_2, if_true, if_false, and_true, true_and, Nat.le_refl, e1, hsz, zI_add, k1, k2, t1, t4, hn, hy1]
        simp [f_J8_append_2, f_J8_append_2_b, gI_fn, gR_fn, pI_fn, pR_fn, pB_fn, rc_fn, jck_fn, bd_some, Option.bind_some, va_up_self, gIv_i, gRv_r, gRv_n, gRv_rf, List.getElem?_cons_zero, List.getElem?_cons_succ, List.set_cons_zero, List.set_cons_succ, List.length_cons, List.length_nil, jfn_2, if_true, if_false, and_true, true_and, Nat.le_refl, e1, r9, hy1]
      have hrel : ∀ d', jRel G (cP σ a (3, rs, xs ++ decTxt N, sbCap (xs.length + nd) cap, d')).1 (va_up ψ2 a (some (.inl (20, [.ref arr', .int 0, .int ml, .int (nI (xs.length + nd))])))) := by
        intro d'
        refine close_SB hr hn (Or.inr hoa) (arr := arr') (f := decPut N xs.length g) (ml := ml) (by rw [va_up_self, hlen]) (by rw [va_up_ne _ _ hla]; exact t2) hown' k6 (by rw [hlen]; exact hcap) (decPut_fit hN k5) hcap2 (fun i hi => ?_) (fun y hy => ?_) (Kp.own ?_ hn hoa)
        · rw [hlen] at hi
          by_cases hil : i < xs.length
          · rw [decPut_lo hil, k4 i (by omega), List.getElem?_append_left hil]; exact h7 i hil
          · obtain ⟨j, rfl⟩ : ∃ j, i = xs.length + j := ⟨i - xs.length, by omega⟩
            rw [decPut_hi (by rw [← hnd]; omega), List.getElem?_append_right (by omega)]
            congr 1
            omega
        · rcases List.mem_append.mp hy with q | q
          · exact h8 y q
          · exact decTxt_c hN y q
        · intro b e he hb
          by_cases hba : b = arr'
          · subst hba
            rcases hown' with q | q
            · rw [q] at he; cases he
            · rcases hb with w | w
              · exact absurd k6 (Nat.not_le.mpr w)
              · exact absurd q w
          · rw [t3 b hba]; exact hkp b e he hb
      by_cases hle : xs.length + nd ≤ cap
      · rw [if_pos hle] at h hy
        cases h
        have hc : sbCap (xs.length + nd) cap = cap := by unfold sbCap; rw [if_pos hle]
        have := hrel d
        rw [hc] at this
        rw [hy] at hres
        exact ⟨3, _, hres, this⟩
      · rw [if_neg hle] at h hy
        cases h
        rw [hy] at hres
        exact ⟨3, _, hres, hrel d⟩
    · cases h
  · cases h
end SB2
