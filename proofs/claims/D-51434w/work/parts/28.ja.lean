/-! ArrayList: the plain part -/
set_option maxRecDepth 100000
theorem cRs_some {σ : jH} {k a : Nat} {rs : List (Option Nat)} (h : cRs σ k a = some rs) : ∃ (is : List Int32) (cap d : Nat), σ.1 a = some (.inr (k, rs, is, cap, d)) := by
  unfold cRs cG at h
  cases hs : σ.1 a with
  | none => rw [hs] at h; cases h
  | some x =>
    rw [hs] at h
    match x, h with
    | .inl _, h => cases h
    | .inr (k', rs', is, cap, d), h =>
      dsimp only at h
      by_cases hk : k' = k
      · subst hk; rw [if_pos rfl] at h; cases h; exact ⟨is, cap, d, rfl⟩
      · rw [if_neg hk] at h; cases h
theorem cW_some {G : jG} {σ : jH} {a : Nat} {c : jC} (h : cW G σ a = some c) : G.2.2.1 ≤ a ∧ σ.1 a = some (.inr c) := by
  unfold cW cG at h
  split at h
  · next hn =>
    split at h
    · next hs => cases h; exact ⟨hn, hs⟩
    · cases h
  · cases h
theorem open_AL {G : jG} {gh : jGh} {ow : Nat → Nat} {h : Nat → Option jX} {φ : Nat → Option jE} {a : Nat} {rs : List (Option Nat)} {is : List Int32} {cap d : Nat} (hr : jRelW G gh ow h φ) (ha : h a = some (.inr (0, rs, is, cap, d))) :
    ow a = a ∧ ∃ (mc : Int32) (arr : Nat) (f : Nat → Option Nat), φ a = some (.inl (15, [.int mc, .ref arr, .int (nI rs.length)])) ∧ φ arr = some (.inr (.inr (.inr (cap, f)))) ∧ (arr < G.2.2.1 ∨ (G.2.2.1 ≤ a ∧ ow arr = a)) ∧ arr ≠ a ∧ rs.length ≤ cap ∧ cap < 2 ^ 30 ∧ (∀ i, i < rs.length → some (f i) = rs[i]?) ∧ (if d = 1 then cap = 0 ∧ G.2.2.2 104 = some arr else G.2.2.1 ≤ arr ∧ 0 < cap) := by
  obtain ⟨h1, ps, h2, mc, arr, f, rfl, h3, h4, h5, h6⟩ := hr a _ ha
  have e1 := h2 _ List.mem_cons_self
  have e2 := h2 _ (List.mem_cons_of_mem _ List.mem_cons_self)
  refine ⟨h1, mc, arr, f, e1.1, e2.1, e2.2, ?_, h3, h4, h5, h6⟩
  rintro rfl
  have e3 := e1.1.symm.trans e2.1
  cases e3
section AL
variable {G : jG} {σ : jH} {φ : Nat → Option jE} {a : Nat}
theorem p_J2_size (hr : jRel G σ.1 φ) {v : Int32} (h : lSize 0 σ a = some v) (n : Nat) : f_J2_size G n (jfn φ σ.2) a = some v := by
  obtain ⟨ow, gh, hr⟩ := hr
  obtain ⟨rs, hrs, rfl⟩ := Option.map_eq_some_iff.mp h
  obtain ⟨is, cap, d, hs⟩ := cRs_some hrs
  obtain ⟨-, mc, arr, f, e1, e2, -, -, h3, h4, h5, h6⟩ := open_AL hr hs
  simp [f_J2_size, gI_fn, gR_fn, pI_fn, pR_fn, pB_fn, rc_fn, jck_fn, bd_some, Option.bind_some, va_up_self, gIv_i, gRv_r, gRv_n, gRv_rf, List.getElem?_cons_zero, List.getElem?_cons_succ, List.set_cons_zero, List.set_cons_succ, List.length_cons, List.length_nil, jfn_2, if_true, if_false, and_true, true_and, Nat.le_refl, e1, e2]
theorem p_J2_isEmpty (hr : jRel G σ.1 φ) {v : Int32} (h : lEmpty 0 σ a = some v) (n : Nat) : f_J2_isEmpty G n (jfn φ σ.2) a = some v := by
  obtain ⟨ow, gh, hr⟩ := hr
  obtain ⟨rs, hrs, rfl⟩ := Option.map_eq_some_iff.mp h
  obtain ⟨is, cap, d, hs⟩ := cRs_some hrs
  obtain ⟨-, mc, arr, f, e1, e2, -, -, h3, h4, h5, h6⟩ := open_AL hr hs
  have e : (nI rs.length = 0) ↔ rs.length = 0 := by rw [zI_zero, zI_inj (by omega) (by omega)]
  simp only [f_J2_isEmpty, gI_fn, gR_fn, pI_fn, pR_fn, pB_fn, rc_fn, jck_fn, bd_some, Option.bind_some, va_up_self, gIv_i, gRv_r, gRv_n, gRv_rf, List.getElem?_cons_zero, List.getElem?_cons_succ, List.set_cons_zero, List.set_cons_succ, List.length_cons, List.length_nil, jfn_2, if_true, if_false, and_true, true_and, Nat.le_refl, e1, e2, e]
  by_cases hz : rs.length = 0 <;> simp [hz]
theorem f_chk {n : Nat} {τ : jH} {k m : Nat} (hk : k < m) (hm : m < 2 ^ 31) (r : Option Nat) : f_J14_checkIndex G n τ (nI k) (nI m) r = some (nI k) := by
  unfold f_J14_checkIndex
  rw [if_neg (zI_neg (by omega)), if_pos ((zI_lt (by omega) hm).mpr hk)]
theorem inR_of {i : Int32} {n : Nat} (h : inR i n = true) : ∃ k : Nat, k < n ∧ k < 2 ^ 31 ∧ i = nI k ∧ i.toNatClampNeg = k := by
  have h1 : ¬ (i < 0 ∨ n ≤ i.toNatClampNeg) := by simpa [inR] using h
  obtain ⟨k, hk, rfl, e⟩ := zI_of (fun q => h1 (Or.inl q))
  exact ⟨k, by rw [← e]; exact Nat.not_le.mp (fun q => h1 (Or.inr q)), hk, rfl, e⟩
theorem aR_fn {φ : Nat → Option jE} {z : Nat × Nat} {b k n : Nat} {f : Nat → Option Nat} (h : φ b = some (.inr (.inr (.inr (n, f))))) (hk : k < n) (hn : k < 2 ^ 31) : aR (jfn φ z) (some b) (nI k) = some (f k) := by
  unfold aR
  rw [jar_fn, h]
  dsimp only
  rw [if_pos]
  · rw [zI_clamp hn]
  · rw [zI_clamp hn]
    exact fun q => q.elim (zI_neg hn) (by omega)
theorem p_J2_get (hr : jRel G σ.1 φ) {i : Int32} {v : Option Nat} (h : lGet 0 σ a i = some v) (n : Nat) : f_J2_get G n (jfn φ σ.2) a i = some v := by
  obtain ⟨ow, gh, hr⟩ := hr
  obtain ⟨rs, hrs, h⟩ := Option.bind_eq_some_iff.mp h
  obtain ⟨is, cap, d, hs⟩ := cRs_some hrs
  obtain ⟨-, mc, arr, f, e1, e2, -, -, h3, h4, h5, h6⟩ := open_AL hr hs
  split at h
  · next hin =>
    obtain ⟨k, hk, hk2, rfl, hkk⟩ := inR_of hin
    rw [hkk] at h
    have hf : f k = v := Option.some.inj ((h5 k hk).trans h)
    simp only [f_J2_get, f_J21_checkIndex, f_J2_elementData, gI_fn, gR_fn, pI_fn, pR_fn, pB_fn, rc_fn, jck_fn, bd_some, Option.bind_some, va_up_self, gIv_i, gRv_r, gRv_n, gRv_rf, List.getElem?_cons_zero, List.getElem?_cons_succ, List.set_cons_zero, List.set_cons_succ, List.length_cons, List.length_nil, jfn_2, if_true, if_false, and_true, true_and, Nat.le_refl, e1, f_chk hk (show rs.length < 2 ^ 31 by omega), aR_fn e2 (Nat.lt_of_lt_of_le hk h3) hk2, hf]
  · cases h
end AL
/-- the other cells stay -/
def Kp (G : jG) (ow : Nat → Nat) (a : Nat) (φ φ' : Nat → Option jE) : Prop := ∀ b e, φ b = some e → (b < G.2.2.1 ∨ ow b ≠ a) → φ' b = some e
theorem Kp.rf {G : jG} {ow : Nat → Nat} {a : Nat} {φ : Nat → Option jE} : Kp G ow a φ φ := fun _ _ h _ => h
theorem Kp.own {G : jG} {ow : Nat → Nat} {a c : Nat} {φ φ' : Nat → Option jE} {x : Option jE} (h : Kp G ow a φ φ') (hn : G.2.2.1 ≤ c) (hc : ow c = a) : Kp G ow a φ (va_up φ' c x) := by
  intro b e he hb
  have hbc : b ≠ c := by
    rintro rfl
    rcases hb with q | q
    · exact absurd hn (Nat.not_le.mpr q)
    · exact q hc
  rw [va_up_ne _ _ hbc]
  exact h b e he hb
theorem Kp.new {G : jG} {ow : Nat → Nat} {a c : Nat} {φ φ' : Nat → Option jE} {x : Option jE} (h : Kp G ow a φ φ') (hc : φ c = none) : Kp G ow a φ (va_up φ' c x) := by
  intro b e he hb
  have hbc : b ≠ c := by
    rintro rfl
    rw [hc] at he
    cases he
  rw [va_up_ne _ _ hbc]
  exact h b e he hb
theorem okC_of {G : jG} {gh : jGh} {ow : Nat → Nat} {σ : jH} {φ : Nat → Option jE} (hr : jRelW G gh ow σ.1 φ) {x : Option Nat} (h : jok σ x = true) : okC φ x = true := by
  unfold jok at h
  cases x with
  | none => rfl
  | some b =>
    dsimp only at h
    cases hs : σ.1 b with
    | none => rw [hs] at h; cases h
    | some y =>
      rw [hs] at h
      have h1 := hr b y hs
      unfold okC
      match y, h, h1 with
      | .inl (.inl (c, fs)), h, h1 => dsimp only; rw [h1.1]; exact h
      | .inl (.inr _), h, h1 => cases h
      | .inr (0, _), h, h1 => cases h
      | .inr (1, _), h, h1 => cases h
      | .inr (2, _), h, h1 => cases h
      | .inr (3, _), h, h1 => cases h
      | .inr (4, _), h, h1 => cases h
      | .inr (5, _), h, h1 => cases h
      | .inr (n + 6, _), h, h1 => cases h
theorem okC_up {φ : Nat → Option jE} {b : Nat} {e : Option jE} (hb : okC φ (some b) = false) {x : Option Nat} (h : okC φ x = true) : okC (va_up φ b e) x = true := by
  cases x with
  | none => rfl
  | some c =>
    have hcb : c ≠ b := by
      rintro rfl
      rw [hb] at h
      cases h
    unfold okC
    dsimp only
    rw [va_up_ne _ _ hcb]
    exact h
theorem close_AL {G : jG} {gh : jGh} {ow : Nat → Nat} {σ : jH} {φ φ' : Nat → Option jE} {a : Nat} {rs' : List (Option Nat)} {is : List Int32} {cap' d' : Nat} {mc : Int32} {arr' : Nat} {f' : Nat → Option Nat} (hr : jRelW G gh ow σ.1 φ) (hn : G.2.2.1 ≤ a) (hoa : φ a = none ∨ ow a = a)
    (h1 : φ' a = some (.inl (15, [.int mc, .ref arr', .int (nI rs'.length)]))) (h2 : φ' arr' = some (.inr (.inr (.inr (cap', f'))))) (hown : arr' < G.2.2.1 ∨ φ arr' = none ∨ ow arr' = a) (h3 : rs'.length ≤ cap') (h4 : cap' < 2 ^ 30) (h5 : ∀ i, i < rs'.length → some (f' i) = rs'[i]?) (h6 : if d' = 1 then cap' = 0 ∧ G.2.2.2 104 = some arr' else G.2.2.1 ≤ arr' ∧ 0 < cap') (hφ : Kp G ow a φ φ') : jRel G (cP σ a (0, rs', is, cap', d')).1 φ' := by
  refine jRelW.upd (gh' := gh) (ps := [(a, .inl (15, [.int mc, .ref arr', .int (nI rs'.length)])), (arr', .inr (.inr (.inr (cap', f'))))]) hr hoa hn cP_hh cP_a (fun _ _ => rfl) hφ (fun x hx => ?_) ⟨mc, arr', f', rfl, h3, h4, h5, h6⟩
  rcases List.mem_cons.mp hx with rfl | hx
  · exact ⟨h1, hoa.elim (fun q => Or.inr (Or.inl q)) (fun q => Or.inr (Or.inr q))⟩
  · rw [List.mem_singleton.mp hx]
    exact ⟨h2, hown⟩
theorem sR_at {G : jG} {φ : Nat → Option jE} {z : Nat × Nat} {b k n : Nat} {f : Nat → Option Nat} {x : Option Nat} (h : φ b = some (.inr (.inr (.inr (n, f))))) (hk : k < n) (hn : k < 2 ^ 31) (hb : G.2.2.1 ≤ b) (hx : okC φ x = true) : sR G (jfn φ z) (some b) (nI k) x = some (jfn (va_up φ b (some (.inr (.inr (.inr (n, va_up f k x)))))) z) := by
  rw [sR_fn, h]
  dsimp only
  rw [if_pos, zI_clamp hn]
  refine ⟨?_, hb, hx⟩
  rw [zI_clamp hn]
  exact fun q => q.elim (zI_neg hn) (by omega)
section AL2
variable {G : jG} {σ σ' : jH} {φ : Nat → Option jE} {a : Nat}
theorem p_J2_set (hr : jRel G σ.1 φ) (hz : ∀ b, σ.2.1 ≤ b → φ b = none) {i : Int32} {x v : Option Nat} (h : alSet G σ a i x = some (v, σ')) : ∃ n φ', f_J2_set G n (jfn φ σ.2) a i x = some (v, jfn φ' σ'.2) ∧ jRel G σ'.1 φ' := by
  obtain ⟨ow, gh, hr⟩ := hr
  unfold alSet at h
  split at h
  · next rs is cap d hs =>
    obtain ⟨hn, hs⟩ := cW_some hs
    obtain ⟨hoa, mc, arr, f, e1, e2, e3, hne, h3, h4, h5, h6⟩ := open_AL hr hs
    split at h
    · next hin =>
      obtain ⟨hin, hok⟩ := hin
      obtain ⟨k, hk, hk2, rfl, hkk⟩ := inR_of hin
      rw [hkk] at h
      obtain ⟨old, hold, h⟩ := Option.map_eq_some_iff.mp h
      cases h
      have hf : f k = v := Option.some.inj ((h5 k hk).trans hold)
      have hkc : k < cap := Nat.lt_of_lt_of_le hk h3
      have hd : d ≠ 1 := by rintro rfl; rw [if_pos rfl] at h6; omega
      rw [if_neg hd] at h6
      have hown : ow arr = a := e3.elim (fun q => absurd h6.1 (Nat.not_le.mpr q)) (fun q => q.2)
      refine ⟨0, va_up φ arr (some (.inr (.inr (.inr (cap, va_up f k x))))), ?_, ?_⟩
      · simp only [f_J2_set, f_J2_set_b, f_J21_checkIndex, f_J2_elementData, gI_fn, gR_fn, pI_fn, pR_fn, pB_fn, rc_fn, jck_fn, bd_some, Option.bind_some, va_up_self, gIv_i, gRv_r, gRv_n, gRv_rf, List.getElem?_cons_zero, List.getElem?_cons_succ, List.set_cons_zero, List.set_cons_succ, List.length_cons, List.length_nil, jfn_2, if_true, if_false, and_true, true_and, Nat.le_refl, e1, f_chk hk (show rs.length < 2 ^ 31 by omega), aR_fn e2 hkc hk2, hf, sR_at e2 hkc hk2 h6.1 (okC_of hr hok)]
        rfl
      · exact close_AL hr hn (Or.inr hoa) (f' := va_up f k x) (by rw [va_up_ne _ _ (Ne.symm hne), List.length_set]; exact e1) (va_up_self _ _ _) (Or.inr (Or.inr hown)) (by rw [List.length_set]; exact h3) h4 (fun j hj => by
          rw [List.length_set] at hj
          by_cases hjk : j = k
          · subst hjk; rw [va_up_self, List.getElem?_set_self hk]
          · rw [va_up_ne _ _ hjk, List.getElem?_set_ne (Ne.symm hjk)]; exact h5 j hj) (by rw [if_neg hd]; exact h6) (Kp.rf.own h6.1 hown)
    · cases h
  · cases h
end AL2
theorem zI_shr {a : Nat} (ha : a < 2 ^ 31) : nI a >>> ((1 : Int32) &&& 31) = nI (a / 2) := by
  apply Int32.toInt_inj.mp
  rw [zI_toInt (by omega)]
  have h1 : (nI a >>> ((1 : Int32) &&& 31)).toInt = (nI a).toInt >>> 1 := by
    show (Int32.toBitVec _).toInt = _
    rw [Int32.toBitVec_shiftRight]
    show (BitVec.sshiftRight _ _).toInt = _
    rw [BitVec.toInt_sshiftRight]
    rfl
  rw [h1, zI_toInt ha, Int.shiftRight_eq_div_pow]
  omega
theorem aLenR {φ : Nat → Option jE} {z : Nat × Nat} {b n : Nat} {f : Nat → Option Nat} (h : φ b = some (.inr (.inr (.inr (n, f))))) : aLen' (jfn φ z) (some b) = some (nI n) := by
  unfold aLen'
  rw [jar_fn, h]
  rfl
theorem aLenB {φ : Nat → Option jE} {z : Nat × Nat} {b n : Nat} {f : Nat → Int32} (h : φ b = some (.inr (.inl (1, n, f)))) : aLen' (jfn φ z) (some b) = some (nI n) := by
  unfold aLen'
  rw [jar_fn, h]
  rfl
theorem f_max {n a b : Nat} (ha : a < 2 ^ 31) (hb : b < 2 ^ 31) : J12_max n (nI a) (nI b) = some (nI (max a b)) := by
  unfold J12_max
  by_cases h : a < b
  · rw [if_pos ((zI_lt ha hb).mpr h)]; congr 2; omega
  · rw [if_neg (fun q => h ((zI_lt ha hb).mp q))]; congr 2; omega
theorem f_min {n a b : Nat} (ha : a < 2 ^ 31) (hb : b < 2 ^ 31) : J12_min n (nI a) (nI b) = some (nI (min a b)) := by
  unfold J12_min
  by_cases h : b < a
  · rw [if_pos ((zI_lt hb ha).mpr h)]; congr 2; omega
  · rw [if_neg (fun q => h ((zI_lt hb ha).mp q))]; congr 2; omega
theorem f_newLen {G : jG} {n : Nat} {τ : jH} {a b c : Nat} (ha : a < 500000) (hb : b < 500000) (hc : c < 500000) (hp : 0 < a + max b c) : f_J11_newLength G n τ (nI a) (nI b) (nI c) = some (nI (a + max b c)) := by
  unfold f_J11_newLength
  rw [f_max (by omega) (by omega), Option.bind_some, zI_add]
  rw [if_neg, if_neg]
  · rw [show (2147483639 : Int32) = nI 2147483639 from rfl, zI_lt (by omega) (by omega)]; omega
  · rw [zI_zero, zI_le (by omega) (by omega)]; omega
theorem nR_at {φ : Nat → Option jE} {z : Nat × Nat} {k : Nat} (hk : k ≤ 65536) : nR (jfn φ z) (nI k) = some (z.1, jfn (va_up φ z.1 (some (.inr (.inr (.inr (k, fun _ => none)))))) (z.1 + 1, z.2 + k)) := by
  rw [nR_fn, zI_clamp (by omega), if_pos ⟨zI_neg (by omega), hk⟩]
theorem acR_at {G : jG} {φ : Nat → Option jE} {z : Nat × Nat} {a b i j n n1 n2 : Nat} {f g : Nat → Option Nat} (ha : φ a = some (.inr (.inr (.inr (n1, f))))) (hb : φ b = some (.inr (.inr (.inr (n2, g))))) (h1 : G.2.2.1 ≤ a) (h2 : G.2.2.1 ≤ b) (h3 : i + n ≤ n1) (h4 : j + n ≤ n2) (hn1 : n1 < 2 ^ 30) (hn2 : n2 < 2 ^ 30) (hok : ∀ z, z < n → okC φ (f (i + z)) = true) : acR G (jfn φ z) (some a) (nI i) (some b) (nI j) (nI n) = some (jfn (va_up φ b (some (.inr (.inr (.inr (n2, va_cpy f g i j n)))))) z) := by
  rw [acR_fn ha hb, zI_clamp (by omega), zI_clamp (by omega), zI_clamp (by omega), if_pos]
  exact ⟨h1, h2, zI_neg (by omega), zI_neg (by omega), zI_neg (by omega), h3, h4, hok⟩
/-- the row grows -/
theorem p_grow {G : jG} {φ : Nat → Option jE} {z : Nat × Nat} {a arr cap d : Nat} {f : Nat → Option Nat} {mc : Int32} (n : Nat) (hn : G.2.2.1 ≤ a) (e1 : φ a = some (.inl (15, [.int mc, .ref arr, .int (nI cap)]))) (e2 : φ arr = some (.inr (.inr (.inr (cap, f))))) (hz : φ z.1 = none) (hzn : G.2.2.1 ≤ z.1) (h6 : if d = 1 then cap = 0 ∧ G.2.2.2 104 = some arr else G.2.2.1 ≤ arr ∧ 0 < cap) (hc : cap < 40000) (hok : ∀ k, k < cap → okC φ (f k) = true) :
    ∃ g : Nat → Option Nat, (∀ k, k < cap → g k = f k) ∧ ∃ φ1, f_J2_grow G n (jfn φ z) a = some (some z.1, jfn (va_up (va_up φ1 z.1 (some (.inr (.inr (.inr (alCap cap cap d, g)))))) a (some (.inl (15, [.int mc, .ref z.1, .int (nI cap)])))) (z.1 + 1, z.2 + alCap cap cap d)) ∧ ∀ b, b ≠ z.1 → φ1 b = φ b := by
  have hza : z.1 ≠ a := by rintro h; rw [h, e1] at hz; cases hz
  have hzr : z.1 ≠ arr := by rintro h; rw [h, e2] at hz; cases hz
  unfold alCap
  rw [if_neg (Nat.lt_irrefl _)]
  by_cases hd : d = 1
  · rw [if_pos hd] at h6
    obtain ⟨hc0, h6⟩ := h6
    rw [if_pos hd]
    refine ⟨fun _ => none, fun k hk => by omega, φ, ?_, fun _ _ => rfl⟩
    subst hc0
    simp only [f_J2_grow, f_J2_grow_b, f_J2_grow_2, f_J2_grow_2_b, gI_fn, gR_fn, pI_fn, pR_fn, pB_fn, rc_fn, jck_fn, bd_some, Option.bind_some, va_up_self, gIv_i, gRv_r, gRv_n, gRv_rf, List.getElem?_cons_zero, List.getElem?_cons_succ, List.set_cons_zero, List.set_cons_succ, List.length_cons, List.length_nil, jfn_2, if_true, if_false, and_true, true_and, Nat.le_refl, e1, aLenR e2]
    rw [if_neg (by decide)]
    simp only [gI_fn, gR_fn, pI_fn, pR_fn, pB_fn, rc_fn, jck_fn, bd_some, Option.bind_some, va_up_self, gIv_i, gRv_r, gRv_n, gRv_rf, List.getElem?_cons_zero, List.getElem?_cons_succ, List.set_cons_zero, List.set_cons_succ, List.length_cons, List.length_nil, jfn_2, if_true, if_false, and_true, true_and, Nat.le_refl, e1, h6]
    rw [show (10 : Int32) = nI 10 from rfl, show nI 0 + 1 = nI 1 from rfl, f_max (by omega) (by omega)]
    simp [gI_fn, gR_fn, pI_fn, pR_fn, pB_fn, rc_fn, jck_fn, bd_some, Option.bind_some, va_up_self, gIv_i, gRv_r, gRv_n, gRv_rf, List.getElem?_cons_zero, List.getElem?_cons_succ, List.set_cons_zero, List.set_cons_succ, List.length_cons, List.length_nil, jfn_2, if_true, if_false, and_true, true_and, Nat.le_refl, nR_at (show 10 ≤ 65536 by omega), va_up_ne _ _ (Ne.symm hza), e1, hn, va_rf]
  · rw [if_neg hd] at h6
    obtain ⟨hrn, hc0⟩ := h6
    rw [if_neg hd]
    refine ⟨va_cpy f (fun _ => none) 0 0 cap, fun k hk => by unfold va_cpy; rw [if_pos (by omega)]; congr 1; omega, va_up φ z.1 (some (.inr (.inr (.inr (cap + max 1 (cap / 2), fun _ => none))))), ?_, fun b hb => va_up_ne _ _ hb⟩
    simp only [f_J2_grow, f_J2_grow_b, f_J2_grow_2, f_J2_grow_2_b, f_J2_grow_2_j20, gI_fn, gR_fn, pI_fn, pR_fn, pB_fn, rc_fn, jck_fn, bd_some, Option.bind_some, va_up_self, gIv_i, gRv_r, gRv_n, gRv_rf, List.getElem?_cons_zero, List.getElem?_cons_succ, List.set_cons_zero, List.set_cons_succ, List.length_cons, List.length_nil, jfn_2, if_true, if_false, and_true, true_and, Nat.le_refl, e1, aLenR e2]
    rw [if_pos (by rw [zI_zero, zI_lt (by omega) (by omega)]; omega), zI_shr (by omega)]
    rw [show nI cap + 1 - nI cap = nI 1 by rw [zI_one, zI_add, zI_sub (by omega)]; congr 1; omega, f_newLen (by omega) (by omega) (by omega) (by omega), Option.bind_some]
    simp only [f_J13_copyOf_2, f_J13_copyOf_2_b, f_J13_copyOf_3, f_J13_copyOf_3_b, gI_fn, gR_fn, pI_fn, pR_fn, pB_fn, rc_fn, jck_fn, bd_some, Option.bind_some, va_up_self, gIv_i, gRv_r, gRv_n, gRv_rf, List.getElem?_cons_zero, List.getElem?_cons_succ, List.set_cons_zero, List.set_cons_succ, List.length_cons, List.length_nil, jfn_2, if_true, if_false, and_true, true_and, Nat.le_refl, e1, gC_fn, e2, hrn, nR_at (show cap + max 1 (cap / 2) ≤ 65536 by omega), if_pos hrn]
    rw [aLenR (b := arr) (n := cap) (f := f) (by rw [va_up_ne _ _ (Ne.symm hzr)]; exact e2), Option.bind_some, f_min (by omega) (by omega), Option.bind_some, zI_zero, show min cap (cap + max 1 (cap / 2)) = cap by omega, acR_at (i := 0) (j := 0) (by rw [va_up_ne _ _ (Ne.symm hzr)]; exact e2) (va_up_self _ _ _) hrn hzn (by omega) (by omega) (by omega) (by omega) (fun k hk => okC_up (by unfold okC; simp [hz]) (by rw [Nat.zero_add]; exact hok k hk)), Option.bind_some]
    simp [gI_fn, gR_fn, pI_fn, pR_fn, pB_fn, rc_fn, jck_fn, bd_some, Option.bind_some, va_up_self, gIv_i, gRv_r, gRv_n, gRv_rf, List.getElem?_cons_zero, List.getElem?_cons_succ, List.set_cons_zero, List.set_cons_succ, List.length_cons, List.length_nil, jfn_2, if_true, if_false, and_true, true_and, Nat.le_refl, va_up_ne _ _ (Ne.symm hza), e1, hn, va_rf]
theorem ins_at {rs : List (Option Nat)} {f f' : Nat → Option Nat} {i : Nat} {x : Option Nat} (h5 : ∀ j, j < rs.length → some (f j) = rs[j]?) (hi : i ≤ rs.length) (hf : ∀ j, j ≤ rs.length → f' j = if j < i then f j else if j = i then x else f (j - 1)) : ∀ j, j < (rs.insertIdx i x).length → some (f' j) = (rs.insertIdx i x)[j]? := by
  intro j hj
  rw [List.length_insertIdx, if_pos hi] at hj
  rw [List.getElem?_insertIdx, hf j (by omega)]
  by_cases h1 : j < i
  · rw [if_pos h1, if_pos h1]; exact h5 j (by omega)
  · rw [if_neg h1, if_neg h1]
    by_cases h2 : j = i
    · rw [if_pos h2, if_pos h2, if_pos (by omega)]
    · rw [if_neg h2, if_neg h2]; exact h5 (j - 1) (by omega)
theorem all_at {φ : Nat → Option jE} {σ : jH} {G : jG} {gh : jGh} {ow : Nat → Nat} {rs : List (Option Nat)} {f : Nat → Option Nat} (hr : jRelW G gh ow σ.1 φ) (h5 : ∀ j, j < rs.length → some (f j) = rs[j]?) (h : rs.all (jok σ) = true) : ∀ k, k < rs.length → okC φ (f k) = true := by
  intro k hk
  have h1 := h5 k hk
  rw [List.all_eq_true] at h
  exact okC_of hr (h _ (List.mem_of_getElem? h1.symm))
theorem okC_15 {φ : Nat → Option jE} {a : Nat} {fs : List Value} (h : φ a = some (.inl (15, fs))) : okC φ (some a) = false := by
  unfold okC; dsimp only; rw [h]; rfl
theorem okC_R {φ : Nat → Option jE} {a : Nat} {b : jB} (h : φ a = some (.inr b)) : okC φ (some a) = false := by
  unfold okC; dsimp only; rw [h]
theorem okC_N {φ : Nat → Option jE} {a : Nat} (h : φ a = none) : okC φ (some a) = false := by
  unfold okC; dsimp only; rw [h]
section AL3
variable {G : jG} {σ σ' : jH} {φ : Nat → Option jE} {a : Nat}
theorem p_J2_add (hr : jRel G σ.1 φ) (hz : ∀ b, σ.2.1 ≤ b → φ b = none) (hzn : G.2.2.1 ≤ σ.2.1) {x : Option Nat} {v : Int32} (h : alAdd G σ a x = some (v, σ')) : ∃ n φ', f_J2_add G n (jfn φ σ.2) a x = some (v, jfn φ' σ'.2) ∧ jRel G σ'.1 φ' := by
  obtain ⟨ow, gh, hr⟩ := hr
  obtain ⟨rs, hrs, h⟩ := Option.bind_eq_some_iff.mp h
  obtain ⟨σ1, h, h9⟩ := Option.map_eq_some_iff.mp h
  cases h9
  unfold alIns at h
  split at h
  · next rs' is cap d hs =>
    obtain ⟨hn, hs⟩ := cW_some hs
    obtain ⟨is2, cap2, d2, hs2⟩ := cRs_some hrs
    cases hs.symm.trans hs2
    obtain ⟨hoa, mc, arr, f, e1, e2, e3, hne, h3, h4, h5, h6⟩ := open_AL hr hs
    split at h
    · next hg =>
      obtain ⟨hg1, hg2, hok, hall⟩ := hg
      cases h
      have hfx : ∀ j, j ≤ rs.length → va_up f rs.length x j = if j < rs.length then f j else if j = rs.length then x else f (j - 1) := by
        intro j hj
        by_cases hjl : j = rs.length
        · subst hjl; rw [va_up_self, if_neg (Nat.lt_irrefl _), if_pos rfl]
        · rw [va_up_ne _ _ hjl, if_pos (by omega)]
      have hlen : (rs.insertIdx rs.length x).length = rs.length + 1 := by rw [List.length_insertIdx, if_pos (Nat.le_refl _)]
      unfold alGrow
      by_cases hlt : rs.length < cap
      · have hd : d ≠ 1 := by rintro rfl; rw [if_pos rfl] at h6; omega
        rw [if_neg hd] at h6
        have hown : ow arr = a := e3.elim (fun q => absurd h6.1 (Nat.not_le.mpr q)) (fun q => q.2)
        rw [if_pos hlt, if_pos hlt]
        have hcap : alCap rs.length cap d = cap := by unfold alCap; rw [if_pos hlt]
        rw [hcap]
        refine ⟨0, va_up (va_up (va_up φ a (some (.inl (15, [.int (mc + 1), .ref arr, .int (nI rs.length)])))) arr (some (.inr (.inr (.inr (cap, va_up f rs.length x)))))) a (some (.inl (15, [.int (mc + 1), .ref arr, .int (nI (rs.length + 1))]))), ?_, ?_⟩
        · simp only [f_J2_add, f_J2_add_b, f_J2_add_2, f_J2_add_2_b, f_J2_add_2_j11, gI_fn, gR_fn, pI_fn, pR_fn, pB_fn, rc_fn, jck_fn, bd_some, Option.bind_some, va_up_self, gIv_i, gRv_r, gRv_n, gRv_rf, List.getElem?_cons_zero, List.getElem?_cons_succ, List.set_cons_zero, List.set_cons_succ, List.length_cons, List.length_nil, jfn_2, if_true, if_false, and_true, true_and, Nat.le_refl, e1, hn]
          have e2' : (va_up φ a (some (.inl (15, [.int (mc + 1), .ref arr, .int (nI rs.length)])))) arr = some (.inr (.inr (.inr (cap, f)))) := by rw [va_up_ne _ _ hne]; exact e2
          simp [gI_fn, gR_fn, pI_fn, pR_fn, pB_fn, rc_fn, jck_fn, bd_some, Option.bind_some, va_up_self, gIv_i, gRv_r, gRv_n, gRv_rf, List.getElem?_cons_zero, List.getElem?_cons_succ, List.set_cons_zero, List.set_cons_succ, List.length_cons, List.length_nil, jfn_2, if_true, if_false, and_true, true_and, Nat.le_refl, e1, hn, aLenR e2', zI_inj (show rs.length < 2 ^ 31 by omega) (show cap < 2 ^ 31 by omega), Nat.ne_of_lt hlt, sR_at e2' hlt (show rs.length < 2 ^ 31 by omega) h6.1 (okC_up (okC_15 e1) (okC_of hr hok)), va_up_ne _ _ (Ne.symm hne), zI_add1]
          rfl
        · exact close_AL hr hn (Or.inr hoa) (mc := mc + 1) (arr' := arr) (f' := va_up f rs.length x) (by rw [va_up_self, hlen]) (by rw [va_up_ne _ _ hne, va_up_self]) (Or.inr (Or.inr hown)) (by rw [hlen]; exact hlt) h4 (ins_at h5 (Nat.le_refl _) hfx) (by rw [if_neg hd]; exact h6) (((Kp.rf.own hn hoa).own h6.1 hown).own hn hoa)
      · have hle : rs.length = cap := by omega
        rw [if_neg hlt, if_neg hlt]
        have hz1 : φ σ.2.1 = none := hz _ (Nat.le_refl _)
        have hza : σ.2.1 ≠ a := by rintro h; rw [h, e1] at hz1; cases hz1
        have hzr : σ.2.1 ≠ arr := by rintro h; rw [h, e2] at hz1; cases hz1
        have hz1' : (va_up φ a (some (.inl (15, [.int (mc + 1), .ref arr, .int (nI rs.length)])))) σ.2.1 = none := by rw [va_up_ne _ _ hza]; exact hz1
        have e2' : (va_up φ a (some (.inl (15, [.int (mc + 1), .ref arr, .int (nI rs.length)])))) arr = some (.inr (.inr (.inr (cap, f)))) := by rw [va_up_ne _ _ hne]; exact e2
        obtain ⟨g, hg, φ1, e, hφ1⟩ := p_grow (z := σ.2) 0 hn (by rw [← hle]; exact va_up_self φ a _) e2' hz1' hzn h6 hg2 (fun k hk => okC_up (okC_15 e1) (all_at hr h5 hall k (by omega)))
        have hcap : rs.length < alCap cap cap d ∧ alCap cap cap d < 2 ^ 30 := by
          unfold alCap
          rw [if_neg (Nat.lt_irrefl _)]
          by_cases hd : d = 1
          · rw [if_pos hd] at h6 ⊢; omega
          · rw [if_neg hd]; omega
        refine ⟨0, va_up (va_up (va_up (va_up φ1 σ.2.1 (some (.inr (.inr (.inr (alCap cap cap d, g)))))) a (some (.inl (15, [.int (mc + 1), .ref σ.2.1, .int (nI cap)])))) σ.2.1 (some (.inr (.inr (.inr (alCap cap cap d, va_up g rs.length x)))))) a (some (.inl (15, [.int (mc + 1), .ref σ.2.1, .int (nI (rs.length + 1))]))), ?_, ?_⟩
        · have hok2 : okC (va_up (va_up φ1 σ.2.1 (some (.inr (.inr (.inr (alCap cap cap d, g)))))) a (some (.inl (15, [.int (mc + 1), .ref σ.2.1, .int (nI cap)])))) x = true := by
            have h0 : okC φ x = true := okC_of hr hok
            cases x with
            | none => rfl
            | some b =>
              have hb : b ≠ σ.2.1 := by rintro rfl; rw [okC_N hz1] at h0; cases h0
              have hb2 : b ≠ a := by rintro rfl; rw [okC_15 e1] at h0; cases h0
              unfold okC at h0 ⊢
              dsimp only at h0 ⊢
              rw [va_up_ne _ _ hb2, va_up_ne _ _ hb, hφ1 b hb, va_up_ne _ _ hb2]
              exact h0
          simp only [f_J2_add, f_J2_add_b, f_J2_add_2, f_J2_add_2_b, f_J2_add_2_j11, gI_fn, gR_fn, pI_fn, pR_fn, pB_fn, rc_fn, jck_fn, bd_some, Option.bind_some, va_up_self, gIv_i, gRv_r, gRv_n, gRv_rf, List.getElem?_cons_zero, List.getElem?_cons_succ, List.set_cons_zero, List.set_cons_succ, List.length_cons, List.length_nil, jfn_2, if_true, if_false, and_true, true_and, Nat.le_refl, e1, hn]
          simp only [hle] at e e2' hok2 ⊢
          simp [gI_fn, gR_fn, pI_fn, pR_fn, pB_fn, rc_fn, jck_fn, bd_some, Option.bind_some, va_up_self, gIv_i, gRv_r, gRv_n, gRv_rf, List.getElem?_cons_zero, List.getElem?_cons_succ, List.set_cons_zero, List.set_cons_succ, List.length_cons, List.length_nil, jfn_2, if_true, if_false, and_true, true_and, Nat.le_refl, e1, hn, aLenR e2', e, sR_at (b := σ.2.1) (k := cap) (va_up_ne _ _ hza |>.trans (va_up_self _ _ _)) (show cap < alCap cap cap d by omega) (show cap < 2 ^ 31 by omega) hzn hok2, va_up_ne _ _ (Ne.symm hza), zI_add1]
          rfl
        · have hcc : alCap rs.length cap d = alCap cap cap d := by rw [hle]
          rw [hcc]
          refine close_AL hr hn (Or.inr hoa) (mc := mc + 1) (arr' := σ.2.1) (f' := va_up g rs.length x) (by rw [va_up_self, hlen]) (by rw [va_up_ne _ _ hza, va_up_self]) (Or.inr (Or.inl hz1)) (by rw [hlen]; omega) hcap.2 (ins_at (f := g) (fun j hj => by rw [hg j (by omega)]; exact h5 j hj) (Nat.le_refl _) (fun j hj => by
            by_cases hjl : j = rs.length
            · subst hjl; rw [va_up_self, if_neg (Nat.lt_irrefl _), if_pos rfl]
            · rw [va_up_ne _ _ hjl, if_pos (by omega)])) (by rw [if_neg (by decide)]; exact ⟨hzn, by omega⟩) ?_
          refine Kp.own (Kp.new (Kp.own (Kp.new ?_ hz1) hn hoa) hz1) hn hoa
          intro b e9 he9 hb
          have hb1 : b ≠ σ.2.1 := by rintro rfl; rw [hz1] at he9; cases he9
          rw [hφ1 b hb1]
          exact (Kp.rf.own hn hoa) b e9 he9 hb
    · cases h
  · cases h
end AL3
def insH (ψ : Nat → Option jE) (a arr cap len i : Nat) (g : Nat → Option Nat) (mc : Int32) (x : Option Nat) : Nat → Option jE := va_up (va_up (va_up ψ arr (some (.inr (.inr (.inr (cap, va_cpy g g i (i + 1) (len - i))))))) arr (some (.inr (.inr (.inr (cap, va_up (va_cpy g g i (i + 1) (len - i)) i x)))))) a (some (.inl (15, [.int mc, .ref arr, .int (nI (len + 1))])))
theorem p_ins {G : jG} {ψ : Nat → Option jE} {z : Nat × Nat} {a arr cap len i : Nat} {g : Nat → Option Nat} {mc : Int32} {x : Option Nat} (n : Nat) (hn : G.2.2.1 ≤ a) (e1 : ψ a = some (.inl (15, [.int mc, .ref arr, .int (nI len)]))) (e2 : ψ arr = some (.inr (.inr (.inr (cap, g))))) (har : G.2.2.1 ≤ arr) (hlt : len < cap) (hcap : cap < 2 ^ 30) (hi : i ≤ len) (hok : ∀ k, k < len → okC ψ (g k) = true) (hx : okC ψ x = true) :
    f_J2_add_3_j38 G n a (nI i) x (nI len) (some arr) (jfn ψ z) = some ((), jfn (insH ψ a arr cap len i g mc x) z) := by
  unfold insH
  have hne : arr ≠ a := by rintro h; rw [h, e1] at e2; cases e2
  unfold f_J2_add_3_j38
  rw [zI_add1, zI_sub hi, acR_at e2 e2 har har (by omega) (by omega) hcap hcap (fun k hk => hok _ (by omega)), Option.bind_some]
  rw [sR_at (va_up_self _ _ _) (show i < cap by omega) (by omega) har (okC_up (okC_R e2) hx), Option.bind_some]
  simp [gI_fn, gR_fn, pI_fn, pR_fn, pB_fn, rc_fn, jck_fn, bd_some, Option.bind_some, va_up_self, gIv_i, gRv_r, gRv_n, gRv_rf, List.getElem?_cons_zero, List.getElem?_cons_succ, List.set_cons_zero, List.set_cons_succ, List.length_cons, List.length_nil, jfn_2, if_true, if_false, and_true, true_and, Nat.le_refl, e1, hn, va_up_ne _ _ (Ne.symm hne), zI_add1]
theorem ins_fn {g : Nat → Option Nat} {x : Option Nat} {len i : Nat} (hi : i ≤ len) (j : Nat) (hj : j ≤ len) : va_up (va_cpy g g i (i + 1) (len - i)) i x j = if j < i then g j else if j = i then x else g (j - 1) := by
  by_cases hji : j = i
  · subst hji; rw [va_up_self, if_neg (Nat.lt_irrefl _), if_pos rfl]
  · rw [va_up_ne _ _ hji]
    unfold va_cpy
    by_cases hl : j < i
    · rw [if_pos hl, if_neg (by omega)]
    · rw [if_neg hl, if_neg hji, if_pos (by omega)]
      congr 1
      omega
section AL4
variable {G : jG} {σ σ' : jH} {φ : Nat → Option jE} {a : Nat}
theorem p_J2_add_3 (hr : jRel G σ.1 φ) (hz : ∀ b, σ.2.1 ≤ b → φ b = none) (hzn : G.2.2.1 ≤ σ.2.1) {i : Int32} {x : Option Nat} {v : Unit} (h : alAddI G σ a i x = some (v, σ')) : ∃ n φ', f_J2_add_3 G n (jfn φ σ.2) a i x = some (v, jfn φ' σ'.2) ∧ jRel G σ'.1 φ' := by
  obtain ⟨ow, gh, hr⟩ := hr
  obtain ⟨rs, hrs, h⟩ := Option.bind_eq_some_iff.mp h
  split at h
  case isFalse => cases h
  case isTrue hin =>
  obtain ⟨k, hk, hk2, rfl, hkk⟩ := inR_of hin
  rw [hkk] at h
  obtain ⟨σ1, h, h9⟩ := Option.map_eq_some_iff.mp h
  cases h9
  unfold alIns at h
  split at h
  · next rs' is cap d hs =>
    obtain ⟨hn, hs⟩ := cW_some hs
    obtain ⟨is2, cap2, d2, hs2⟩ := cRs_some hrs
    cases hs.symm.trans hs2
    obtain ⟨hoa, mc, arr, f, e1, e2, e3, hne, h3, h4, h5, h6⟩ := open_AL hr hs
    split at h
    · next hg =>
      obtain ⟨hg1, hg2, hok, hall⟩ := hg
      cases h
      have hlen : (rs.insertIdx k x).length = rs.length + 1 := by rw [List.length_insertIdx, if_pos (by omega)]
      have hrc : ∀ (z : Nat × Nat), f_J2_rangeCheckForAdd G 0 (jfn φ z) a (nI k) = some () := by
        intro z
        simp only [f_J2_rangeCheckForAdd, gI_fn, gR_fn, pI_fn, pR_fn, pB_fn, rc_fn, jck_fn, bd_some, Option.bind_some, va_up_self, gIv_i, gRv_r, gRv_n, gRv_rf, List.getElem?_cons_zero, List.getElem?_cons_succ, List.set_cons_zero, List.set_cons_succ, List.length_cons, List.length_nil, jfn_2, if_true, if_false, and_true, true_and, Nat.le_refl, e1]
        rw [if_neg, if_pos]
        · rw [zI_zero, zI_le (by omega) hk2]; omega
        · rw [zI_lt (by omega) hk2]; omega
      unfold alGrow
      by_cases hlt : rs.length < cap
      · have hd : d ≠ 1 := by rintro rfl; rw [if_pos rfl] at h6; omega
        rw [if_neg hd] at h6
        have hown : ow arr = a := e3.elim (fun q => absurd h6.1 (Nat.not_le.mpr q)) (fun q => q.2)
        rw [if_pos hlt, if_pos hlt]
        have hcap : alCap rs.length cap d = cap := by unfold alCap; rw [if_pos hlt]
        rw [hcap]
        have e2' : (va_up φ a (some (.inl (15, [.int (mc + 1), .ref arr, .int (nI rs.length)])))) arr = some (.inr (.inr (.inr (cap, f)))) := by rw [va_up_ne _ _ hne]; exact e2
        have K := p_ins (z := σ.2) 0 hn (va_up_self φ a _) e2' h6.1 hlt h4 (show k ≤ rs.length by omega) (fun k hk => okC_up (okC_15 e1) (all_at hr h5 hall k hk)) (okC_up (okC_15 e1) (okC_of hr hok))
        refine ⟨0, insH (va_up φ a (some (.inl (15, [.int (mc + 1), .ref arr, .int (nI rs.length)])))) a arr cap rs.length k f (mc + 1) x, ?_, ?_⟩
        · simp only [f_J2_add_3, f_J2_add_3_b, gI_fn, gR_fn, pI_fn, pR_fn, pB_fn, rc_fn, jck_fn, bd_some, Option.bind_some, va_up_self, gIv_i, gRv_r, gRv_n, gRv_rf, List.getElem?_cons_zero, List.getElem?_cons_succ, List.set_cons_zero, List.set_cons_succ, List.length_cons, List.length_nil, jfn_2, if_true, if_false, and_true, true_and, Nat.le_refl, e1, hn, hrc]
          rw [if_pos (by decide)]
          simp only [f_J2_add_3, f_J2_add_3_b, gI_fn, gR_fn, pI_fn, pR_fn, pB_fn, rc_fn, jck_fn, bd_some, Option.bind_some, va_up_self, gIv_i, gRv_r, gRv_n, gRv_rf, List.getElem?_cons_zero, List.getElem?_cons_succ, List.set_cons_zero, List.set_cons_succ, List.length_cons, List.length_nil, jfn_2, if_true, if_false, and_true, true_and, Nat.le_refl, e1, hn, hrc, aLenR e2', zI_inj (show rs.length < 2 ^ 31 by omega) (show cap < 2 ^ 31 by omega), Nat.ne_of_lt hlt, K]
          rfl
        · exact close_AL hr hn (Or.inr hoa) (mc := mc + 1) (arr' := arr) (by rw [insH, va_up_self, hlen]) (by rw [insH, va_up_ne _ _ hne, va_up_self]) (Or.inr (Or.inr hown)) (by rw [hlen]; exact hlt) h4 (ins_at h5 (by omega) (fun j hj => ins_fn (by omega) j hj)) (by rw [if_neg hd]; exact h6) ((((Kp.rf.own hn hoa).own h6.1 hown).own h6.1 hown).own hn hoa)
      · have hle : rs.length = cap := by omega
        rw [if_neg hlt, if_neg hlt]
        have hz1 : φ σ.2.1 = none := hz _ (Nat.le_refl _)
        have hza : σ.2.1 ≠ a := by rintro h; rw [h, e1] at hz1; cases hz1
        have hzr : σ.2.1 ≠ arr := by rintro h; rw [h, e2] at hz1; cases hz1
        have hz1' : (va_up φ a (some (.inl (15, [.int (mc + 1), .ref arr, .int (nI rs.length)])))) σ.2.1 = none := by rw [va_up_ne _ _ hza]; exact hz1
        have e2' : (va_up φ a (some (.inl (15, [.int (mc + 1), .ref arr, .int (nI rs.length)])))) arr = some (.inr (.inr (.inr (cap, f)))) := by rw [va_up_ne _ _ hne]; exact e2
        obtain ⟨g, hg, φ1, e, hφ1⟩ := p_grow (z := σ.2) 0 hn (by rw [← hle]; exact va_up_self φ a _) e2' hz1' hzn h6 hg2 (fun k hk => okC_up (okC_15 e1) (all_at hr h5 hall k (by omega)))
        have hcap : rs.length < alCap cap cap d ∧ alCap cap cap d < 2 ^ 30 := by
          unfold alCap
          rw [if_neg (Nat.lt_irrefl _)]
          by_cases hd : d = 1
          · rw [if_pos hd] at h6 ⊢; omega
          · rw [if_neg hd]; omega
        have hok2 : ∀ x, okC φ x = true → okC (va_up (va_up φ1 σ.2.1 (some (.inr (.inr (.inr (alCap cap cap d, g)))))) a (some (.inl (15, [.int (mc + 1), .ref σ.2.1, .int (nI cap)])))) x = true := by
          intro x h0
          cases x with
          | none => rfl
          | some b =>
            have hb : b ≠ σ.2.1 := by rintro rfl; rw [okC_N hz1] at h0; cases h0
            have hb2 : b ≠ a := by rintro rfl; rw [okC_15 e1] at h0; cases h0
            unfold okC at h0 ⊢
            dsimp only at h0 ⊢
            rw [va_up_ne _ _ hb2, va_up_ne _ _ hb, hφ1 b hb, va_up_ne _ _ hb2]
            exact h0
        have K := p_ins (z := (σ.2.1 + 1, σ.2.2 + alCap cap cap d)) (len := rs.length) (i := k) 0 hn (by rw [va_up_self, hle]) ((va_up_ne _ _ hza).trans (va_up_self _ _ _)) hzn hcap.1 hcap.2 (by omega) (fun k hk => by rw [hg k (by omega)]; exact hok2 _ (all_at hr h5 hall k hk)) (hok2 _ (okC_of hr hok))
        refine ⟨0, insH (va_up (va_up φ1 σ.2.1 (some (.inr (.inr (.inr (alCap cap cap d, g)))))) a (some (.inl (15, [.int (mc + 1), .ref σ.2.1, .int (nI cap)])))) a σ.2.1 (alCap cap cap d) rs.length k g (mc + 1) x, ?_, ?_⟩
        · simp only [f_J2_add_3, f_J2_add_3_b, gI_fn, gR_fn, pI_fn, pR_fn, pB_fn, rc_fn, jck_fn, bd_some, Option.bind_some, va_up_self, gIv_i, gRv_r, gRv_n, gRv_rf, List.getElem?_cons_zero, List.getElem?_cons_succ, List.set_cons_zero, List.set_cons_succ, List.length_cons, List.length_nil, jfn_2, if_true, if_false, and_true, true_and, Nat.le_refl, e1, hn, hrc]
          rw [if_pos (by decide)]
          simp only [← hle] at e e2' K
          simp only [gI_fn, gR_fn, pI_fn, pR_fn, pB_fn, rc_fn, jck_fn, bd_some, Option.bind_some, va_up_self, gIv_i, gRv_r, gRv_n, gRv_rf, List.getElem?_cons_zero, List.getElem?_cons_succ, List.set_cons_zero, List.set_cons_succ, List.length_cons, List.length_nil, jfn_2, if_true, if_false, and_true, true_and, Nat.le_refl, e1, hn, aLenR e2', e, K]
          simp [hle]
          rfl
        · have hcc : alCap rs.length cap d = alCap cap cap d := by rw [hle]
          rw [hcc]
          refine close_AL hr hn (Or.inr hoa) (mc := mc + 1) (arr' := σ.2.1) (by rw [insH, va_up_self, hlen]) (by rw [insH, va_up_ne _ _ hza, va_up_self]) (Or.inr (Or.inl hz1)) (by rw [hlen]; omega) hcap.2 (ins_at (f := g) (fun j hj => by rw [hg j (by omega)]; exact h5 j hj) (by omega) (fun j hj => ins_fn (by omega) j hj)) (by rw [if_neg (by decide)]; exact ⟨hzn, by omega⟩) ?_
          refine Kp.own (Kp.new (Kp.new (Kp.own (Kp.new ?_ hz1) hn hoa) hz1) hz1) hn hoa
          intro b e9 he9 hb
          have hb1 : b ≠ σ.2.1 := by rintro rfl; rw [hz1] at he9; cases he9
          rw [hφ1 b hb1]
          exact (Kp.rf.own hn hoa) b e9 he9 hb
    · cases h
  · cases h
end AL4
section AL5
variable {G : jG} {σ σ' : jH} {φ : Nat → Option jE} {a : Nat}
theorem p_J2_remove (hr : jRel G σ.1 φ) {i : Int32} {v : Option Nat} (h : alRem G σ a i = some (v, σ')) : ∃ n φ', f_J2_remove G n (jfn φ σ.2) a i = some (v, jfn φ' σ'.2) ∧ jRel G σ'.1 φ' := by
  obtain ⟨ow, gh, hr⟩ := hr
  unfold alRem at h
  split at h
  · next rs is cap d hs =>
    obtain ⟨hn, hs⟩ := cW_some hs
    obtain ⟨hoa, mc, arr, f, e1, e2, e3, hne, h3, h4, h5, h6⟩ := open_AL hr hs
    split at h
    · next hin =>
      obtain ⟨hin, hall⟩ := hin
      obtain ⟨k, hk, hk2, rfl, hkk⟩ := inR_of hin
      rw [hkk] at h
      obtain ⟨old, hold, h⟩ := Option.map_eq_some_iff.mp h
      cases h
      have hf : f k = v := Option.some.inj ((h5 k hk).trans hold)
      have hkc : k < cap := Nat.lt_of_lt_of_le hk h3
      have hd : d ≠ 1 := by rintro rfl; rw [if_pos rfl] at h6; omega
      rw [if_neg hd] at h6
      have hown : ow arr = a := e3.elim (fun q => absurd h6.1 (Nat.not_le.mpr q)) (fun q => q.2)
      have hlen : (rs.eraseIdx k).length = rs.length - 1 := List.length_eraseIdx_of_lt hk
      have hsub : nI rs.length - 1 = nI (rs.length - 1) := zI_sub (b := 1) (by omega)
      have e1' : (va_up φ a (some (.inl (15, [.int (mc + 1), .ref arr, .int (nI rs.length)])))) a = some (.inl (15, [.int (mc + 1), .ref arr, .int (nI rs.length)])) := va_up_self _ _ _
      have e2' : (va_up φ a (some (.inl (15, [.int (mc + 1), .ref arr, .int (nI rs.length)])))) arr = some (.inr (.inr (.inr (cap, f)))) := by rw [va_up_ne _ _ hne]; exact e2
      have key : ∀ (ψ : Nat → Option jE) (g : Nat → Option Nat), ψ a = some (.inl (15, [.int (mc + 1), .ref arr, .int (nI rs.length)])) → ψ arr = some (.inr (.inr (.inr (cap, g)))) → Kp G ow a φ ψ → (∀ j, j < rs.length - 1 → some (g j) = (rs.eraseIdx k)[j]?) → f_J2_fastRemove_j34 G 0 a (some arr) (nI k) (nI (rs.length - 1)) (jfn ψ σ.2) = some ((), jfn (va_up (va_up ψ a (some (.inl (15, [.int (mc + 1), .ref arr, .int (nI (rs.length - 1))])))) arr (some (.inr (.inr (.inr (cap, va_up g (rs.length - 1) none)))))) σ.2) ∧ jRel G (cP σ a (0, rs.eraseIdx k, is, cap, d)).1 (va_up (va_up ψ a (some (.inl (15, [.int (mc + 1), .ref arr, .int (nI (rs.length - 1))])))) arr (some (.inr (.inr (.inr (cap, va_up g (rs.length - 1) none)))))) := by
        intro ψ g p1 p2 pk pg
        refine ⟨?_, ?_⟩
        · simp only [f_J2_fastRemove_j34, gI_fn, gR_fn, pI_fn, pR_fn, pB_fn, rc_fn, jck_fn, bd_some, Option.bind_some, va_up_self, gIv_i, gRv_r, gRv_n, gRv_rf, List.getElem?_cons_zero, List.getElem?_cons_succ, List.set_cons_zero, List.set_cons_succ, List.length_cons, List.length_nil, jfn_2, if_true, if_false, and_true, true_and, Nat.le_refl, p1, hn]
          rw [if_pos (by decide), Option.bind_some, sR_at (n := cap) (f := g) (by rw [va_up_ne _ _ hne]; exact p2) (show rs.length - 1 < cap by omega) (by omega) h6.1 rfl, Option.bind_some]
        · exact close_AL hr hn (Or.inr hoa) (mc := mc + 1) (arr' := arr) (f' := va_up g (rs.length - 1) none) (by rw [va_up_ne _ _ (Ne.symm hne), va_up_self, hlen]) (va_up_self _ _ _) (Or.inr (Or.inr hown)) (by rw [hlen]; omega) h4 (fun j hj => by rw [hlen] at hj; rw [va_up_ne _ _ (by omega)]; exact pg j hj) (by rw [if_neg hd]; exact h6) ((pk.own hn hoa).own h6.1 hown)
      by_cases hl : rs.length - 1 ≤ k
      · obtain ⟨K1, K2⟩ := key _ f e1' e2' (Kp.rf.own hn hoa) (fun j hj => by rw [List.getElem?_eraseIdx, if_pos (by omega)]; exact h5 j (by omega))
        refine ⟨0, _, ?_, K2⟩
        simp only [f_J2_remove, f_J2_remove_b, f_J2_fastRemove, f_J2_fastRemove_b, f_J21_checkIndex, gI_fn, gR_fn, pI_fn, pR_fn, pB_fn, rc_fn, jck_fn, bd_some, Option.bind_some, va_up_self, gIv_i, gRv_r, gRv_n, gRv_rf, List.getElem?_cons_zero, List.getElem?_cons_succ, List.set_cons_zero, List.set_cons_succ, List.length_cons, List.length_nil, jfn_2, if_true, if_false, and_true, true_and, Nat.le_refl, e1, hn, f_chk hk (show rs.length < 2 ^ 31 by omega), aR_fn e2 hkc hk2, hf]
        rw [if_pos (by decide)]
        simp only [gI_fn, gR_fn, pI_fn, pR_fn, pB_fn, rc_fn, jck_fn, bd_some, Option.bind_some, va_up_self, gIv_i, gRv_r, gRv_n, gRv_rf, List.getElem?_cons_zero, List.getElem?_cons_succ, List.set_cons_zero, List.set_cons_succ, List.length_cons, List.length_nil, jfn_2, if_true, if_false, and_true, true_and, Nat.le_refl, hsub, zI_le (show rs.length - 1 < 2 ^ 31 by omega) hk2, hl, K1]
        rfl
      · obtain ⟨K1, K2⟩ := key (va_up (va_up φ a (some (.inl (15, [.int (mc + 1), .ref arr, .int (nI rs.length)])))) arr (some (.inr (.inr (.inr (cap, va_cpy f f (k + 1) k (rs.length - 1 - k))))))) (va_cpy f f (k + 1) k (rs.length - 1 - k)) (by rw [va_up_ne _ _ (Ne.symm hne)]; exact e1') (va_up_self _ _ _) ((Kp.rf.own hn hoa).own h6.1 hown) (fun j hj => by
          rw [List.getElem?_eraseIdx]
          unfold va_cpy
          by_cases hjk : j < k
          · rw [if_pos hjk, if_neg (by omega)]; exact h5 j (by omega)
          · rw [if_neg hjk, if_pos (by omega), show k + 1 + (j - k) = j + 1 by omega]; exact h5 (j + 1) (by omega))
        refine ⟨0, _, ?_, K2⟩
        simp only [f_J2_remove, f_J2_remove_b, f_J2_fastRemove, f_J2_fastRemove_b, f_J21_checkIndex, gI_fn, gR_fn, pI_fn, pR_fn, pB_fn, rc_fn, jck_fn, bd_some, Option.bind_some, va_up_self, gIv_i, gRv_r, gRv_n, gRv_rf, List.getElem?_cons_zero, List.getElem?_cons_succ, List.set_cons_zero, List.set_cons_succ, List.length_cons, List.length_nil, jfn_2, if_true, if_false, and_true, true_and, Nat.le_refl, e1, hn, f_chk hk (show rs.length < 2 ^ 31 by omega), aR_fn e2 hkc hk2, hf]
        rw [if_pos (by decide)]
        simp only [gI_fn, gR_fn, pI_fn, pR_fn, pB_fn, rc_fn, jck_fn, bd_some, Option.bind_some, va_up_self, gIv_i, gRv_r, gRv_n, gRv_rf, List.getElem?_cons_zero, List.getElem?_cons_succ, List.set_cons_zero, List.set_cons_succ, List.length_cons, List.length_nil, jfn_2, if_true, if_false, and_true, true_and, Nat.le_refl, hsub, zI_add1, zI_le (show rs.length - 1 < 2 ^ 31 by omega) hk2, hl, zI_sub (show k ≤ rs.length - 1 by omega), acR_at (n := rs.length - 1 - k) e2' e2' h6.1 h6.1 (show k + 1 + (rs.length - 1 - k) ≤ cap by omega) (show k + (rs.length - 1 - k) ≤ cap by omega) h4 h4 (fun z hz => okC_up (okC_15 e1) (all_at hr h5 hall _ (by omega))), K1]
        rfl
    · cases h
  · cases h
theorem isO_some {ci : Nat} {fs : List Value} (h : isO G σ a ci fs = true) : σ.1 a = some (jO ci fs) ∧ G.2.2.1 ≤ a := by
  unfold isO at h
  split at h
  · next c gs hs =>
    obtain ⟨rfl, rfl, h3⟩ := of_decide_eq_true h
    exact ⟨hs, h3⟩
  · cases h
theorem p_J2_init_2 (hr : jRel G σ.1 φ) {v : Unit} (h : alInit G σ a = some (v, σ')) : ∃ n φ', f_J2_init_2 G n (jfn φ σ.2) a = some (v, jfn φ' σ'.2) ∧ jRel G σ'.1 φ' := by
  obtain ⟨ow, gh, hr⟩ := hr
  unfold alInit at h
  split at h
  · next hc =>
    obtain ⟨hs, hn⟩ := isO_some hc.1
    have hz := hc.2
    cases h
    unfold zA at hz
    split at hz
    · cases hz
    · next q hq =>
      split at hz
      · next n0 f0 hs0 =>
        obtain ⟨rfl, hql⟩ := of_decide_eq_true hz
        have e1 := (hr a _ hs).1
        have hoa := (hr a _ hs).2
        have e2 := (hr q _ hs0).1
        have hne : q ≠ a := by rintro h; rw [h, e1] at e2; cases e2
        refine ⟨0, va_up (va_up φ a (some (.inl (15, [.int 0, .null, .int 0])))) a (some (.inl (15, [.int 0, .ref q, .int 0]))), ?_, ?_⟩
        · simp [f_J2_init_2, f_J2_init_2_b, f_J1_init_J2, f_J1_init_J2_b, f_J0_init_J2, gI_fn, gR_fn, pI_fn, pR_fn, pB_fn, rc_fn, jck_fn, bd_some, Option.bind_some, va_up_self, gIv_i, gRv_r, gRv_n, gRv_rf, List.getElem?_cons_zero, List.getElem?_cons_succ, List.set_cons_zero, List.set_cons_succ, List.length_cons, List.length_nil, jfn_2, if_true, if_false, and_true, true_and, Nat.le_refl, e1, hn, hq, va_rf]
          rfl
        · exact close_AL hr hn (Or.inr hoa) (mc := 0) (arr' := q) (f' := f0) (rs' := []) (va_up_self _ _ _) (by rw [va_up_ne _ _ hne, va_up_ne _ _ hne]; exact e2) (Or.inl hql) (Nat.le_refl _) (by decide) (fun i hi => absurd hi (Nat.not_lt_zero _)) (by rw [if_pos rfl]; exact ⟨rfl, hq⟩) ((Kp.rf.own hn hoa).own hn hoa)
      · cases hz
  · cases h
theorem p_J2_init (hr : jRel G σ.1 φ) (hz : ∀ b, σ.2.1 ≤ b → φ b = none) (hzn : G.2.2.1 ≤ σ.2.1) {i : Int32} {v : Unit} (h : alInitI G σ a i = some (v, σ')) : ∃ n φ', f_J2_init G n (jfn φ σ.2) a i = some (v, jfn φ' σ'.2) ∧ jRel G σ'.1 φ' := by
  obtain ⟨ow, gh, hr⟩ := hr
  unfold alInitI at h
  split at h
  · next hc =>
    obtain ⟨hs, hn⟩ := isO_some hc.1
    obtain ⟨-, hi, hi2⟩ := hc
    cases h
    obtain ⟨k, hk, rfl, hkk⟩ := zI_of (i := i) (fun q => Int32.lt_irrefl (Int32.lt_trans q hi))
    rw [hkk] at hi2 ⊢
    rw [zI_zero, zI_lt (by omega) hk] at hi
    have e1 := (hr a _ hs).1
    have hoa := (hr a _ hs).2
    have hz1 : φ σ.2.1 = none := hz _ (Nat.le_refl _)
    have hza : σ.2.1 ≠ a := by rintro h; rw [h, e1] at hz1; cases hz1
    refine ⟨0, va_up (va_up (va_up φ a (some (.inl (15, [.int 0, .null, .int 0])))) σ.2.1 (some (.inr (.inr (.inr (k, fun _ => none)))))) a (some (.inl (15, [.int 0, .ref σ.2.1, .int 0]))), ?_, ?_⟩
    · have hk0 : ¬ nI k ≤ 0 := by rw [zI_zero, zI_le hk (by omega)]; omega
      simp [f_J2_init, f_J2_init_b, f_J1_init_J2, f_J1_init_J2_b, f_J0_init_J2, gI_fn, gR_fn, pI_fn, pR_fn, pB_fn, rc_fn, jck_fn, bd_some, Option.bind_some, va_up_self, gIv_i, gRv_r, gRv_n, gRv_rf, List.getElem?_cons_zero, List.getElem?_cons_succ, List.set_cons_zero, List.set_cons_succ, List.length_cons, List.length_nil, jfn_2, if_true, if_false, and_true, true_and, Nat.le_refl, e1, hn, hk0, nR_at (show k ≤ 65536 by omega), va_up_ne _ _ (Ne.symm hza), va_rf]
      rfl
    · exact close_AL hr hn (Or.inr hoa) (mc := 0) (arr' := σ.2.1) (f' := fun _ => none) (rs' := []) (va_up_self _ _ _) (by rw [va_up_ne _ _ hza, va_up_self]) (Or.inr (Or.inl hz1)) (Nat.zero_le _) (by omega) (fun i hi => absurd hi (Nat.not_lt_zero _)) (by rw [if_neg (by decide)]; exact ⟨hzn, hi⟩) (((Kp.rf.own hn hoa).new hz1).own hn hoa)
  · cases h
end AL5
