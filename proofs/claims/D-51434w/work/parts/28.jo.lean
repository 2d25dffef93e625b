/-! StringBuilder: the plain part -/
set_option maxRecDepth 100000
theorem open_SB {G : jG} {gh : jGh} {ow : Nat → Nat} {h : Nat → Option jX} {φ : Nat → Option jE} {a : Nat} {rs : List (Option Nat)} {xs : List Int32} {cap d : Nat} (hr : jRelW G gh ow h φ) (ha : h a = some (.inr (3, rs, xs, cap, d))) :
    ow a = a ∧ ∃ (arr : Nat) (f : Nat → Int32) (ml : Int32), φ a = some (.inl (20, [.ref arr, .int 0, .int ml, .int (nI xs.length)])) ∧ φ arr = some (.inr (.inl (1, cap, f))) ∧ ow arr = a ∧ arr ≠ a ∧ G.2.2.1 ≤ arr ∧ xs.length ≤ cap ∧ (∀ i, i < cap → fits .byte (.int (f i)) = true) ∧ cap < 2 ^ 30 ∧ (∀ i, i < xs.length → some (f i) = xs[i]?) ∧ (∀ x ∈ xs, 0 ≤ x ∧ x < 128) := by
  obtain ⟨h1, ps, h2, arr, f, ml, rfl, h3, h4, h5, h6, h7⟩ := hr a _ ha
  have e1 := h2 _ List.mem_cons_self
  have e2 := h2 _ (List.mem_cons_of_mem _ List.mem_cons_self)
  refine ⟨h1, arr, f, ml, e1.1, e2.1, e2.2.elim (fun q => absurd h3 (Nat.not_le.mpr q)) (fun q => q.2), ?_, h3, h4.1, h4.2, h5, h6, h7⟩
  rintro rfl
  have e3 := e1.1.symm.trans e2.1
  cases e3
theorem close_SB {G : jG} {gh : jGh} {ow : Nat → Nat} {σ : jH} {φ φ' : Nat → Option jE} {a : Nat} {rs : List (Option Nat)} {xs' : List Int32} {cap d arr : Nat} {f : Nat → Int32} {ml : Int32} (hr : jRelW G gh ow σ.1 φ) (hn : G.2.2.1 ≤ a) (hoa : φ a = none ∨ ow a = a)
    (h1 : φ' a = some (.inl (20, [.ref arr, .int 0, .int ml, .int (nI xs'.length)]))) (h2 : φ' arr = some (.inr (.inl (1, cap, f)))) (hown : φ arr = none ∨ ow arr = a) (h3 : G.2.2.1 ≤ arr) (h4 : xs'.length ≤ cap) (hb : ∀ i, i < cap → fits .byte (.int (f i)) = true) (h6 : cap < 2 ^ 30) (h7 : ∀ i, i < xs'.length → some (f i) = xs'[i]?) (h8 : ∀ x ∈ xs', 0 ≤ x ∧ x < 128) (hφ : Kp G ow a φ φ') : jRel G (cP σ a (3, rs, xs', cap, d)).1 φ' := by
  refine jRelW.upd (gh' := gh) (ps := [(a, .inl (20, [.ref arr, .int 0, .int ml, .int (nI xs'.length)])), (arr, .inr (.inl (1, cap, f)))]) hr hoa hn cP_hh cP_a (fun _ _ => rfl) hφ (fun x hx => ?_) ⟨arr, f, ml, rfl, h3, ⟨h4, hb⟩, h6, h7, h8⟩
  rcases List.mem_cons.mp hx with rfl | hx
  · exact ⟨h1, hoa.elim (fun q => Or.inr (Or.inl q)) (fun q => Or.inr (Or.inr q))⟩
  · rw [List.mem_singleton.mp hx]
    exact ⟨h2, Or.inr hown⟩
theorem byte_fit {k : Nat} (hk : k < 128) : fits .byte (.int (nI k)) = true := by
  unfold fits
  rw [Bool.and_eq_true, decide_eq_true_iff, decide_eq_true_iff]
  refine ⟨?_, ?_⟩
  · rw [Int32.le_iff_toInt_le, zI_toInt (by omega)]
    have : (-128 : Int32).toInt = -128 := by decide
    omega
  · rw [show (127 : Int32) = nI 127 from rfl, zI_le (by omega) (by omega)]; omega
theorem byte_nar {k : Nat} (hk : k < 128) : (nI k).toInt8.toInt32 = nI k := by
  apply Int32.toInt_inj.mp
  rw [Int8.toInt_toInt32, Int32.toInt_toInt8, zI_toInt (by omega)]
  rw [Int.bmod_def]
  omega
theorem char_of {x : Int32} (h1 : 0 ≤ x) (h2 : x < 128) : ∃ k : Nat, k < 128 ∧ x = nI k := by
  obtain ⟨k, hk, rfl, -⟩ := zI_of (i := x) (fun q => Int32.lt_irrefl (Int32.lt_of_lt_of_le q h1))
  refine ⟨k, ?_, rfl⟩
  rw [show (128 : Int32) = nI 128 from rfl, zI_lt hk (by omega)] at h2
  exact h2
theorem shr0 (x : Int32) : x >>> ((0 : Int32) &&& 31) = x := by
  apply Int32.toBitVec_inj.mp
  rw [Int32.toBitVec_shiftRight]
  exact BitVec.sshiftRight_zero
theorem shl0 (x : Int32) : x <<< ((0 : Int32) &&& 31) = x := by
  apply Int32.toBitVec_inj.mp
  rw [Int32.toBitVec_shiftLeft]
  exact BitVec.shiftLeft_zero _
theorem acB_at {G : jG} {φ : Nat → Option jE} {z : Nat × Nat} {a b i j n n1 n2 : Nat} {f g : Nat → Int32} (ha : φ a = some (.inr (.inl (1, n1, f)))) (hb : φ b = some (.inr (.inl (1, n2, g)))) (h1 : G.2.2.1 ≤ a) (h2 : G.2.2.1 ≤ b) (h3 : i + n ≤ n1) (h4 : j + n ≤ n2) (hn1 : n1 < 2 ^ 30) (hn2 : n2 < 2 ^ 30) (hok : ∀ z, z < n → fits .byte (.int (f (i + z))) = true) : acB G (jfn φ z) (some a) (nI i) (some b) (nI j) (nI n) = some (jfn (va_up φ b (some (.inr (.inl (1, n2, va_cpy f g i j n))))) z) := by
  rw [acB_fn ha hb, zI_clamp (by omega), zI_clamp (by omega), zI_clamp (by omega), if_pos]
  exact ⟨rfl, rfl, h1, h2, zI_neg (by omega), zI_neg (by omega), zI_neg (by omega), h3, h4, hok⟩
theorem acB_at0 {G : jG} {φ : Nat → Option jE} {z : Nat × Nat} {a b n n1 n2 : Nat} {f g : Nat → Int32} (ha : φ a = some (.inr (.inl (1, n1, f)))) (hb : φ b = some (.inr (.inl (1, n2, g)))) (h1 : G.2.2.1 ≤ a) (h2 : G.2.2.1 ≤ b) (h3 : n ≤ n1) (h4 : n ≤ n2) (hn1 : n1 < 2 ^ 30) (hn2 : n2 < 2 ^ 30) (hok : ∀ z, z < n → fits .byte (.int (f z)) = true) : acB G (jfn φ z) (some a) 0 (some b) 0 (nI n) = some (jfn (va_up φ b (some (.inr (.inl (1, n2, va_cpy f g 0 0 n))))) z) :=
  acB_at (i := 0) (j := 0) ha hb h1 h2 (by omega) (by omega) hn1 hn2 (fun z hz => by rw [Nat.zero_add]; exact hok z hz)
theorem sI_at {G : jG} {φ : Nat → Option jE} {z : Nat × Nat} {b k n c : Nat} {f : Nat → Int32} (h : φ b = some (.inr (.inl (1, n, f)))) (hk : k < n) (hn : k < 2 ^ 31) (hb : G.2.2.1 ≤ b) (hc : c < 128) : sI G (jfn φ z) (some b) 1 (nI k) (nI c) = some (jfn (va_up φ b (some (.inr (.inl (1, n, upd f k (nI c)))))) z) := by
  have e : jnar 1 (nI c) = nI c := byte_nar hc
  rw [sI_fn, h]
  dsimp only
  rw [if_pos, zI_clamp hn, e]
  refine ⟨rfl, ?_, hb⟩
  rw [zI_clamp hn]
  exact fun q => q.elim (zI_neg hn) (by omega)
theorem nB_at {φ : Nat → Option jE} {z : Nat × Nat} {k : Nat} (hk : k ≤ 65536) : nI' (jfn φ z) 1 (nI k) = some (z.1, jfn (va_up φ z.1 (some (.inr (.inl (1, k, fun _ => 0))))) (z.1 + 1, z.2 + k)) := by
  rw [zI_fn, zI_clamp (by omega), if_pos ⟨zI_neg (by omega), hk⟩]
/-- room for need bytes -/
theorem p_ens {G : jG} {φ : Nat → Option jE} {z : Nat × Nat} {a arr cap need : Nat} {f : Nat → Int32} {ml ct : Int32} (n : Nat) (hn : G.2.2.1 ≤ a) (e1 : φ a = some (.inl (20, [.ref arr, .int 0, .int ml, .int ct]))) (e2 : φ arr = some (.inr (.inl (1, cap, f)))) (har : G.2.2.1 ≤ arr) (hz : φ z.1 = none) (hzn : G.2.2.1 ≤ z.1) (hc : cap < 30000) (hnd : need < 30000) (hb : ∀ i, i < cap → fits .byte (.int (f i)) = true) :
    ∃ arr' g φ', f_J7_ensureCapacityInternal_J8 G n (jfn φ z) a (nI need) = some ((), jfn φ' (if need ≤ cap then z else (z.1 + 1, z.2 + sbCap need cap))) ∧ φ' a = some (.inl (20, [.ref arr', .int 0, .int ml, .int ct])) ∧ φ' arr' = some (.inr (.inl (1, sbCap need cap, g))) ∧ (∀ i, i < cap → g i = f i) ∧ (∀ i, i < sbCap need cap → fits .byte (.int (g i)) = true) ∧ G.2.2.1 ≤ arr' ∧ (if need ≤ cap then φ' = φ ∧ arr' = arr else arr' = z.1 ∧ ∀ b, b ≠ z.1 → b ≠ a → φ' b = φ b) := by
  have hza : z.1 ≠ a := by rintro h; rw [h, e1] at hz; cases hz
  have hzr : z.1 ≠ arr := by rintro h; rw [h, e2] at hz; cases hz
  have h0 : (0 : Int32).toInt = 0 := rfl
  have htest : (nI need - nI cap ≤ 0) ↔ need ≤ cap := by
    rw [Int32.le_iff_toInt_le, toInt_subn (by omega) (by omega), h0]
    omega
  by_cases hle : need ≤ cap
  · rw [if_pos hle]
    have hcap : sbCap need cap = cap := by unfold sbCap; rw [if_pos hle]
    rw [hcap]
    refine ⟨arr, f, φ, ?_, e1, e2, fun _ _ => rfl, hb, har, by rw [if_pos hle]; exact ⟨rfl, rfl⟩⟩
    simp only [f_J7_ensureCapacityInternal_J8, f_J7_ensureCapacityInternal_J8_b, gI_fn, gR_fn, pI_fn, pR_fn, pB_fn, rc_fn, jck_fn, bd_some, Option.bind_some, va_up_self, gIv_i, gRv_r, gRv_n, gRv_rf, List.getElem?_cons_zero, List.getElem?_cons_succ, List.set_cons_zero, List.set_cons_succ, List.length_cons, List.length_nil, jfn_2, if_true, if_false, and_true, true_and, Nat.le_refl, e1, aLenB e2, shr0, htest, hle]
  · rw [if_neg hle]
    have hcap : sbCap need cap = cap + max (need - cap) (cap + 2) := by unfold sbCap; rw [if_neg hle]
    rw [hcap]
    refine ⟨z.1, va_cpy f (fun _ => 0) 0 0 cap, va_up (va_up (va_up φ z.1 (some (.inr (.inl (1, cap + max (need - cap) (cap + 2), fun _ => 0))))) z.1 (some (.inr (.inl (1, cap + max (need - cap) (cap + 2), va_cpy f (fun _ => 0) 0 0 cap))))) a (some (.inl (20, [.ref z.1, .int 0, .int ml, .int ct]))), ?_, va_up_self _ _ _, by rw [va_up_ne _ _ hza, va_up_self], fun i hi => by unfold va_cpy; rw [if_pos (by omega)]; congr 1; omega, fun i hi => ?_, hzn, by rw [if_neg hle]; exact ⟨rfl, fun b h1 h2 => by rw [va_up_ne _ _ h2, va_up_ne _ _ h1, va_up_ne _ _ h1]⟩⟩
    · have hnl : f_J7_newCapacity_J8 G n (jfn φ z) a (nI need) = some (nI (cap + max (need - cap) (cap + 2))) := by
        simp only [f_J7_newCapacity_J8, gI_fn, gR_fn, pI_fn, pR_fn, pB_fn, rc_fn, jck_fn, bd_some, Option.bind_some, va_up_self, gIv_i, gRv_r, gRv_n, gRv_rf, List.getElem?_cons_zero, List.getElem?_cons_succ, List.set_cons_zero, List.set_cons_succ, List.length_cons, List.length_nil, jfn_2, if_true, if_false, and_true, true_and, Nat.le_refl, e1, aLenB e2, shr0, shl0]
        rw [zI_sub (show cap ≤ need by omega), show (2 : Int32) = nI 2 from rfl, zI_add, f_newLen (by omega) (by omega) (by omega) (by omega), Option.bind_some, if_neg (by rw [show (2147483647 : Int32) = nI 2147483647 from rfl, zI_inj (by omega) (by omega)]; omega)]
      have hcp : f_J13_copyOf G n (jfn φ z) (some arr) (nI (cap + max (need - cap) (cap + 2))) = some (some z.1, jfn (va_up (va_up φ z.1 (some (.inr (.inl (1, cap + max (need - cap) (cap + 2), fun _ => 0))))) z.1 (some (.inr (.inl (1, cap + max (need - cap) (cap + 2), va_cpy f (fun _ => 0) 0 0 cap))))) (z.1 + 1, z.2 + (cap + max (need - cap) (cap + 2)))) := by
        have e2' : (va_up φ z.1 (some (.inr (.inl (1, cap + max (need - cap) (cap + 2), fun _ => 0))))) arr = some (.inr (.inl (1, cap, f))) := by rw [va_up_ne _ _ (Ne.symm hzr)]; exact e2
        simp only [f_J13_copyOf, f_J13_copyOf_b, gI_fn, gR_fn, pI_fn, pR_fn, pB_fn, rc_fn, jck_fn, bd_some, Option.bind_some, va_up_self, gIv_i, gRv_r, gRv_n, gRv_rf, List.getElem?_cons_zero, List.getElem?_cons_succ, List.set_cons_zero, List.set_cons_succ, List.length_cons, List.length_nil, jfn_2, if_true, if_false, and_true, true_and, Nat.le_refl, aLenB e2]
        rw [if_neg (by rw [zI_inj (by omega) (by omega)]; omega), nB_at (by omega), bd_some, aLenB e2', Option.bind_some, f_min (by omega) (by omega), Option.bind_some, show min cap (cap + max (need - cap) (cap + 2)) = cap by omega, acB_at0 e2' (va_up_self _ _ _) har hzn (Nat.le_refl _) (by omega) (by omega) (by omega) hb, Option.bind_some, jck_fn]
        simp
      simp only [f_J7_ensureCapacityInternal_J8, f_J7_ensureCapacityInternal_J8_b, gI_fn, gR_fn, pI_fn, pR_fn, pB_fn, rc_fn, jck_fn, bd_some, Option.bind_some, va_up_self, gIv_i, gRv_r, gRv_n, gRv_rf, List.getElem?_cons_zero, List.getElem?_cons_succ, List.set_cons_zero, List.set_cons_succ, List.length_cons, List.length_nil, jfn_2, if_true, if_false, and_true, true_and, Nat.le_refl, e1, aLenB e2, shr0, shl0, htest, hle, hnl, hcp]
      simp [gI_fn, gR_fn, pI_fn, pR_fn, pB_fn, rc_fn, jck_fn, bd_some, Option.bind_some, va_up_self, gIv_i, gRv_r, gRv_n, gRv_rf, List.getElem?_cons_zero, List.getElem?_cons_succ, List.set_cons_zero, List.set_cons_succ, List.length_cons, List.length_nil, jfn_2, if_true, if_false, and_true, true_and, Nat.le_refl, e1, hn, va_up_ne _ _ (Ne.symm hza), va_rf_s]
    · unfold va_cpy
      by_cases hi2 : 0 ≤ i ∧ i < 0 + cap
      · rw [if_pos hi2]; exact hb _ (by omega)
      · rw [if_neg hi2]; rfl
theorem charm : ∀ k : Fin 128, (((nI k.1 &&& 255).toUInt32 % 65536).toInt32) = nI k.1 ∧ jnr .char (nI k.1) = true := by decide +kernel
theorem charm1 {k : Nat} (hk : k < 128) : (((nI k &&& 255).toUInt32 % 65536).toInt32) = nI k := (charm ⟨k, hk⟩).1
theorem charm2 {τ : Type} {k : Nat} (hk : k < 128) (o : Option τ) : jbo .char (nI k) o = o := by
  unfold jbo
  rw [if_pos (charm ⟨k, hk⟩).2]
theorem aI_at {φ : Nat → Option jE} {z : Nat × Nat} {b k n : Nat} {f : Nat → Int32} (h : φ b = some (.inr (.inl (1, n, f)))) (hk : k < n) (hn : k < 2 ^ 31) : aI (jfn φ z) (some b) 1 (nI k) = some (f k) := by
  unfold aI
  rw [jar_fn, h]
  dsimp only
  rw [zI_clamp hn, if_pos]
  exact ⟨rfl, fun q => q.elim (zI_neg hn) (by omega)⟩
theorem neg_toInt {a : Nat} (ha : a < 2 ^ 31) : (-(nI a)).toInt = -(a : Int) := by
  rw [Int32.toInt_neg, zI_toInt ha, Int.bmod_def]
  omega
theorem negneg (x : Int32) : - -x = x := Int32.neg_neg
section SB
variable {G : jG} {σ σ' : jH} {φ : Nat → Option jE} {a : Nat}
theorem sbTxt_some {xs : List Int32} (h : sbTxt σ a = some xs) : ∃ rs cap d, σ.1 a = some (.inr (3, rs, xs, cap, d)) := by
  unfold sbTxt cG at h
  split at h
  · next rs xs' r hc =>
    cases h
    split at hc
    · next hs => cases hc; exact ⟨_, _, _, hs⟩
    · cases hc
  · cases h
theorem p_J8_length (hr : jRel G σ.1 φ) {v : Int32} (h : sbLen σ a = some v) (n : Nat) : f_J8_length G n (jfn φ σ.2) a = some v := by
  obtain ⟨ow, gh, hr⟩ := hr
  obtain ⟨xs, hx, rfl⟩ := Option.map_eq_some_iff.mp h
  obtain ⟨rs, cap, d, hs⟩ := sbTxt_some hx
  obtain ⟨-, arr, f, ml, e1, -⟩ := open_SB hr hs
  simp [f_J8_length, f_J7_length_J8, gI_fn, gR_fn, pI_fn, pR_fn, pB_fn, rc_fn, jck_fn, bd_some, Option.bind_some, va_up_self, gIv_i, gRv_r, gRv_n, gRv_rf, List.getElem?_cons_zero, List.getElem?_cons_succ, List.set_cons_zero, List.set_cons_succ, List.length_cons, List.length_nil, jfn_2, if_true, if_false, and_true, true_and, Nat.le_refl, e1]
theorem p_J8_charAt (hr : jRel G σ.1 φ) {i v : Int32} (h : sbChr σ a i = some v) (n : Nat) : f_J8_charAt G n (jfn φ σ.2) a i = some v := by
  obtain ⟨ow, gh, hr⟩ := hr
  obtain ⟨xs, hx, h⟩ := Option.bind_eq_some_iff.mp h
  obtain ⟨rs, cap, d, hs⟩ := sbTxt_some hx
  obtain ⟨-, arr, f, ml, e1, e2, -, -, -, h4, h5, h6, h7, h8⟩ := open_SB hr hs
  split at h
  · next hin =>
    obtain ⟨k, hk, hk2, rfl, hkk⟩ := inR_of hin
    rw [hkk] at h
    have hf : f k = v := Option.some.inj ((h7 k hk).trans h)
    obtain ⟨w, hw, rfl⟩ := char_of (h8 v (List.mem_of_getElem? h)).1 (h8 v (List.mem_of_getElem? h)).2
    have hc : f_J9_checkIndex G n (jfn φ σ.2) (nI k) (nI xs.length) = some () := by
      unfold f_J9_checkIndex
      rw [f_chk hk (by omega)]
      rfl
    have hm : J12_min n (nI xs.length) (nI cap) = some (nI xs.length) := by rw [f_min (by omega) (by omega)]; congr 2; omega
    have hai : aI (jfn φ σ.2) (some arr) 1 (nI k) = some (nI w) := by rw [aI_at e2 (by omega) hk2, hf]
    have h7c : f_J7_charAt_J8 G n (jfn φ σ.2) a (nI k) = some (nI w) := by
      simp only [f_J7_charAt_J8, gI_fn, gR_fn, pI_fn, pR_fn, pB_fn, rc_fn, jck_fn, bd_some, Option.bind_some, va_up_self, gIv_i, gRv_r, gRv_n, gRv_rf, List.getElem?_cons_zero, List.getElem?_cons_succ, List.set_cons_zero, List.set_cons_succ, List.length_cons, List.length_nil, jfn_2, if_true, if_false, and_true, true_and, Nat.le_refl, e1, aLenB e2, shr0, hm, hc, hai, charm1 hw, charm2 hw]
    simp only [f_J8_charAt, gI_fn, gR_fn, pI_fn, pR_fn, pB_fn, rc_fn, jck_fn, bd_some, Option.bind_some, va_up_self, gIv_i, gRv_r, gRv_n, gRv_rf, List.getElem?_cons_zero, List.getElem?_cons_succ, List.set_cons_zero, List.set_cons_succ, List.length_cons, List.length_nil, jfn_2, if_true, if_false, and_true, true_and, Nat.le_refl, e1, h7c, charm2 hw]
  · cases h
theorem p_J8_init (hr : jRel G σ.1 φ) (hz : ∀ b, σ.2.1 ≤ b → φ b = none) (hzn : G.2.2.1 ≤ σ.2.1) {v : Unit} (h : sbInit G σ a = some (v, σ')) : ∃ n φ', f_J8_init G n (jfn φ σ.2) a = some (v, jfn φ' σ'.2) ∧ jRel G σ'.1 φ' := by
  obtain ⟨ow, gh, hr⟩ := hr
  unfold sbInit at h
  split at h
  · next hc =>
    obtain ⟨hs, hn⟩ := isO_some hc
    cases h
    have e1 := (hr a _ hs).1
    have hoa := (hr a _ hs).2
    have hz1 : φ σ.2.1 = none := hz _ (Nat.le_refl _)
    have hza : σ.2.1 ≠ a := by rintro h; rw [h, e1] at hz1; cases hz1
    have hb := nB_at (φ := φ) (z := σ.2) (show 16 ≤ 65536 by omega)
    rw [show nI 16 = (16 : Int32) from rfl] at hb
    refine ⟨0, va_up (va_up (va_up φ σ.2.1 (some (.inr (.inl (1, 16, fun _ => 0))))) a (some (.inl (20, [.ref σ.2.1, .int 0, .int 0, .int 0])))) a (some (.inl (20, [.ref σ.2.1, .int 0, .int 0, .int 0]))), ?_, ?_⟩
    · simp [f_J8_init, f_J8_init_b, f_J7_init_J8, f_J7_init_J8_b, gI_fn, gR_fn, pI_fn, pR_fn, pB_fn, rc_fn, jck_fn, bd_some, Option.bind_some, va_up_self, gIv_i, gRv_r, gRv_n, gRv_rf, List.getElem?_cons_zero, List.getElem?_cons_succ, List.set_cons_zero, List.set_cons_succ, List.length_cons, List.length_nil, jfn_2, if_true, if_false, and_true, true_and, Nat.le_refl, e1, hn, hb, va_up_ne _ _ (Ne.symm hza), va_rf_s]
      rfl
    · exact close_SB hr hn (Or.inr hoa) (f := fun _ => 0) (xs' := []) (va_up_self _ _ _) (by rw [va_up_ne _ _ hza, va_up_ne _ _ hza, va_up_self]) (Or.inl hz1) hzn (by decide) (fun _ _ => rfl) (by decide) (fun i hi => absurd hi (Nat.not_lt_zero _)) (fun x hx => by cases hx) (((Kp.rf.new hz1).own hn hoa).own hn hoa)
  · cases h
theorem p_J8_append_3 (hr : jRel G σ.1 φ) (hz : ∀ b, σ.2.1 ≤ b → φ b = none) (hzn : G.2.2.1 ≤ σ.2.1) {x : Int32} {v : Option Nat} (h : sbAppC G σ a x = some (v, σ')) : ∃ n φ', f_J8_append_3 G n (jfn φ σ.2) a x = some (v, jfn φ' σ'.2) ∧ jRel G σ'.1 φ' := by
  obtain ⟨ow, gh, hr⟩ := hr
  unfold sbAppC at h
  split at h
  case isFalse => cases h
  case isTrue hx =>
  obtain ⟨w, hw, rfl⟩ := char_of hx.1 hx.2
  obtain ⟨σ1, h, h9⟩ := Option.map_eq_some_iff.mp h
  cases h9
  unfold sbApp at h
  split at h
  · next rs xs cap d hs =>
    obtain ⟨hn, hs⟩ := cW_some hs
    obtain ⟨hoa, arr, f, ml, e1, e2, hown, hne, h3, h4, h5, h6, h7, h8⟩ := open_SB hr hs
    split at h
    · next hg =>
      rw [List.length_singleton] at h hg
      have hz1 : φ σ.2.1 = none := hz _ (Nat.le_refl _)
      have hza : σ.2.1 ≠ a := by rintro h; rw [h, e1] at hz1; cases hz1
      obtain ⟨arr', g, ψ, k1, k2, k3, k4, k5, k6, k7⟩ := p_ens (z := σ.2) (need := xs.length + 1) 0 hn e1 e2 h3 hz1 hzn hg.2 hg.1 h5
      have hla : arr' ≠ a := by rintro q; rw [q, k2] at k3; cases k3
      have hcap : xs.length + 1 ≤ sbCap (xs.length + 1) cap := by unfold sbCap; split <;> omega
      have hcap2 : sbCap (xs.length + 1) cap < 2 ^ 30 := by unfold sbCap; split <;> omega
      have hlen : (xs ++ [nI w]).length = xs.length + 1 := by simp
      have hkp : Kp G ow a φ ψ := by
        by_cases hle : xs.length + 1 ≤ cap
        · rw [if_pos hle] at k7; rw [k7.1]; exact Kp.rf
        · rw [if_neg hle] at k7
          intro b e he hb
          rw [k7.2 b (fun q => by rw [q, hz1] at he; cases he) (fun q => by rw [q] at hb; rcases hb with r | r; exact absurd hn (Nat.not_le.mpr r); exact r hoa)]
          exact he
      have hown' : φ arr' = none ∨ ow arr' = a := by
        by_cases hle : xs.length + 1 ≤ cap
        · rw [if_pos hle] at k7; rw [k7.2]; exact Or.inr hown
        · rw [if_neg hle] at k7; rw [k7.1]; exact Or.inl hz1
      have k3' : (va_up ψ a (some (.inl (20, [.ref arr', .int 0, .int ml, .int (nI (xs.length + 1))])))) arr' = some (.inr (.inl (1, sbCap (xs.length + 1) cap, g))) := by rw [va_up_ne _ _ hla]; exact k3
      have hres : f_J8_append_3 G 0 (jfn φ σ.2) a (nI w) = some (some a, jfn (va_up (va_up ψ a (some (.inl (20, [.ref arr', .int 0, .int ml, .int (nI (xs.length + 1))])))) arr' (some (.inr (.inl (1, sbCap (xs.length + 1) cap, upd g xs.length (nI w)))))) (if xs.length + 1 ≤ cap then σ.2 else (σ.2.1 + 1, σ.2.2 + sbCap (xs.length + 1) cap))) := by
        have h255 : ¬ (255 : Int32) < nI w := by rw [show (255 : Int32) = nI 255 from rfl, zI_lt (by omega) (by omega)]; omega
        have hS := fun z => sI_at (G := G) (z := z) (c := w) k3' (show xs.length < sbCap (xs.length + 1) cap by omega) (by omega) k6 hw
        have hsz : ∀ y : Nat × Nat, y = (if xs.length + 1 ≤ cap then σ.2 else (σ.2.1 + 1, σ.2.2 + sbCap (xs.length + 1) cap)) → σ.2.1 ≤ y.1 ∧ σ.2.2 ≤ y.2 := by
          intro y hy
          subst hy
          split
          · exact ⟨Nat.le_refl _, Nat.le_refl _⟩
          · exact ⟨Nat.le_succ _, Nat.le_add_right _ _⟩
        obtain ⟨y, hy⟩ : ∃ y, y = (if xs.length + 1 ≤ cap then σ.2 else (σ.2.1 + 1, σ.2.2 + sbCap (xs.length + 1) cap)) := ⟨_, rfl⟩
        rw [← hy] at k1 ⊢
        have hy1 := hsz y hy
        have r1 : f_J7_append_3_J8 G 0 (jfn φ σ.2) a (nI w) = some (some a, jfn (va_up (va_up ψ a (some (.inl (20, [.ref arr', .int 0, .int ml, .int (nI (xs.length + 1))])))) arr' (some (.inr (.inl (1, sbCap (xs.length + 1) cap, upd g xs.length (nI w)))))) y) := by
          simp [f_J7_append_3_J8, f_J7_append_3_J8_b, f_J7_isLatin1_J8, f_J15_canEncode, gI_fn, gR_fn, pI_fn, pR_fn, pB_fn, rc_fn, jck_fn, bd_some, Option.bind_some, va_up_self, gIv_i, gRv_r, gRv_n, gRv_rf, List.getElem?_cons_zero, List.getElem?_cons_succ, List.set_cons_zero, List.set_cons_succ, List.length_cons, List.length_nil, jfn_2, if_true, if_false, and_true, true_and, Nat.le_refl, e1, zI_add1, k1, k2, h255, hn, byte_nar hw, hS, hy1]
        simp [f_J8_append_3, f_J8_append_3_b, gI_fn, gR_fn, pI_fn, pR_fn, pB_fn, rc_fn, jck_fn, bd_some, Option.bind_some, va_up_self, gIv_i, gRv_r, gRv_n, gRv_rf, List.getElem?_cons_zero, List.getElem?_cons_succ, List.set_cons_zero, List.set_cons_succ, List.length_cons, List.length_nil, jfn_2, if_true, if_false, and_true, true_and, Nat.le_refl, e1, r1, hy1]
      have hrel : ∀ d', jRel G (cP σ a (3, rs, xs ++ [nI w], sbCap (xs.length + 1) cap, d')).1 (va_up (va_up ψ a (some (.inl (20, [.ref arr', .int 0, .int ml, .int (nI (xs.length + 1))])))) arr' (some (.inr (.inl (1, sbCap (xs.length + 1) cap, upd g xs.length (nI w)))))) := by
        intro d'
        refine close_SB hr hn (Or.inr hoa) (arr := arr') (f := upd g xs.length (nI w)) (ml := ml) (by rw [va_up_ne _ _ (Ne.symm hla), va_up_self, hlen]) (va_up_self _ _ _) hown' k6 (by rw [hlen]; exact hcap) (fun i hi => ?_) hcap2 (fun i hi => ?_) (fun y hy => ?_) ?_
        · unfold upd
          by_cases hil : i = xs.length
          · rw [if_pos hil]; exact byte_fit hw
          · rw [if_neg hil]; exact k5 i hi
        · rw [hlen] at hi
          unfold upd
          by_cases hil : i = xs.length
          · rw [if_pos hil, hil]; simp
          · rw [if_neg hil, k4 i (by omega), List.getElem?_append_left (by omega)]; exact h7 i (by omega)
        · rcases List.mem_append.mp hy with q | q
          · exact h8 y q
          · rw [List.mem_singleton.mp q]; exact hx
        · rcases hown' with q | q
          · exact (hkp.own hn hoa).new q
          · exact (hkp.own hn hoa).own k6 q
      by_cases hle : xs.length + 1 ≤ cap
      · rw [if_pos hle] at h hres
        cases h
        have hc : sbCap (xs.length + 1) cap = cap := by unfold sbCap; rw [if_pos hle]
        have := hrel d
        rw [hc] at this hres
        exact ⟨0, _, hres, this⟩
      · rw [if_neg hle] at h hres
        cases h
        exact ⟨0, _, hres, hrel d⟩
    · cases h
  · cases h
end SB
