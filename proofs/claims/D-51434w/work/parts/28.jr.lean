/-! Integer.parseInt: the plain part -/
set_option maxRecDepth 100000
def dval (xs : List Int32) : Int32 := xs.foldl (fun h x => 10 * h + (x - 48)) 0
theorem dig_page : ∀ k : Fin 128, (((nI k.1).toUInt32 >>> ((8 : Int32).toUInt32 &&& Int32.toUInt32 31)).toInt32) = 0 := by decide +kernel
section PI
variable {G : jG} {σ σ' : jH} {φ : Nat → Option jE} {a : Nat}
theorem p_digit {z : Nat × Nat} {d cd n w : Nat} {f : Nat → Int32} (q1 : G.2.2.2 102 = some d) (q2 : φ d = some (.inr (.inl (1, 256, f)))) (q3 : ∀ z, z < 58 → 48 ≤ z → f z = dDig z) (p1 : G.2.2.2 103 = some cd) (h1 : 48 ≤ w) (h2 : w < 58) : f_J29_digit G n (jfn φ z) (nI w) 10 = some (nI (w - 48)) := by
  have e1 : f_J30_of_J31 G n (jfn φ z) (nI w) = some (some cd) := by
    unfold f_J30_of_J31
    rw [if_pos (dig_page ⟨w, by omega⟩), p1]
  have e2 : f_J31_digit G n (jfn φ z) cd (nI w) 10 = some (nI (w - 48)) := by
    unfold f_J31_digit
    rw [q1, aI_at q2 (by omega) (by omega), Option.bind_some, q3 w h2 h1]
    unfold dDig
    rw [if_neg (zI_neg (by omega)), if_neg (by rw [show (10 : Int32) = nI 10 from rfl, zI_le (by omega) (by omega)]; omega), if_neg (by decide), if_neg (by decide)]
  have e3 : cdr G (some cd) = some cd := by unfold cdr; rw [if_pos p1.symm]
  simp only [f_J29_digit, f_J29_digit_2, e1, Option.bind_some, e3, e2]
theorem pi_loop {z : Nat × Nat} {n arr d cd : Nat} {xs : List Int32} {f t : Nat → Int32} {hsh hz : Int32} (e1 : φ a = some (.inl (21, [.ref arr, .int 0, .int hsh, .int hz]))) (e2 : φ arr = some (.inr (.inl (1, xs.length, f)))) (h4 : ∀ i, i < xs.length → some (f i) = xs[i]?) (hl : xs.length ≤ 8) (hdg : ∀ x ∈ xs, ∃ w, 48 ≤ w ∧ w < 58 ∧ x = nI w) (q1 : G.2.2.2 102 = some d) (q2 : φ d = some (.inr (.inl (1, 256, t)))) (q3 : ∀ z, z < 58 → 48 ≤ z → t z = dDig z) (p1 : G.2.2.2 103 = some cd) :
    ∀ (k j m D : Nat), j + k = xs.length → D < 10 ^ j → jloop (f_J16_parseInt_2_h175 G n (jfn φ z) (some a) 10 0 (nI xs.length) (-2147483647) (-214748364)) (k + 1 + m) (nI j, -(nI D)) = some ((xs.drop j).foldl (fun h x => 10 * h + (x - 48)) (nI D)) := by
  intro k
  induction k with
  | zero =>
    intro j m D hj hD
    rw [show 0 + 1 + m = m + 1 by omega, jloop_s]
    unfold f_J16_parseInt_2_h175
    dsimp only
    rw [if_pos (by rw [zI_le (by omega) (by omega)]; omega), if_pos rfl, List.drop_eq_nil_of_le (by omega), negneg]
    rfl
  | succ k ih =>
    intro j m D hj hD
    have hjx : j < xs.length := by omega
    have hxj := List.getElem?_eq_getElem hjx
    obtain ⟨w, w1, w2, hw⟩ := hdg _ (List.getElem_mem hjx)
    rw [hw] at hxj
    have hD7 : D < 10 ^ 7 := Nat.lt_of_lt_of_le hD (Nat.pow_le_pow_right (by omega) (by omega))
    have hch : f_J9_charAt G n (jfn φ z) a (nI j) = some (nI w) := p_chr e1 e2 (by omega) h4 (fun x hx => by
      obtain ⟨w', a1, a2, rfl⟩ := hdg x hx
      refine ⟨by rw [zI_zero, zI_le (by omega) (by omega)]; omega, by rw [show (128 : Int32) = nI 128 from rfl, zI_lt (by omega) (by omega)]; omega⟩) hjx hxj
    have hdi := p_digit (n := n) (z := z) q1 q2 q3 p1 w1 w2
    have hrc : rc (jfn φ z) (some a) 21 = some a := by rw [rc_fn, e1]; rfl
    have hmul : -(nI D) * 10 = -(nI (10 * D)) := by
      rw [Int32.neg_mul, show (10 : Int32) = nI 10 from rfl]
      congr 1
      show Int32.ofNat D * Int32.ofNat 10 = _
      rw [← Int32.ofNat_mul, Nat.mul_comm]
      rfl
    have hsub : -(nI (10 * D)) - nI (w - 48) = -(nI (10 * D + (w - 48))) := by
      rw [← zI_add, Int32.neg_add, Int32.sub_eq_add_neg]
    have hstep : ∀ rec, f_J16_parseInt_2_h175 G n (jfn φ z) (some a) 10 0 (nI xs.length) (-2147483647) (-214748364) rec (nI j, -(nI D)) = rec (nI (j + 1), -(nI (10 * D + (w - 48)))) := by
      intro rec
      unfold f_J16_parseInt_2_h175
      dsimp only
      rw [if_neg (by rw [zI_le (by omega) (by omega)]; omega), hrc, Option.bind_some, hch, Option.bind_some, hdi, Option.bind_some, if_neg (zI_neg (by omega))]
      rw [if_pos (by rw [Int32.le_iff_toInt_le, neg_toInt (by omega), show ((-214748364 : Int32)).toInt = -214748364 by decide]; omega)]
      have hlim : ((-2147483647 : Int32) + nI (w - 48)).toInt = -2147483647 + ((w - 48 : Nat) : Int) := by
        rw [Int32.toInt_add, zI_toInt (by omega), show ((-2147483647 : Int32)).toInt = -2147483647 by decide, Int.bmod_def]
        omega
      rw [hmul, if_pos (by rw [Int32.le_iff_toInt_le, neg_toInt (by omega), hlim]; omega), hsub, zI_add1]
    have hx : xs.drop j = nI w :: xs.drop (j + 1) := by
      rw [List.drop_eq_getElem_cons hjx]
      congr 1
    have hp : (10 : Int32) * nI D + (nI w - 48) = nI (10 * D + (w - 48)) := by
      rw [show (48 : Int32) = nI 48 from rfl, zI_sub w1, show (10 : Int32) = nI 10 from rfl, ← zI_add]
      congr 1
      exact (Int32.ofNat_mul 10 D).symm
    rw [show k + 1 + 1 + m = (k + 1 + m) + 1 by omega, jloop_s, hstep, ih (j + 1) m (10 * D + (w - 48)) (by omega) (by rw [Nat.pow_succ]; omega), hx, List.foldl_cons, hp]
theorem p_J16_parseInt (hr : jRel G σ.1 φ) {r : Option Nat} {v : Int32} (h : stInt G σ r = some v) : ∃ n, f_J16_parseInt G n (jfn φ σ.2) r = some v := by
  obtain ⟨ow, gh, hr⟩ := hr
  obtain ⟨b, hrb, h1⟩ := Option.bind_eq_some_iff.mp h
  subst hrb
  obtain ⟨xs, hx, h2⟩ := Option.bind_eq_some_iff.mp h1
  split at h2
  · next hc =>
    obtain ⟨t1, t2, h0, h8, hall⟩ := hc
    cases h2
    obtain ⟨rs, c, d, hs⟩ := stTxt_some hx
    obtain ⟨-, arr, f, hsh, hz, e1, e2, -, -, h3, h4, h5, -⟩ := open_ST hr hs
    obtain ⟨d, t, q1, q2, q3, -⟩ := dT_some hr t1
    obtain ⟨cd, p1⟩ := Option.ne_none_iff_exists'.mp t2
    have hdg : ∀ x ∈ xs, ∃ w, 48 ≤ w ∧ w < 58 ∧ x = nI w := by
      intro x hx
      rw [List.all_eq_true] at hall
      have h9 := of_decide_eq_true (hall x hx)
      obtain ⟨w, hw, rfl⟩ := char_of (h5 x hx).1 (h5 x hx).2
      refine ⟨w, ?_, ?_, rfl⟩
      · have := h9.1
        rw [show (48 : Int32) = nI 48 from rfl, zI_le (by omega) (by omega)] at this
        exact this
      · have := h9.2
        rw [show (57 : Int32) = nI 57 from rfl, zI_le (by omega) (by omega)] at this
        omega
    have hlen : f_J9_length G (xs.length + 1 + 0) (jfn φ σ.2) b = some (nI xs.length) := by
      have hj : ∀ o : Option Int32, jbo .byte 0 o = o := fun o => rfl
      simp [f_J9_length, f_J9_coder, gI_fn, gR_fn, pI_fn, pR_fn, pB_fn, rc_fn, jck_fn, bd_some, Option.bind_some, va_up_self, gIv_i, gRv_r, gRv_n, gRv_rf, List.getElem?_cons_zero, List.getElem?_cons_succ, List.set_cons_zero, List.set_cons_succ, List.length_cons, List.length_nil, jfn_2, if_true, if_false, and_true, true_and, Nat.le_refl, e1, aLenB e2, hj, shr0]
    have hx0 : xs[0]? = some xs[0] := List.getElem?_eq_getElem h0
    obtain ⟨w, w1, w2, hw⟩ := hdg _ (List.getElem_mem h0)
    rw [hw] at hx0
    have hch : f_J9_charAt G (xs.length + 1 + 0) (jfn φ σ.2) b (nI 0) = some (nI w) := p_chr e1 e2 h3 h4 h5 h0 hx0
    have hrc : rc (jfn φ σ.2) (some b) 21 = some b := by rw [rc_fn, e1]; rfl
    have hloop := pi_loop (G := G) (z := σ.2) (n := xs.length + 1 + 0) e1 e2 h4 h8 hdg q1 q2 q3 p1 xs.length 0 0 0 (by omega) (by omega)
    rw [List.drop_zero] at hloop
    refine ⟨xs.length + 1 + 0, ?_⟩
    unfold f_J16_parseInt f_J16_parseInt_2 f_J16_parseInt_2_j166 jnz
    rw [if_neg (by simp), if_pos (by decide), if_pos (by decide), hrc, Option.bind_some, hlen, Option.bind_some, if_neg (by rw [zI_zero, zI_le (by omega) (by omega)]; omega), Option.bind_some, show (0 : Int32) = nI 0 from rfl, hch, Option.bind_some, if_pos (by rw [show (48 : Int32) = nI 48 from rfl, zI_le (by omega) (by omega)]; omega), if_neg (by decide)]
    have hdiv : (-2147483647 : Int32) / 10 = -214748364 := by decide
    rw [hdiv]
    have hneg : (nI 0 : Int32) = -(nI 0) := by decide
    rw [show ((nI 0, nI 0) : Int32 × Int32) = (nI 0, -(nI 0)) from by rw [← hneg]]
    rw [show (nI 0 : Int32) = 0 from rfl] at hloop ⊢
    rw [hloop]
    rfl
  · cases h2
end PI
