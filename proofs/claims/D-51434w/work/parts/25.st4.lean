/-! THE START, fourth part: the abstract heap at the start -/
set_option maxRecDepth 100000
/-- what the plain claim knows of the start -/
def jStart (G : jG) (σ0 : jH) (b L : Nat) (xs : Nat → Int32) : Prop :=
  σ0.1 b = some (jI 0 L xs) ∧ b < G.2.2.1 ∧ jKS G σ0 ∧ zA G σ0 = true ∧ dT G σ0 100 100 0 100 dOnes = true ∧ dT G σ0 101 100 0 100 dTens = true ∧ dT G σ0 102 256 48 58 dDig = true ∧ G.2.2.2 103 ≠ none ∧ σ0.2.1 = G.2.2.1 ∧ σ0.2.2 = 0 ∧ ∀ q, G.2.2.1 ≤ q → σ0.1 q = none
/-- the kinds of constant cells -/
def cRow (k n : Nat) (f : Nat → Int32) : jE := .inr (.inl (k, n, f))
def cStr (v : Nat) (h z : Int32) : jE := .inl (21, [.ref v, .int 0, .int h, .int z])
def cNil : jE := .inr (.inr (.inr (0, fun _ => none)))
def cSh (e : jE) : Prop := (∃ k n f, e = cRow k n f ∧ n < 2 ^ 31) ∨ (∃ v h z, e = cStr v h z) ∨ e = cNil
theorem jty_inj {k k' : Nat} (h : k ≤ 2) (h' : k' ≤ 2) (e : jty k = jty k') : k = k' := by
  rcases (show k = 0 ∨ k = 1 ∨ k = 2 by omega) with rfl | rfl | rfl <;> rcases (show k' = 0 ∨ k' = 1 ∨ k' = 2 by omega) with rfl | rfl | rfl <;> first | rfl | cases e
section ST4
variable {s : State} {b L : Nat} {xs : Nat → Int32} {G : jG}
theorem arr_ty {cell : Cell} {t t' : FieldType} (h : s.isArrayOf cell t) (h' : s.isArrayOf cell t') : t = t' := by
  obtain ⟨-, k, hk, c, hc⟩ := h
  obtain ⟨-, k', hk', c', hc'⟩ := h'
  cases hk.symm.trans hk'
  rw [hc] at hc'
  injection hc'
theorem str_arr (hG : jGl G s) {cell : Cell} {t : FieldType} (h : s.isArrayOf cell t) (hf : s.vm.findClass "java/lang/String" = some cell.cls) : False := by
  obtain ⟨-, k, hk, c, hc⟩ := h
  obtain ⟨h1, kC, h2, h3⟩ := (hG.1.1 21 (RJ9, TJ9, 4) rfl).2
  have h1' : s.vm.findClass "java/lang/String" = some (G.1.1 21) := h1
  have e : cell.cls = G.1.1 21 := Option.some.inj (hf.symm.trans h1')
  rw [e] at hk
  cases hk.symm.trans h2
  rw [hc] at h3
  cases h3
theorem zI_inj' {a b : Nat} (ha : a < 2 ^ 31) (hb : b < 2 ^ 31) : Int32.ofNat a = Int32.ofNat b ↔ a = b := by
  constructor
  · intro h
    have h1 := congrArg Int32.toInt h
    rw [Int32.toInt_ofNat_of_lt ha, Int32.toInt_ofNat_of_lt hb] at h1
    omega
  · rintro rfl; rfl
theorem len_inj {n n' m : Nat} (h : n < 2 ^ 31) (h' : n' < 2 ^ 31) (e : m.toInt32 = Int32.ofNat n) (e' : m.toInt32 = Int32.ofNat n') : n = n' := by
  have := (e.symm.trans e')
  exact (zI_inj' h h').mp this
theorem of_eq {o n d : String} {v v' : Value} {a : Nat} {A : Nat → Prop} (h : va_OF o n d v a A s s.heap) (h' : va_OF o n d v' a A s s.heap) : v = v' := by
  obtain ⟨cf, k, i, f, cell, h1, -, h3, -, h5, -⟩ := h
  obtain ⟨cf', k', i', f', cell', h1', -, h3', -, h5', -⟩ := h'
  cases h1.symm.trans h1'
  cases h3.symm.trans h3'
  exact Option.some.inj (h5.symm.trans h5')
/-- two readings of one constant cell -/
def cAg (e e' : jE) : Prop := match e with
  | .inr (.inl (k, n, f)) => ∃ f', e' = cRow k n f' ∧ ∀ j, j < n → f' j = f j
  | .inl (_, _) => e' = e
  | _ => e' = e
theorem c_agree (hG : jGl G s) {q : Nat} {e e' : jE} (h : jcat G s s.heap q e) (h' : jcat G s s.heap q e') (he : cSh e) (he' : cSh e') : cAg e e' := by
  have hstr : ∀ {v h z}, jcat G s s.heap q (cStr v h z) → (∃ cell : Cell, s.heap[q]? = some cell ∧ s.vm.findClass "java/lang/String" = some cell.cls) ∧ va_OF "java/lang/String" "value" "[B" (.ref v) q (jA G) s s.heap ∧ va_OF "java/lang/String" "hash" "I" (.int h) q (jA G) s s.heap ∧ va_OF "java/lang/String" "hashIsZero" "Z" (.int z) q (jA G) s s.heap := by
    intro v h z hj
    obtain ⟨r, hr, ⟨cell, g1, g2, g3, g4⟩, hf⟩ := hj
    cases hr
    exact ⟨⟨cell, g1, g3⟩, hf 0 (by decide), hf 2 (by decide), hf 3 (by decide)⟩
  have hrow : ∀ {k n f}, jcat G s s.heap q (cRow k n f) → k ≤ 2 ∧ ∃ cell : Cell, s.heap[q]? = some cell ∧ s.isArrayOf cell (jty k) ∧ cell.slots.size.toInt32 = Int32.ofNat n ∧ ∀ j, j < n → cell.slots[j]? = some (.int (f j)) := by
    intro k n f hj
    obtain ⟨hk, cell, g1, g2, g3, g4, g5, g6, -⟩ := hj
    exact ⟨hk, cell, g1, g2, g5, g6⟩
  have hnil : jcat G s s.heap q cNil → ∃ cell : Cell, s.heap[q]? = some cell ∧ s.isArrayOf cell (.object "java/lang/Object") := by
    intro hj
    obtain ⟨cell, g1, g2, -⟩ := hj
    exact ⟨cell, g1, g2⟩
  rcases he with ⟨k, n, f, rfl, hn⟩ | ⟨v, hh, z, rfl⟩ | rfl
  · obtain ⟨hk, cell, g1, g2, g3, g4⟩ := hrow h
    rcases he' with ⟨k', n', f', rfl, hn'⟩ | ⟨v, hh, z, rfl⟩ | rfl
    · obtain ⟨hk', cell', g1', g2', g3', g4'⟩ := hrow h'
      cases g1.symm.trans g1'
      obtain rfl := jty_inj hk hk' (arr_ty g2 g2')
      obtain rfl := len_inj hn hn' g3 g3'
      refine ⟨f', rfl, fun j hj => ?_⟩
      have := (g4' j hj).symm.trans (g4 j hj)
      injection this with this
      injection this
    · obtain ⟨⟨cell', g1', g2'⟩, -⟩ := hstr h'
      cases g1.symm.trans g1'
      exact (str_arr hG g2 g2').elim
    · obtain ⟨cell', g1', g2'⟩ := hnil h'
      cases g1.symm.trans g1'
      have := arr_ty g2 g2'
      rcases (show k = 0 ∨ k = 1 ∨ k = 2 by omega) with rfl | rfl | rfl <;> cases this
  · obtain ⟨⟨cell, g1, g2⟩, o1, o2, o3⟩ := hstr h
    rcases he' with ⟨k', n', f', rfl, hn'⟩ | ⟨v', hh', z', rfl⟩ | rfl
    · obtain ⟨hk', cell', g1', g2', -⟩ := hrow h'
      cases g1.symm.trans g1'
      exact (str_arr hG g2' g2).elim
    · obtain ⟨-, o1', o2', o3'⟩ := hstr h'
      have e1 := of_eq o1 o1'
      have e2 := of_eq o2 o2'
      have e3 := of_eq o3 o3'
      injection e1 with e1
      injection e2 with e2
      injection e3 with e3
      subst e1; subst e2; subst e3
      rfl
    · obtain ⟨cell', g1', g2'⟩ := hnil h'
      cases g1.symm.trans g1'
      exact (str_arr hG g2' g2).elim
  · obtain ⟨cell, g1, g2⟩ := hnil h
    rcases he' with ⟨k', n', f', rfl, hn'⟩ | ⟨v', hh', z', rfl⟩ | rfl
    · obtain ⟨hk', cell', g1', g2', -⟩ := hrow h'
      cases g1.symm.trans g1'
      have := arr_ty g2' g2
      rcases (show k' = 0 ∨ k' = 1 ∨ k' = 2 by omega) with rfl | rfl | rfl <;> cases this
    · obtain ⟨⟨cell', g1', g2'⟩, -⟩ := hstr h'
      cases g1.symm.trans g1'
      exact (str_arr hG g2 g2').elim
    · rfl
theorem kTx_ch : ∀ i, i < 46 → ∀ x ∈ kTx i, 0 ≤ x ∧ x < 128 := by decide +kernel
def stHp (st : Nat → Option Nat) (φ : Nat → Option jE) (q : Nat) : Option jX := match st q with
  | some i => some (.inr (4, [], kTx i, 0, 0))
  | none => (φ q).map .inl
def stCs (b L : Nat) (xs : Nat → Int32) (ad : Nat → Nat × Nat) (t0 t1 t2 t4 : Nat) : List (Nat × jE) :=
  (b, cRow 0 L xs) :: ((List.range 46).map (fun i => ((ad i).1, cStr (ad i).2 (kHs.getD i (0, 0)).1 (kHs.getD i (0, 0)).2)) ++ ((List.range 46).map (fun i => ((ad i).2, cRow 1 (kTx i).length (fun j => (kTx i).getD j 0))) ++ [(t0, cRow 1 100 dOnes), (t1, cRow 1 100 dTens), (t2, cRow 1 256 (fun j => kDg.getD j 0)), (t4, cNil)]))
theorem st_heap (hL : L ≤ 144) (hX : va_X b L xs s s.heap) (hbl : b < s.heap.size) (hn0 : G.2.2.1 = s.heap.size) (hG : jGl G s) {ad : Nat → Nat × Nat} {t0 t1 t2 t3 t4 : Nat} (hK : stK s b ad t0 t1 t2 t3 t4 G.2.2.2) : ∃ σ0 : jH, jSt G σ0 s ∧ jStart G σ0 b L xs := by
  obtain ⟨k1, k100, k101, k102, k103, k104⟩ := hK
  have hA : jA G = fun a => s.heap.size ≤ a := by unfold jA; rw [hn0]
  have hcs : ∀ x ∈ stCs b L xs ad t0 t1 t2 t4, jcat G s s.heap x.1 x.2 ∧ cSh x.2 := by
    intro x hx
    have hrow : ∀ {t n : Nat} {f : Nat → Int32}, n < 2 ^ 31 → va_T .byte t n (fun j => .int (f j)) (fun a => s.heap.size ≤ a) s s.heap → jcat G s s.heap t (cRow 1 n f) ∧ cSh (cRow 1 n f) := by
      intro t n f hn h
      refine ⟨⟨by omega, ?_⟩, Or.inl ⟨1, n, f, rfl, hn⟩⟩
      rw [hA]
      exact h
    rcases List.mem_cons.mp hx with rfl | hx
    · obtain ⟨scr, h1, h2, h3, h4, h5⟩ := hX
      exact ⟨⟨by omega, scr, h1, h2, h3, by omega, by rw [h4], h5, by rw [hA]; exact Nat.not_le.mpr hbl⟩, Or.inl ⟨0, L, xs, rfl, by omega⟩⟩
    · rcases List.mem_append.mp hx with hx | hx
      · obtain ⟨i, hi, rfl⟩ := List.mem_map.mp hx
        obtain ⟨⟨-, s1, s2, s3, s4, s5, -⟩, -⟩ := k1 i (List.mem_range.mp hi)
        refine ⟨⟨(RJ9, TJ9, 4), rfl, by rw [hA]; exact s1, fun k hk => ?_⟩, Or.inr (Or.inl ⟨_, _, _, rfl⟩)⟩
        rw [hA]
        have hk4 : k < 4 := hk
        rcases (show k = 0 ∨ k = 1 ∨ k = 2 ∨ k = 3 by omega) with rfl | rfl | rfl | rfl
        · exact s3
        · exact s2
        · exact s4
        · exact s5
      · rcases List.mem_append.mp hx with hx | hx
        · obtain ⟨i, hi, rfl⟩ := List.mem_map.mp hx
          obtain ⟨⟨-, -, -, -, -, -, s6⟩, -⟩ := k1 i (List.mem_range.mp hi)
          exact hrow (by have := kTx_len i (List.mem_range.mp hi); omega) s6
        · rcases List.mem_cons.mp hx with rfl | hx
          · exact hrow (by omega) k100.2
          · rcases List.mem_cons.mp hx with rfl | hx
            · exact hrow (by omega) k101.2
            · rcases List.mem_cons.mp hx with rfl | hx
              · exact hrow (by omega) k102.2
              · rw [List.mem_singleton.mp hx]
                refine ⟨?_, Or.inr (Or.inr rfl)⟩
                have h9 := k104.2
                rw [← hA] at h9
                exact h9
  have hlt : ∀ {q e}, jcat G s s.heap q e → q < G.2.2.1 := by
    intro q e h
    have hna : ¬ jA G q := by
      match e, h with
      | .inl (c, fs), h => obtain ⟨r, -, ⟨_, -, -, -, h4⟩, -⟩ := h; exact h4
      | .inr (.inl (k, n, f)), h => obtain ⟨-, _, -, -, -, -, -, -, h4⟩ := h; exact h4
      | .inr (.inr (.inl (n, f))), h => obtain ⟨_, -, -, -, -, -, -, h4⟩ := h; exact h4
      | .inr (.inr (.inr (n, f))), h => obtain ⟨_, -, -, -, -, -, -, h4⟩ := h; exact h4
    exact Nat.not_le.mp hna
  let φ : Nat → Option jE := fun q => ((stCs b L xs ad t0 t1 t2 t4).find? (fun x => x.1 == q)).map (·.2)
  have hφ1 : ∀ q e, φ q = some e → (q, e) ∈ stCs b L xs ad t0 t1 t2 t4 := by
    intro q e h
    obtain ⟨x, hx, rfl⟩ := Option.map_eq_some_iff.mp h
    have h1 := List.find?_some hx
    have h2 : x.1 = q := by simpa using h1
    rw [← h2]
    exact List.mem_of_find?_eq_some hx
  have hφ2 : ∀ q e, (q, e) ∈ stCs b L xs ad t0 t1 t2 t4 → ∃ e', φ q = some e' ∧ cAg e e' := by
    intro q e h
    cases hf : (stCs b L xs ad t0 t1 t2 t4).find? (fun x => x.1 == q) with
    | none =>
      have := List.find?_eq_none.mp hf (q, e) h
      simp at this
    | some x =>
      have e1 : φ q = some x.2 := by show Option.map _ _ = _; rw [hf]; rfl
      have h2 := hφ1 q x.2 e1
      exact ⟨x.2, e1, c_agree hG (hcs _ h).1 (hcs _ h2).1 (hcs _ h).2 (hcs _ h2).2⟩
  have m_b : (b, cRow 0 L xs) ∈ stCs b L xs ad t0 t1 t2 t4 := List.mem_cons_self
  have m_s : ∀ i, i < 46 → ((ad i).1, cStr (ad i).2 (kHs.getD i (0, 0)).1 (kHs.getD i (0, 0)).2) ∈ stCs b L xs ad t0 t1 t2 t4 := fun i hi => List.mem_cons_of_mem _ (List.mem_append_left _ (List.mem_map.mpr ⟨i, List.mem_range.mpr hi, rfl⟩))
  have m_v : ∀ i, i < 46 → ((ad i).2, cRow 1 (kTx i).length (fun j => (kTx i).getD j 0)) ∈ stCs b L xs ad t0 t1 t2 t4 := fun i hi => List.mem_cons_of_mem _ (List.mem_append_right _ (List.mem_append_left _ (List.mem_map.mpr ⟨i, List.mem_range.mpr hi, rfl⟩)))
  have m_0 : (t0, cRow 1 100 dOnes) ∈ stCs b L xs ad t0 t1 t2 t4 := List.mem_cons_of_mem _ (List.mem_append_right _ (List.mem_append_right _ List.mem_cons_self))
  have m_1 : (t1, cRow 1 100 dTens) ∈ stCs b L xs ad t0 t1 t2 t4 := List.mem_cons_of_mem _ (List.mem_append_right _ (List.mem_append_right _ (List.mem_cons_of_mem _ List.mem_cons_self)))
  have m_2 : (t2, cRow 1 256 (fun j => kDg.getD j 0)) ∈ stCs b L xs ad t0 t1 t2 t4 := List.mem_cons_of_mem _ (List.mem_append_right _ (List.mem_append_right _ (List.mem_cons_of_mem _ (List.mem_cons_of_mem _ List.mem_cons_self))))
  have m_4 : (t4, cNil) ∈ stCs b L xs ad t0 t1 t2 t4 := List.mem_cons_of_mem _ (List.mem_append_right _ (List.mem_append_right _ (List.mem_cons_of_mem _ (List.mem_cons_of_mem _ (List.mem_cons_of_mem _ List.mem_cons_self)))))
  have s_ne : ∀ q e, (q, e) ∈ stCs b L xs ad t0 t1 t2 t4 → (∀ v h z, ¬ cAg e (cStr v h z)) → ∀ i, i < 46 → (ad i).1 ≠ q := by
    rintro q e hm hne i hi rfl
    exact hne _ _ _ (c_agree hG (hcs _ hm).1 (hcs _ (m_s i hi)).1 (hcs _ hm).2 (hcs _ (m_s i hi)).2)
  have r_ne : ∀ k n f v h z, ¬ cAg (cRow k n f) (cStr v h z) := by
    rintro k n f v h z ⟨f', hf, -⟩
    cases hf
  let st : Nat → Option Nat := fun q => (List.range 46).find? (fun i => (ad i).1 == q)
  let σ0 : jH := (stHp st φ, s.heap.size, 0)
  have hst0 : ∀ q e, (q, e) ∈ stCs b L xs ad t0 t1 t2 t4 → (∀ v h z, ¬ cAg e (cStr v h z)) → σ0.1 q = (φ q).map .inl := by
    intro q e hm hne
    have : st q = none := List.find?_eq_none.mpr (fun i hi => by
      have := s_ne q e hm hne i (List.mem_range.mp hi)
      simpa using this)
    show stHp st φ q = _
    unfold stHp
    rw [this]
  have htxt : ∀ i j, i < 46 → j < 46 → (ad i).1 = (ad j).1 → kTx i = kTx j := by
    intro i j hi hj e
    have h1 := c_agree hG (hcs _ (m_s i hi)).1 (by have := (hcs _ (m_s j hj)).1; rw [← e] at this; exact this) (hcs _ (m_s i hi)).2 (hcs _ (m_s j hj)).2
    have h2 : cStr (ad j).2 (kHs.getD j (0, 0)).1 (kHs.getD j (0, 0)).2 = cStr (ad i).2 (kHs.getD i (0, 0)).1 (kHs.getD i (0, 0)).2 := h1
    have h3 : (ad j).2 = (ad i).2 := by
      unfold cStr at h2
      simp at h2
      exact h2.1
    obtain ⟨f', hf, hff⟩ := c_agree hG (hcs _ (m_v i hi)).1 (by have := (hcs _ (m_v j hj)).1; rw [h3] at this; exact this) (hcs _ (m_v i hi)).2 (hcs _ (m_v j hj)).2
    unfold cRow at hf
    simp at hf
    obtain ⟨hl, rfl⟩ := hf
    apply List.ext_getElem hl.symm
    intro k g1 g2
    have := hff k g1
    simp [g1, g2] at this
    exact this.symm
  have hstr : ∀ i, i < 46 → σ0.1 (ad i).1 = some (.inr (4, [], kTx i, 0, 0)) := by
    intro i hi
    show stHp st φ (ad i).1 = _
    unfold stHp
    cases hf : st (ad i).1 with
    | none =>
      have := List.find?_eq_none.mp hf i (List.mem_range.mpr hi)
      simp at this
    | some j =>
      have h1 : (ad j).1 = (ad i).1 := by simpa using List.find?_some hf
      have hj : j < 46 := List.mem_range.mp (List.mem_of_find?_eq_some hf)
      dsimp only
      rw [htxt j i hj hi h1]
  have hrel : jRel G σ0.1 φ := by
    refine ⟨fun q => q, fun _ => ([], 0), fun q x hx => ?_⟩
    have hx' : stHp st φ q = some x := hx
    unfold stHp at hx'
    cases hf : st q with
    | none =>
      rw [hf] at hx'
      obtain ⟨e, he, rfl⟩ := Option.map_eq_some_iff.mp hx'
      exact ⟨he, rfl⟩
    | some i =>
      rw [hf] at hx'
      cases hx'
      have h1 : (ad i).1 = q := by simpa using List.find?_some hf
      have hi : i < 46 := List.mem_range.mp (List.mem_of_find?_eq_some hf)
      subst h1
      obtain ⟨e1, g1, a1⟩ := hφ2 _ _ (m_s i hi)
      have a1' : e1 = cStr (ad i).2 (kHs.getD i (0, 0)).1 (kHs.getD i (0, 0)).2 := a1
      subst a1'
      obtain ⟨e2, g2, f', a2, a3⟩ := hφ2 _ _ (m_v i hi)
      subst a2
      refine ⟨rfl, [((ad i).1, cStr (ad i).2 (kHs.getD i (0, 0)).1 (kHs.getD i (0, 0)).2), ((ad i).2, cRow 1 (kTx i).length f')], fun y hy => ?_, (ad i).2, f', _, _, rfl, by have := kTx_len i hi; omega, fun j hj => ?_, kTx_ch i hi, fun hge => absurd (hlt (hcs _ (m_s i hi)).1) (Nat.not_lt.mpr hge)⟩
      · rcases List.mem_cons.mp hy with rfl | hy
        · exact ⟨g1, Or.inl (hlt (hcs _ (m_s i hi)).1)⟩
        · rw [List.mem_singleton.mp hy]
          exact ⟨g2, Or.inl (hlt (hcs _ (m_v i hi)).1)⟩
      · rw [a3 j hj]
        simp [hj]
  have hrowAt : ∀ t n F, (t, cRow 1 n F) ∈ stCs b L xs ad t0 t1 t2 t4 → ∃ f', σ0.1 t = some (.inl (cRow 1 n f')) ∧ ∀ j, j < n → f' j = F j := by
    intro t n F hm
    obtain ⟨e', g, f', rfl, hf⟩ := hφ2 _ _ hm
    exact ⟨f', by rw [hst0 _ _ hm (r_ne 1 n F), g]; rfl, hf⟩
  have hdT : ∀ i t n lo hi F F', G.2.2.2 i = some t → (t, cRow 1 n F) ∈ stCs b L xs ad t0 t1 t2 t4 → hi ≤ n → (∀ z, z < hi → lo ≤ z → F z = F' z) → dT G σ0 i n lo hi F' = true := by
    intro i t n lo hi F F' hi1 hm hh hF
    obtain ⟨f', g, hf⟩ := hrowAt t n F hm
    unfold dT
    rw [hi1]
    dsimp only
    rw [g]
    show decide (1 = 1 ∧ n = n ∧ ∀ z, z < hi → lo ≤ z → f' z = F' z) = true
    rw [decide_eq_true_iff]
    exact ⟨rfl, rfl, fun z hz hlo => (hf z (by omega)).trans (hF z hz hlo)⟩
  refine ⟨σ0, ⟨hG, ⟨φ, [], hrel, fun q e he => Or.inr ⟨hlt (hcs _ (hφ1 q e he)).1, (hcs _ (hφ1 q e he)).1⟩, fun k q hq => by simp at hq, ⟨fun i j p q hi => by simp at hi, fun k q hq => by simp at hq⟩⟩, rfl, by rw [hn0]; exact Nat.le_refl _⟩, ?_, by rw [hn0]; exact hbl, fun i hi => ⟨(ad i).1, (k1 i hi).2, hlt (hcs _ (m_s i hi)).1, hstr i hi⟩, ?_, hdT 100 t0 100 0 100 _ _ k100.1 m_0 (by omega) (fun _ _ _ => rfl), hdT 101 t1 100 0 100 _ _ k101.1 m_1 (by omega) (fun _ _ _ => rfl), hdT 102 t2 256 48 58 _ _ k102.1 m_2 (by omega) (fun z hz hlo => kDg_d z hz hlo), by rw [k103.1]; exact (fun q => by cases q), hn0.symm, rfl, fun q hq => ?_⟩
  · rw [hst0 _ _ m_b (r_ne 0 L xs)]
    show Option.map _ (Option.map _ (List.find? _ (stCs b L xs ad t0 t1 t2 t4))) = _
    unfold stCs
    rw [List.find?_cons_of_pos (by simp)]
    rfl
  · obtain ⟨e', g, a⟩ := hφ2 _ _ m_4
    have a' : e' = cNil := a
    subst a'
    unfold zA
    rw [k104.1]
    dsimp only
    rw [hst0 _ _ m_4 (fun v h z q => by cases q), g]
    show decide (0 = 0 ∧ t4 < G.2.2.1) = true
    rw [decide_eq_true_iff]
    exact ⟨rfl, hlt (hcs _ m_4).1⟩
  · cases hx : σ0.1 q with
    | none => rfl
    | some x =>
      have hx' : stHp st φ q = some x := hx
      unfold stHp at hx'
      cases hf : st q with
      | none =>
        rw [hf] at hx'
        obtain ⟨e, he, rfl⟩ := Option.map_eq_some_iff.mp hx'
        exact absurd (hlt (hcs _ (hφ1 q e he)).1) (Nat.not_lt.mpr hq)
      | some i =>
        have h1 : (ad i).1 = q := by simpa using List.find?_some hf
        have hi : i < 46 := List.mem_range.mp (List.mem_of_find?_eq_some hf)
        rw [← h1] at hq
        exact absurd (hlt (hcs _ (m_s i hi)).1) (Nat.not_lt.mpr hq)
end ST4
