/-! OPEN AND CLOSE, the plain part: heaps all fine; the JDK's functions there; what coarse cells stand for -/
set_option maxRecDepth 100000
def jfn (φ : Nat → Option jE) (z : Nat × Nat) : jH := (fun a => (φ a).map .inl, z)
def gIv (v : Value) : Option Int32 := match v with
  | .int x => some x
  | _ => none
def gRv (v : Value) : Option (Option Nat) := match v with
  | .ref x => some (some x)
  | .null => some none
  | _ => none
theorem va_rf_s (a : Nat) : va_rf (some a) = .ref a := rfl
theorem va_rf_n : va_rf none = .null := rfl
theorem gIv_i (x : Int32) : gIv (.int x) = some x := rfl
theorem gRv_r (x : Nat) : gRv (.ref x) = some (some x) := rfl
theorem gRv_n : gRv .null = some none := rfl
theorem gRv_rf (r : Option Nat) : gRv (va_rf r) = some r := by cases r <;> rfl
theorem gI_fn {φ : Nat → Option jE} {z : Nat × Nat} {a ci k : Nat} : gI (jfn φ z) (some a) ci k = (match φ a with
  | some (.inl (c, fs)) => if c = ci then (fs[k]?).bind gIv else none
  | _ => none) := by
  unfold gI gV jfn
  dsimp only
  cases h : φ a with
  | none => rfl
  | some e =>
    match e with
    | .inr b => rfl
    | .inl (c, fs) =>
      dsimp only [Option.map_some]
      by_cases hc : c = ci
      · rw [if_pos hc, if_pos hc]
        cases fs[k]? with
        | none => rfl
        | some v => cases v <;> rfl
      · rw [if_neg hc, if_neg hc]
theorem gR_fn {φ : Nat → Option jE} {z : Nat × Nat} {a ci k : Nat} : gR (jfn φ z) (some a) ci k = (match φ a with
  | some (.inl (c, fs)) => if c = ci then (fs[k]?).bind gRv else none
  | _ => none) := by
  unfold gR gV jfn
  dsimp only
  cases h : φ a with
  | none => rfl
  | some e =>
    match e with
    | .inr b => rfl
    | .inl (c, fs) =>
      dsimp only [Option.map_some]
      by_cases hc : c = ci
      · rw [if_pos hc, if_pos hc]
        cases fs[k]? with
        | none => rfl
        | some v => cases v <;> rfl
      · rw [if_neg hc, if_neg hc]
theorem jset_fn {φ : Nat → Option jE} {z : Nat × Nat} {a : Nat} {e : jE} : jset (jfn φ z) a (.inl e) = jfn (va_up φ a (some e)) z := by
  unfold jset jfn
  congr 1
  funext b
  by_cases hb : b = a
  · subst hb; simp [va_up]
  · simp [va_up, hb]
theorem jnew_fn {φ : Nat → Option jE} {z : Nat × Nat} {k : Nat} {e : jE} : jnew (jfn φ z) (.inl e) k = jfn (va_up φ z.1 (some e)) (z.1 + 1, z.2 + k) := by
  unfold jnew jfn
  congr 1
  funext b
  by_cases hb : b = z.1
  · subst hb; simp [va_up]
  · simp [va_up, hb]
theorem pV_fn {G : jG} {φ : Nat → Option jE} {z : Nat × Nat} {a ci k : Nat} {v : Value} : pV G (jfn φ z) (some a) ci k v = (match φ a with
  | some (.inl (c, fs)) => if c = ci ∧ k < fs.length ∧ G.2.2.1 ≤ a then some (jfn (va_up φ a (some (.inl (c, fs.set k v)))) z) else none
  | _ => none) := by
  unfold pV
  dsimp only
  have e : (jfn φ z).1 a = (φ a).map Sum.inl := rfl
  rw [e]
  cases h : φ a with
  | none => rfl
  | some e =>
    match e with
    | .inr b => rfl
    | .inl (c, fs) =>
      dsimp only [Option.map_some]
      rw [jset_fn]
theorem pI_fn {G : jG} {φ : Nat → Option jE} {z : Nat × Nat} {a ci k : Nat} {x : Int32} : pI G (jfn φ z) (some a) ci k x = (match φ a with
  | some (.inl (c, fs)) => if c = ci ∧ k < fs.length ∧ G.2.2.1 ≤ a then some (jfn (va_up φ a (some (.inl (c, fs.set k (.int x))))) z) else none
  | _ => none) := pV_fn
theorem pR_fn {G : jG} {φ : Nat → Option jE} {z : Nat × Nat} {a ci k : Nat} {x : Option Nat} : pR G (jfn φ z) (some a) ci k x = (match φ a with
  | some (.inl (c, fs)) => if c = ci ∧ k < fs.length ∧ G.2.2.1 ≤ a then some (jfn (va_up φ a (some (.inl (c, fs.set k (va_rf x))))) z) else none
  | _ => none) := pV_fn
theorem pB_fn {G : jG} {φ : Nat → Option jE} {z : Nat × Nat} {a ci k : Nat} {x : Int32} : pB G (jfn φ z) (some a) ci k x = (if x = 0 ∨ x = 1 then (match φ a with
  | some (.inl (c, fs)) => if c = ci ∧ k < fs.length ∧ G.2.2.1 ≤ a then some (jfn (va_up φ a (some (.inl (c, fs.set k (.int x))))) z) else none
  | _ => none) else none) := by
  unfold pB
  rw [pV_fn]
theorem jar_fn {φ : Nat → Option jE} {z : Nat × Nat} {a : Nat} : jar (jfn φ z) (some a) = (match φ a with
  | some (.inr b) => some b
  | _ => none) := by
  unfold jar jfn
  dsimp only
  cases h : φ a with
  | none => rfl
  | some e =>
    match e with
    | .inr b => rfl
    | .inl (c, fs) => rfl
theorem sI_fn {G : jG} {φ : Nat → Option jE} {z : Nat × Nat} {a kd : Nat} {i x : Int32} : sI G (jfn φ z) (some a) kd i x = (match φ a with
  | some (.inr (.inl (k, n, f))) => if k = kd ∧ ¬ (i < 0 ∨ n ≤ i.toNatClampNeg) ∧ G.2.2.1 ≤ a then some (jfn (va_up φ a (some (.inr (.inl (k, n, upd f i.toNatClampNeg (jnar kd x)))))) z) else none
  | _ => none) := by
  unfold sI
  dsimp only
  have e : (jfn φ z).1 a = (φ a).map Sum.inl := rfl
  rw [e]
  cases h : φ a with
  | none => rfl
  | some e =>
    match e with
    | .inl (c, fs) => rfl
    | .inr (.inl (k, n, f)) =>
      dsimp only [Option.map_some]
      rw [jset_fn]
    | .inr (.inr (.inl _)) => rfl
    | .inr (.inr (.inr _)) => rfl
theorem rc_fn {φ : Nat → Option jE} {z : Nat × Nat} {a ci : Nat} : rc (jfn φ z) (some a) ci = (match φ a with
  | some (.inl (c, _)) => if c = ci then some a else none
  | _ => none) := by
  unfold rc jfn
  dsimp only
  cases h : φ a with
  | none => rfl
  | some e =>
    match e with
    | .inr b => rfl
    | .inl (c, fs) =>
      dsimp only [Option.map_some, jcls]
      by_cases hc : c = ci <;> simp [hc]
def okC (φ : Nat → Option jE) (r : Option Nat) : Bool := match r with
  | none => true
  | some a => match φ a with
    | some (.inl (c, _)) => ([1, 3, 4, 9, 10, 11, 12, 13, 14] : List Nat).contains c
    | _ => false
theorem jok_fn {φ : Nat → Option jE} {z : Nat × Nat} {r : Option Nat} : jok (jfn φ z) r = okC φ r := by
  unfold jok okC jfn
  cases r with
  | none => rfl
  | some a =>
    dsimp only
    cases h : φ a with
    | none => rfl
    | some e =>
      match e with
      | .inr b => rfl
      | .inl (c, fs) => rfl
theorem sR_fn {G : jG} {φ : Nat → Option jE} {z : Nat × Nat} {a : Nat} {i : Int32} {x : Option Nat} : sR G (jfn φ z) (some a) i x = (match φ a with
  | some (.inr (.inr (.inr (n, f)))) => if ¬ (i < 0 ∨ n ≤ i.toNatClampNeg) ∧ G.2.2.1 ≤ a ∧ okC φ x = true then some (jfn (va_up φ a (some (.inr (.inr (.inr (n, va_up f i.toNatClampNeg x)))))) z) else none
  | _ => none) := by
  unfold sR
  rw [jok_fn]
  dsimp only
  have e : (jfn φ z).1 a = (φ a).map Sum.inl := rfl
  rw [e]
  cases h : φ a with
  | none => rfl
  | some e =>
    match e with
    | .inl (c, fs) => rfl
    | .inr (.inl _) => rfl
    | .inr (.inr (.inl _)) => rfl
    | .inr (.inr (.inr (n, f))) =>
      dsimp only [Option.map_some]
      rw [jset_fn]
theorem nO_fn {φ : Nat → Option jE} {z : Nat × Nat} {ci k : Nat} {fs : List Value} : nO (jfn φ z) ci fs k = some (z.1, jfn (va_up φ z.1 (some (.inl (ci, fs)))) (z.1 + 1, z.2 + k)) := by
  unfold nO
  rw [jnew_fn]
  rfl
theorem zI_fn {φ : Nat → Option jE} {z : Nat × Nat} {kd : Nat} {n : Int32} : nI' (jfn φ z) kd n = (if ¬ n < 0 ∧ n.toNatClampNeg ≤ 65536 then some (z.1, jfn (va_up φ z.1 (some (.inr (.inl (kd, n.toNatClampNeg, fun _ => 0))))) (z.1 + 1, z.2 + n.toNatClampNeg)) else none) := by
  unfold nI'
  rw [jnew_fn]
  rfl
theorem nR_fn {φ : Nat → Option jE} {z : Nat × Nat} {n : Int32} : nR (jfn φ z) n = (if ¬ n < 0 ∧ n.toNatClampNeg ≤ 65536 then some (z.1, jfn (va_up φ z.1 (some (.inr (.inr (.inr (n.toNatClampNeg, fun _ => none)))))) (z.1 + 1, z.2 + n.toNatClampNeg)) else none) := by
  unfold nR
  rw [jnew_fn]
  rfl
theorem acB_fn {G : jG} {φ : Nat → Option jE} {z : Nat × Nat} {a b : Nat} {i j n : Int32} {n1 n2 : Nat} {f g : Nat → Int32} (ha : φ a = some (.inr (.inl (1, n1, f)))) (hb : φ b = some (.inr (.inl (1, n2, g)))) : acB G (jfn φ z) (some a) i (some b) j n = (if 1 = 1 ∧ 1 = 1 ∧ G.2.2.1 ≤ a ∧ G.2.2.1 ≤ b ∧ ¬ i < 0 ∧ ¬ j < 0 ∧ ¬ n < 0 ∧ i.toNatClampNeg + n.toNatClampNeg ≤ n1 ∧ j.toNatClampNeg + n.toNatClampNeg ≤ n2 ∧ (∀ z, z < n.toNatClampNeg → fits .byte (.int (f (i.toNatClampNeg + z))) = true) then some (jfn (va_up φ b (some (.inr (.inl (1, n2, va_cpy f g i.toNatClampNeg j.toNatClampNeg n.toNatClampNeg))))) z) else none) := by
  unfold acB
  have h1 : (jfn φ z).1 a = some (.inl (.inr (.inl (1, n1, f)))) := by unfold jfn; simp [ha]
  have h2 : (jfn φ z).1 b = some (.inl (.inr (.inl (1, n2, g)))) := by unfold jfn; simp [hb]
  simp only [h1, h2]
  rw [jset_fn]
theorem acR_fn {G : jG} {φ : Nat → Option jE} {z : Nat × Nat} {a b : Nat} {i j n : Int32} {n1 n2 : Nat} {f g : Nat → Option Nat} (ha : φ a = some (.inr (.inr (.inr (n1, f))))) (hb : φ b = some (.inr (.inr (.inr (n2, g))))) : acR G (jfn φ z) (some a) i (some b) j n = (if G.2.2.1 ≤ a ∧ G.2.2.1 ≤ b ∧ ¬ i < 0 ∧ ¬ j < 0 ∧ ¬ n < 0 ∧ i.toNatClampNeg + n.toNatClampNeg ≤ n1 ∧ j.toNatClampNeg + n.toNatClampNeg ≤ n2 ∧ (∀ z, z < n.toNatClampNeg → okC φ (f (i.toNatClampNeg + z)) = true) then some (jfn (va_up φ b (some (.inr (.inr (.inr (n2, va_cpy f g i.toNatClampNeg j.toNatClampNeg n.toNatClampNeg)))))) z) else none) := by
  unfold acR
  have h1 : (jfn φ z).1 a = some (.inl (.inr (.inr (.inr (n1, f))))) := by unfold jfn; simp [ha]
  have h2 : (jfn φ z).1 b = some (.inl (.inr (.inr (.inr (n2, g))))) := by unfold jfn; simp [hb]
  simp only [h1, h2, jok_fn]
  rw [jset_fn]
theorem gC_fn {G : jG} {φ : Nat → Option jE} {z : Nat × Nat} {a : Nat} : gC G (jfn φ z) (some a) = (match φ a with
  | some (.inr (.inr (.inr _))) => if G.2.2.1 ≤ a then some () else none
  | _ => none) := by
  unfold gC jfn
  dsimp only
  cases h : φ a with
  | none => rfl
  | some e =>
    match e with
    | .inl (c, fs) => rfl
    | .inr (.inl _) => rfl
    | .inr (.inr (.inl _)) => rfl
    | .inr (.inr (.inr (n, f))) => rfl
theorem gB_fn {G : jG} {φ : Nat → Option jE} {z : Nat × Nat} {a : Nat} : gB G (jfn φ z) (some a) = (match φ a with
  | some (.inr (.inl (k, _, _))) => if k = 1 ∧ G.2.2.1 ≤ a then some () else none
  | _ => none) := by
  unfold gB jfn
  dsimp only
  cases h : φ a with
  | none => rfl
  | some e =>
    match e with
    | .inl (c, fs) => rfl
    | .inr (.inl _) => rfl
    | .inr (.inr (.inl _)) => rfl
    | .inr (.inr (.inr (n, f))) => rfl
theorem jIs_fn {φ : Nat → Option jE} {z : Nat × Nat} {a ci : Nat} : jIs (jfn φ z) (some a) ci = (match φ a with
  | some (.inl (c, _)) => if c = ci then some 1 else none
  | _ => none) := by
  unfold jIs jfn
  dsimp only
  cases h : φ a with
  | none => rfl
  | some e =>
    match e with
    | .inr b => rfl
    | .inl (c, fs) =>
      dsimp only [Option.map_some, jcls]
      by_cases hc : c = ci <;> simp [hc]
theorem jckc_fn {φ : Nat → Option jE} {z : Nat × Nat} {a : Nat} {cs : List Nat} : jck' (jfn φ z) (some a) cs = (match φ a with
  | some (.inl (c, _)) => if cs.contains c = true then some () else none
  | _ => none) := by
  unfold jck' jfn
  dsimp only
  cases h : φ a with
  | none => rfl
  | some e =>
    match e with
    | .inr b => rfl
    | .inl (c, fs) => rfl
theorem jck_fn {β : Type} {φ ψ : Nat → Option jE} {z y : Nat × Nat} {v : β} : jck (jfn φ z) (some (v, jfn ψ y)) = if z.1 ≤ y.1 ∧ z.2 ≤ y.2 then some (v, jfn ψ y) else none := rfl
theorem jfn_2 {φ : Nat → Option jE} {z : Nat × Nat} : (jfn φ z).2 = z := rfl
/-! Int32 numbers that are naturals -/
theorem zI_inj {a b : Nat} (ha : a < 2 ^ 31) (hb : b < 2 ^ 31) : nI a = nI b ↔ a = b := by
  constructor
  · intro h
    have h1 := congrArg Int32.toInt h
    unfold nI at h1
    rw [Int32.toInt_ofNat_of_lt ha, Int32.toInt_ofNat_of_lt hb] at h1
    omega
  · rintro rfl; rfl
theorem zI_toInt {a : Nat} (ha : a < 2 ^ 31) : (nI a).toInt = a := Int32.toInt_ofNat_of_lt ha
theorem zI_le {a b : Nat} (ha : a < 2 ^ 31) (hb : b < 2 ^ 31) : nI a ≤ nI b ↔ a ≤ b := by
  rw [Int32.le_iff_toInt_le, zI_toInt ha, zI_toInt hb]; omega
theorem zI_lt {a b : Nat} (ha : a < 2 ^ 31) (hb : b < 2 ^ 31) : nI a < nI b ↔ a < b := by
  rw [Int32.lt_iff_toInt_lt, zI_toInt ha, zI_toInt hb]; omega
theorem zI_clamp {a : Nat} (ha : a < 2 ^ 31) : (nI a).toNatClampNeg = a := by
  show (nI a).toInt.toNat = a
  rw [zI_toInt ha]; rfl
theorem zI_add (a b : Nat) : nI a + nI b = nI (a + b) := (Int32.ofNat_add a b).symm
theorem zI_add1 (a : Nat) : nI a + 1 = nI (a + 1) := (Int32.ofNat_add a 1).symm
theorem zI_one : (1 : Int32) = nI 1 := rfl
theorem zI_zero : (0 : Int32) = nI 0 := rfl
theorem zI_sub {a b : Nat} (h : b ≤ a) : nI a - nI b = nI (a - b) := by
  have h1 : nI a = nI (a - b) + nI b := by rw [zI_add]; congr 1; omega
  rw [h1]
  exact Int32.add_sub_cancel _ _
theorem zI_neg {a : Nat} (ha : a < 2 ^ 31) : ¬ nI a < 0 := by
  rw [zI_zero, zI_lt ha (by omega)]; omega
theorem zI_of {i : Int32} (h : ¬ i < 0) : ∃ k : Nat, k < 2 ^ 31 ∧ i = nI k ∧ i.toNatClampNeg = k := by
  have h0 : (0 : Int) ≤ i.toInt := by
    have := Int32.not_lt.mp h
    simpa using Int32.le_iff_toInt_le.mp this
  have h1 : i.toInt < 2 ^ 31 := Int32.toInt_lt i
  refine ⟨i.toInt.toNat, by omega, ?_, rfl⟩
  apply Int32.toInt_inj.mp
  rw [zI_toInt (by omega)]
  omega
/-! what coarse cells stand for -/
theorem jSh_head {G : jG} {gh : jGh} {a : Nat} {c : jC} {ps : List (Nat × jE)} (h : jSh G gh a c ps) : ∃ e, (a, e) ∈ ps := by
  unfold jSh at h
  split at h
  · obtain ⟨_, _, _, rfl, -⟩ := h; exact ⟨_, List.mem_cons_self⟩
  · obtain ⟨-, -, -, rfl⟩ := h; exact ⟨_, List.mem_cons_self⟩
  · obtain ⟨_, _, _, rfl, -⟩ := h; exact ⟨_, List.mem_cons_self⟩
  · obtain ⟨_, _, _, rfl, -⟩ := h; exact ⟨_, List.mem_cons_self⟩
  · obtain ⟨_, _, _, _, rfl, -⟩ := h; exact ⟨_, List.mem_cons_self⟩
  · obtain ⟨_, rfl, -⟩ := h; exact ⟨_, List.mem_cons_self⟩
  · exact h.elim
theorem jSh_gh {G : jG} {gh gh' : jGh} {a : Nat} {c : jC} {ps : List (Nat × jE)} (h : jSh G gh a c ps) (h1 : gh' a = gh a) (h2 : ∀ b r, c = (5, [some b], r) → gh' b = gh b) : jSh G gh' a c ps := by
  unfold jSh at h ⊢
  split at h
  · exact h
  · rw [h1]; exact h
  · exact h
  · exact h
  · exact h
  · next b i x1 x2 =>
    rw [h2 b _ rfl]
    exact h
  · exact h.elim
theorem jRel.mono {G : jG} {h : Nat → Option jX} {φ φ' : Nat → Option jE} (hr : jRel G h φ) (hl : ∀ a e, φ a = some e → φ' a = some e) : jRel G h φ' := by
  obtain ⟨ow, gh, hr⟩ := hr
  refine ⟨ow, gh, fun a x hx => ?_⟩
  have h1 := hr a x hx
  match x, h1 with
  | .inl e, h1 => exact ⟨hl _ _ h1.1, h1.2⟩
  | .inr c, h1 =>
    obtain ⟨h2, ps, h3, h4⟩ := h1
    exact ⟨h2, ps, fun y hy => ⟨hl _ _ (h3 y hy).1, (h3 y hy).2⟩, h4⟩
/-- one coarse cell changes, or is made -/
theorem jRelW.upd {G : jG} {gh gh' : jGh} {ow : Nat → Nat} {h h' : Nat → Option jX} {φ φ' : Nat → Option jE} {a : Nat} {c' : jC} {ps : List (Nat × jE)} (hr : jRelW G gh ow h φ) (ha : φ a = none ∨ ow a = a) (hn : G.2.2.1 ≤ a)
    (hh : ∀ b x, b ≠ a → h' b = some x → h b = some x ∧ ∀ r, x = .inr (5, [some a], r) → gh' a = gh a) (hh2 : h' a = some (.inr c')) (hgh : ∀ b, b ≠ a → gh' b = gh b)
    (hφ : ∀ b e, φ b = some e → (b < G.2.2.1 ∨ ow b ≠ a) → φ' b = some e)
    (hps : ∀ x ∈ ps, φ' x.1 = some x.2 ∧ (x.1 < G.2.2.1 ∨ φ x.1 = none ∨ ow x.1 = a)) (hsh : jSh G gh' a c' ps) : jRel G h' φ' := by
  refine ⟨fun b => if φ b = none then a else ow b, gh', fun b x hx => ?_⟩
  have hk : ∀ b e, φ b = some e → (if φ b = none then a else ow b) = ow b := fun b e he => by rw [if_neg (by rw [he]; exact fun q => by cases q)]
  by_cases hb : b = a
  · subst hb
    rw [hh2] at hx
    cases hx
    refine ⟨?_, ps, fun y hy => ⟨(hps y hy).1, ?_⟩, hsh⟩
    · rcases ha with ha | ha
      · simp [ha]
      · simp [ha]
    · rcases (hps y hy).2 with q | q | q
      · exact Or.inl q
      · exact Or.inr ⟨hn, by simp [q]⟩
      · exact Or.inr ⟨hn, by simp [q]⟩
  · obtain ⟨hx1, hx2⟩ := hh b x hb hx
    have h1 := hr b x hx1
    match x, h1, hx2 with
    | .inl e, h1, _ => exact ⟨hφ b e h1.1 (Or.inr (by rw [h1.2]; exact hb)), (hk b e h1.1).trans h1.2⟩
    | .inr c, h1, hx2 =>
      obtain ⟨h2, qs, h3, h4⟩ := h1
      obtain ⟨e0, he0⟩ := jSh_head h4
      refine ⟨(hk b e0 (h3 _ he0).1).trans h2, qs, fun y hy => ⟨hφ _ _ (h3 y hy).1 ?_, ?_⟩, jSh_gh h4 (hgh b hb) (fun b' r hc => ?_)⟩
      · rcases (h3 y hy).2 with q | ⟨-, q⟩
        · exact Or.inl q
        · exact Or.inr (by rw [q]; exact hb)
      · rcases (h3 y hy).2 with q | ⟨q1, q⟩
        · exact Or.inl q
        · exact Or.inr ⟨q1, (hk _ _ (h3 y hy).1).trans q⟩
      · by_cases hb' : b' = a
        · subst hb'; exact hx2 r (by rw [hc])
        · exact hgh b' hb'
theorem cP_hh {gh gh' : jGh} {σ : jH} {a : Nat} {c : jC} : ∀ b x, b ≠ a → (cP σ a c).1 b = some x → σ.1 b = some x ∧ ∀ r, x = .inr (5, [some a], r) → gh' a = gh a := by
  intro b x hb hx
  unfold cP at hx
  simp only [if_neg hb] at hx
  split at hx
  · next a' i ha' =>
    by_cases haa : a' = a
    · rw [if_pos haa] at hx; cases hx
    · rw [if_neg haa] at hx
      refine ⟨by rw [ha']; exact hx, fun r hr => ?_⟩
      cases hx
      cases hr
      exact absurd rfl haa
  · next y hy1 =>
    refine ⟨hx, fun r hr => ?_⟩
    subst hr
    exact (hy1 _ _ hx).elim
theorem cP_a {σ : jH} {a : Nat} {c : jC} : (cP σ a c).1 a = some (.inr c) := by
  unfold cP
  simp
