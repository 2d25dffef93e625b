/-! OPEN AND CLOSE: contracts over coarse cells out of the fine functions' -/
set_option maxRecDepth 100000
theorem Met.room {l : Launch} {y : MethodName} {ws : List Cond} {F L F' L' c k : Nat} {Pc : Array Value → State → Prop} {Qc : Array Value → State → Outcome → State → Prop} {mc ms : Nat} {free : Addr → Prop} (hF : F ≤ F') (hL : L ≤ L') (h : Met l y ws ({ frames := F, cells := c, slots := k, locals := L } : Room) Pc Qc mc ms free) : Met l y ws ({ frames := F', cells := c, slots := k, locals := L' } : Room) Pc Qc mc ms free := by
  intro p e ha hc hk s m args below hf hs hP hK
  refine h p e ha hc hk s m args below hf ?_ hP hK
  rw [Spec.appliesLoose_iff hf] at hs ⊢
  obtain ⟨h1, h2, h3, h4, h5, h6, h7, h8⟩ := hs
  refine ⟨h1, h2, h3, h4, h5, h6, ?_, h8⟩
  have h7' : s.hasRoom e.platform ({ frames := F', cells := c, slots := k, locals := L' } : Room) = true := h7
  show s.hasRoom e.platform ({ frames := F, cells := c, slots := k, locals := L } : Room) = true
  clear h7
  simp only [State.hasRoom, Bool.and_eq_true, decide_eq_true_eq] at h7' ⊢
  obtain ⟨⟨⟨⟨p1, p2, p3, p4, p5, p6⟩, p7⟩, p8⟩, p9⟩ := h7'
  exact ⟨⟨⟨⟨by omega, by omega, by omega, by omega, by omega, p6⟩, p7⟩, p8⟩, p9⟩
theorem jSt.opn {G : jG} {σ : jH} {U : State} (h : jSt G σ U) : ∃ φ, jRel G σ.1 φ ∧ (∀ b, σ.2.1 ≤ b → φ b = none) ∧ G.2.2.1 ≤ σ.2.1 ∧ jSt G (jfn φ σ.2) U := by
  obtain ⟨hG, ⟨φ, ws, h1, h2, h3, h4⟩, h5, h6⟩ := h
  refine ⟨φ, h1, fun b hb => ?_, by rw [← h5]; exact h6, hG, ⟨φ, ws, ⟨fun b => b, fun _ => ([], 0), fun b x hx => ?_⟩, h2, h3, h4⟩, h5, h6⟩
  · cases hφ : φ b with
    | none => rfl
    | some e =>
      have := jIn.lt (h := σ.1) h2 h3 h6 hφ
      rw [h5] at this
      omega
  · have hx' : (φ b).map (Sum.inl (β := jC)) = some x := hx
    obtain ⟨e, he, rfl⟩ := Option.map_eq_some_iff.mp hx'
    exact ⟨he, rfl⟩
theorem jSt.close {G : jG} {φ : Nat → Option jE} {ρ : jH} {t : State} (h : jSt G (jfn φ ρ.2) t) (hr : jRel G ρ.1 φ) : jSt G ρ t := by
  obtain ⟨hG, ⟨φ', ws, ⟨ow, gh, h1⟩, h2, h3, h4⟩, h5, h6⟩ := h
  refine ⟨hG, ⟨φ', ws, hr.mono (fun b e he => ?_), h2, h3, h4⟩, h5, h6⟩
  have hx : (jfn φ ρ.2).1 b = some (.inl e) := by
    show (φ b).map (Sum.inl (β := jC)) = _
    rw [he]
    rfl
  exact (h1 b _ hx).1
/-- a writer -/
theorem jCt.opw {l : Launch} {G : jG} {y : MethodName} {ws : List Cond} {F L F' L' : Nat} {β : Type} {ret : β → Option Value} {av : List Value} {σ : jH} {o : Option (β × jH)} {f : Nat → jH → Option (β × jH)} (hF : F ≤ F') (hL : L ≤ L') (K : ∀ (n : Nat) (τ : jH), jCt l G y ws F L ret av τ (f n τ))
    (h : ∀ v σ', o = some (v, σ') → ∀ φ, jRel G σ.1 φ → (∀ b, σ.2.1 ≤ b → φ b = none) → G.2.2.1 ≤ σ.2.1 → ∃ n φ', f n (jfn φ σ.2) = some (v, jfn φ' σ'.2) ∧ jRel G σ'.1 φ') : jCt l G y ws F' L' ret av σ (jck σ o) := by
  intro rs ho
  obtain ⟨h1, h2⟩ := jck_some ho
  refine ⟨h2, Met.room hF hL ?_⟩
  intro p e ha hc hk s m args below hf hs hP hK
  obtain ⟨hP0, hst⟩ := hP
  obtain ⟨φ, q1, q2, q3, q4⟩ := jSt.opn hst
  obtain ⟨n, φ', k1, k2⟩ := h rs.1 rs.2 h1 φ q1 q2 q3
  obtain ⟨n9, o9, a1, a2, a3, a4, a5⟩ := (K n (jfn φ σ.2) _ k1).2 p e ha hc hk s m args below hf hs ⟨hP0, q4⟩ hK
  exact ⟨n9, o9, a1, a2, a3, ⟨a4.1, jSt.close a4.2.1 k2, a4.2.2⟩, a5⟩
/-- a reader -/
theorem jCt.opr {l : Launch} {G : jG} {y : MethodName} {ws : List Cond} {F L F' L' : Nat} {β : Type} {ret : β → Option Value} {av : List Value} {σ : jH} {o : Option β} {f : Nat → jH → Option β} (hF : F ≤ F') (hL : L ≤ L') (K : ∀ (n : Nat) (τ : jH), jCt l G y ws F L ret av τ (jrd τ (f n τ)))
    (h : ∀ v, o = some v → ∀ φ, jRel G σ.1 φ → ∃ n, f n (jfn φ σ.2) = some v) : jCt l G y ws F' L' ret av σ (jrd σ o) := by
  intro rs ho
  obtain ⟨v, hv, rfl⟩ := Option.map_eq_some_iff.mp ho
  refine ⟨jLe.rf, Met.room hF hL ?_⟩
  intro p e ha hc hk s m args below hf hs hP hK
  obtain ⟨hP0, hst⟩ := hP
  obtain ⟨φ, q1, q2, q3, q4⟩ := jSt.opn hst
  obtain ⟨n, k1⟩ := h v hv φ q1
  obtain ⟨n9, o9, a1, a2, a3, a4, a5⟩ := (K n (jfn φ σ.2) (v, jfn φ σ.2) (by unfold jrd; rw [k1]; rfl)).2 p e ha hc hk s m args below hf hs ⟨hP0, q4⟩ hK
  exact ⟨n9, o9, a1, a2, a3, ⟨a4.1, jSt.close a4.2.1 q1, a4.2.2⟩, a5⟩
