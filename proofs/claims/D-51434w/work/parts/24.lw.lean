/-! the reference, called on a heap: its state is read off the heap -/
set_option maxRecDepth 100000
noncomputable def mAd (σ : jH) (mo : Nat) : Nat → Nat := fun k => match gR σ (some mo) 5 k with
  | some (some a) => a
  | _ => 0
noncomputable def mM (σ : jH) (mo : Nat) : jM := (fun k => if k ∈ mks then (match σ.1 (mAd σ mo k) with
  | some (.inl (.inr (.inl (_, _, f)))) => f
  | _ => fun _ => 0) else fun _ => 0, fun k => if k ∈ mns then (gI σ (some mo) 5 k).getD 0 else 0)
def mIs (G : jG) (σ : jH) (mo : Nat) : Prop := σ = mH mo (mAd σ mo) σ (mM σ mo) ∧ mOK G mo (mAd σ mo) ∧ jKS G σ
noncomputable def mcall {β : Type} (G : jG) (σ : jH) (mo : Nat) (f : jM → Option (β × jM)) : Option (β × jH) := @ite _ (mIs G σ mo) (Classical.propDecidable _) (mup mo (mAd σ mo) σ (f (mM σ mo))) none
noncomputable def mcr {β : Type} (G : jG) (σ : jH) (mo : Nat) (f : jM → Option β) : Option β := @ite _ (mIs G σ mo) (Classical.propDecidable _) (f (mM σ mo)) none
theorem jmcw {l : Launch} {G : jG} {y : MethodName} {ws : List Cond} {F L mo : Nat} {β : Type} {ret : β → Option Value} {av : List Value} {σ : jH} {f : jM → Option (β × jM)} (h : ∀ (A : Nat → Nat), mOK G mo A → ∀ σ' : jH, jKS G σ' → ∀ M : jM, jCt l G y ws F L ret av (mH mo A σ' M) (mup mo A σ' (f M))) : jCt l G y ws F L ret av σ (mcall G σ mo f) := by
  unfold mcall
  split
  · next h9 =>
    have K := h (mAd σ mo) h9.2.1 σ h9.2.2 (mM σ mo)
    rw [← h9.1] at K
    exact K
  · intro rs ho
    cases ho
theorem jmcr {l : Launch} {G : jG} {y : MethodName} {ws : List Cond} {F L mo : Nat} {β : Type} {ret : β → Option Value} {av : List Value} {σ : jH} {f : jM → Option β} (h : ∀ (A : Nat → Nat), mOK G mo A → ∀ σ' : jH, jKS G σ' → ∀ M : jM, jCt l G y ws F L ret av (mH mo A σ' M) (jrd (mH mo A σ' M) (f M))) : jCt l G y ws F L ret av σ (jrd σ (mcr G σ mo f)) := by
  unfold mcr
  split
  · next h9 =>
    have K := h (mAd σ mo) h9.2.1 σ h9.2.2 (mM σ mo)
    rw [← h9.1] at K
    exact K
  · intro rs ho
    cases ho
