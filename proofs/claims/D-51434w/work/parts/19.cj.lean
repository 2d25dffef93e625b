/-! what the JDK's methods do to coarse cells; as functions -/
set_option maxRecDepth 100000
def cG (σ : jH) (a : Nat) : Option jC := match σ.1 a with
  | some (.inr c) => some c
  | _ => none
/-- a list changes: iterators over it are no more -/
def cP (σ : jH) (a : Nat) (c : jC) : jH := (fun b => if b = a then some (.inr c) else match σ.1 b with
  | some (.inr (5, [some a'], i)) => if a' = a then none else some (.inr (5, [some a'], i))
  | x => x, σ.2)
def cM (σ : jH) (k s : Nat) : jH := (σ.1, σ.2.1 + k, σ.2.2 + s)
def cW (G : jG) (σ : jH) (a : Nat) : Option jC := if G.2.2.1 ≤ a then cG σ a else none
def isO (G : jG) (σ : jH) (a ci : Nat) (fs : List Value) : Bool := match σ.1 a with
  | some (.inl (.inl (c, gs))) => decide (c = ci ∧ gs = fs ∧ G.2.2.1 ≤ a)
  | _ => false
def cRs (σ : jH) (k a : Nat) : Option (List (Option Nat)) := match cG σ a with
  | some (k', rs, _) => if k' = k then some rs else none
  | none => none
def inR (i : Int32) (n : Nat) : Bool := decide (¬ (i < 0 ∨ n ≤ i.toNatClampNeg))
/-- constant rows: the empty row of ArrayList, the digits' tables, CharacterDataLatin1 -/
def zA (G : jG) (σ : jH) : Bool := match G.2.2.2 104 with
  | none => false
  | some d => match σ.1 d with
    | some (.inl (.inr (.inr (.inr (n, _))))) => decide (n = 0 ∧ d < G.2.2.1)
    | _ => false
def dT (G : jG) (σ : jH) (i n lo hi : Nat) (F : Nat → Int32) : Bool := match G.2.2.2 i with
  | none => false
  | some d => match σ.1 d with
    | some (.inl (.inr (.inl (k, m, f)))) => decide (k = 1 ∧ m = n ∧ ∀ z, z < hi → lo ≤ z → f z = F z)
    | _ => false
def dOnes (z : Nat) : Int32 := nI (48 + z % 10)
def dTens (z : Nat) : Int32 := nI (48 + z / 10)
def dDig (z : Nat) : Int32 := nI (z - 48)
/-- lists: 0 ArrayList, 1 LinkedList -/
def lSize (k : Nat) (σ : jH) (a : Nat) : Option Int32 := (cRs σ k a).map fun rs => nI rs.length
def lEmpty (k : Nat) (σ : jH) (a : Nat) : Option Int32 := (cRs σ k a).map fun rs => if rs.length = 0 then 1 else 0
def lGet (k : Nat) (σ : jH) (a : Nat) (i : Int32) : Option (Option Nat) := (cRs σ k a).bind fun rs => if inR i rs.length then rs[i.toNatClampNeg]? else none
def alSet (G : jG) (σ : jH) (a : Nat) (i : Int32) (x : Option Nat) : Option (Option Nat × jH) := match cW G σ a with
  | some (0, rs, is, cap, d) => if inR i rs.length ∧ jok σ x = true then (rs[i.toNatClampNeg]?).map fun old => (old, cP σ a (0, rs.set i.toNatClampNeg x, is, cap, d)) else none
  | _ => none
def alCap (n cap d : Nat) : Nat := if n < cap then cap else if d = 1 then 10 else cap + max 1 (cap / 2)
def alGrow (σ : jH) (n cap d : Nat) : jH := if n < cap then σ else cM σ 1 (alCap n cap d)
def alIns (G : jG) (σ : jH) (a i : Nat) (x : Option Nat) : Option jH := match cW G σ a with
  | some (0, rs, is, cap, d) => if rs.length < 60000 ∧ cap < 40000 ∧ jok σ x = true ∧ rs.all (jok σ) = true then some (alGrow (cP σ a (0, rs.insertIdx i x, is, alCap rs.length cap d, if rs.length < cap then d else 0)) rs.length cap d) else none
  | _ => none
def alAdd (G : jG) (σ : jH) (a : Nat) (x : Option Nat) : Option (Int32 × jH) := (cRs σ 0 a).bind fun rs => (alIns G σ a rs.length x).map fun σ' => (1, σ')
def alAddI (G : jG) (σ : jH) (a : Nat) (i : Int32) (x : Option Nat) : Option (Unit × jH) := (cRs σ 0 a).bind fun rs => if inR i (rs.length + 1) then (alIns G σ a i.toNatClampNeg x).map fun σ' => ((), σ') else none
def alRem (G : jG) (σ : jH) (a : Nat) (i : Int32) : Option (Option Nat × jH) := match cW G σ a with
  | some (0, rs, is, cap, d) => if inR i rs.length ∧ rs.all (jok σ) = true then (rs[i.toNatClampNeg]?).map fun old => (old, cP σ a (0, rs.eraseIdx i.toNatClampNeg, is, cap, d)) else none
  | _ => none
def alInit (G : jG) (σ : jH) (a : Nat) : Option (Unit × jH) := if isO G σ a 15 [.int 0, .null, .int 0] = true ∧ zA G σ = true then some ((), cP σ a (0, [], [], 0, 1)) else none
def alInitI (G : jG) (σ : jH) (a : Nat) (n : Int32) : Option (Unit × jH) := if isO G σ a 15 [.int 0, .null, .int 0] = true ∧ 0 < n ∧ n.toNatClampNeg ≤ 60000 then some ((), cM (cP σ a (0, [], [], n.toNatClampNeg, 0)) 1 n.toNatClampNeg) else none
def llInit (G : jG) (σ : jH) (a : Nat) : Option (Unit × jH) := if isO G σ a 16 [.int 0, .int 0, .null, .null] = true then some ((), cP σ a (1, [], [], 0, 0)) else none
def llAdd (G : jG) (σ : jH) (a : Nat) (x : Option Nat) : Option (Int32 × jH) := (cRs σ 1 a).bind fun rs => if rs.length < 60000 ∧ G.2.2.1 ≤ a then some (1, cM (cP σ a (1, rs ++ [x], [], 0, 0)) 1 3) else none
def llClear (G : jG) (σ : jH) (a : Nat) : Option (Unit × jH) := (cRs σ 1 a).bind fun _ => if G.2.2.1 ≤ a then some ((), cP σ a (1, [], [], 0, 0)) else none
def llHas (σ : jH) (a : Nat) (x : Option Nat) : Option Int32 := (rc σ x 4).bind fun b => (cRs σ 1 a).map fun rs => if rs.contains (some b) then 1 else 0
def llIter (σ : jH) (a : Nat) : Option (Option Nat × jH) := (cRs σ 1 a).map fun _ => (some σ.2.1, (va_up σ.1 σ.2.1 (some (.inr (5, [some a], [0], 0, 0))), σ.2.1 + 1, σ.2.2 + 5))
def itGet (σ : jH) (b : Nat) : Option (Nat × Int32 × List (Option Nat)) := match cG σ b with
  | some (5, [some a], [i], _) => (cRs σ 1 a).map fun rs => (a, i, rs)
  | _ => none
def itHas (σ : jH) (b : Nat) : Option Int32 := (itGet σ b).map fun q => if inR q.2.1 q.2.2.length then 1 else 0
def itNext (G : jG) (σ : jH) (b : Nat) : Option (Option Nat × jH) := (itGet σ b).bind fun q => if inR q.2.1 q.2.2.length ∧ G.2.2.1 ≤ b then (q.2.2[q.2.1.toNatClampNeg]?).map fun x => (x, (va_up σ.1 b (some (.inr (5, [some q.1], [q.2.1 + 1], 0, 0))), σ.2)) else none
/-- deques -/
def dqInit (G : jG) (σ : jH) (a : Nat) : Option (Unit × jH) := if isO G σ a 18 [.null, .int 0, .int 0] = true then some ((), cM (cP σ a (2, [], [], 17, 0)) 1 17) else none
def dqSize (σ : jH) (a : Nat) : Option Int32 := (cRs σ 2 a).map fun rs => nI rs.length
def dqEmpty (σ : jH) (a : Nat) : Option Int32 := (cRs σ 2 a).map fun rs => if rs.length = 0 then 1 else 0
def dqAdd (G : jG) (σ : jH) (a : Nat) (x : Option Nat) : Option (Unit × jH) := match cW G σ a with
  | some (2, rs, is, cap, d) => if rs.length + 1 < cap ∧ x ≠ none ∧ jok σ x = true then some ((), cP σ a (2, rs ++ [x], is, cap, d)) else none
  | _ => none
def dqFirst (G : jG) (σ : jH) (a : Nat) : Option (Option Nat × jH) := match cW G σ a with
  | some (2, x :: rs, is, cap, d) => some (x, cP σ a (2, rs, is, cap, d))
  | _ => none
def dqLast (G : jG) (σ : jH) (a : Nat) : Option (Option Nat × jH) := match cW G σ a with
  | some (2, rs, is, cap, d) => rs.getLast?.map fun x => (x, cP σ a (2, rs.dropLast, is, cap, d))
  | _ => none
def dqClear (G : jG) (σ : jH) (a : Nat) : Option (Unit × jH) := match cW G σ a with
  | some (2, _, is, cap, d) => some ((), cP σ a (2, [], is, cap, d))
  | _ => none
/-- builders -/
def sbInit (G : jG) (σ : jH) (a : Nat) : Option (Unit × jH) := if isO G σ a 20 [.null, .int 0, .int 0, .int 0] = true then some ((), cM (cP σ a (3, [], [], 16, 0)) 1 16) else none
def sbCap (need cap : Nat) : Nat := if need ≤ cap then cap else cap + max (need - cap) (cap + 2)
def sbApp (G : jG) (σ : jH) (a : Nat) (ys : List Int32) : Option jH := match cW G σ a with
  | some (3, rs, xs, cap, d) => if xs.length + ys.length < 30000 ∧ cap < 30000 then some (if xs.length + ys.length ≤ cap then cP σ a (3, rs, xs ++ ys, cap, d) else cM (cP σ a (3, rs, xs ++ ys, sbCap (xs.length + ys.length) cap, d)) 1 (sbCap (xs.length + ys.length) cap)) else none
  | _ => none
def sbAppC (G : jG) (σ : jH) (a : Nat) (x : Int32) : Option (Option Nat × jH) := if 0 ≤ x ∧ x < 128 then (sbApp G σ a [x]).map fun σ' => (some a, σ') else none
/-- decimal text -/
def decTxt (n : Nat) : List Int32 := if n < 10 then [nI (48 + n)] else [nI (48 + n / 10), nI (48 + n % 10)]
def intTxt (x : Int32) : List Int32 := decTxt x.toNatClampNeg
def sbAppI (G : jG) (σ : jH) (a : Nat) (x : Int32) : Option (Option Nat × jH) := if dT G σ 100 100 0 100 dOnes = true ∧ dT G σ 101 100 0 100 dTens = true ∧ ¬ x < 0 ∧ x < 100 then (sbApp G σ a (intTxt x)).map fun σ' => (some a, σ') else none
def sbTxt (σ : jH) (a : Nat) : Option (List Int32) := match cG σ a with
  | some (3, _, xs, _) => some xs
  | _ => none
def sbLen (σ : jH) (a : Nat) : Option Int32 := (sbTxt σ a).map fun xs => nI xs.length
def sbChr (σ : jH) (a : Nat) (i : Int32) : Option Int32 := (sbTxt σ a).bind fun xs => if inR i xs.length then xs[i.toNatClampNeg]? else none
def sbSet (G : jG) (σ : jH) (a : Nat) (n : Int32) : Option (Unit × jH) := match cW G σ a with
  | some (3, rs, xs, cap, d) => if ¬ n < 0 ∧ n.toNatClampNeg ≤ xs.length then some ((), cP σ a (3, rs, xs.take n.toNatClampNeg, cap, d)) else none
  | _ => none
def sbStr (σ : jH) (a : Nat) : Option (Option Nat × jH) := match cG σ a with
  | some (3, _, xs, cap, _) => if xs.length = 0 ∨ xs.length = cap ∨ 60000 < xs.length then none else some (some σ.2.1, (va_up σ.1 σ.2.1 (some (.inr (4, [], xs, 0, 0))), σ.2.1 + 2, σ.2.2 + 4 + xs.length))
  | _ => none
/-- Strings -/
def stTxt (σ : jH) (a : Nat) : Option (List Int32) := match cG σ a with
  | some (4, _, xs, _) => some xs
  | _ => none
def stEq (σ : jH) (a : Nat) (r : Option Nat) : Option Int32 := r.bind fun b => (stTxt σ a).bind fun xs => (stTxt σ b).map fun ys => if xs = ys then 1 else 0
def stHash (G : jG) (σ : jH) (a : Nat) : Option (Int32 × jH) := if G.2.2.1 ≤ a then (stTxt σ a).map fun xs => (xs.foldl (fun h x => 31 * h + x) 0, σ) else none
/-- digits alone -/
def stInt (G : jG) (σ : jH) (r : Option Nat) : Option Int32 := r.bind fun a => (stTxt σ a).bind fun xs => if dT G σ 102 256 48 58 dDig = true ∧ G.2.2.2 103 ≠ none ∧ 0 < xs.length ∧ xs.length ≤ 8 ∧ xs.all (fun x => decide (48 ≤ x ∧ x ≤ 57)) = true then some (xs.foldl (fun h x => 10 * h + (x - 48)) 0) else none
/-- int rows copied from one to another -/
def acI (G : jG) (σ : jH) (r : Option Nat) (i : Int32) (r2 : Option Nat) (j n : Int32) : Option jH := match r, r2 with
  | some a, some b => match σ.1 a, σ.1 b with
    | some (.inl (.inr (.inl (k1, n1, f)))), some (.inl (.inr (.inl (k2, n2, g)))) => if k1 = 0 ∧ k2 = 0 ∧ G.2.2.1 ≤ a ∧ G.2.2.1 ≤ b ∧ ¬ i < 0 ∧ ¬ j < 0 ∧ ¬ n < 0 ∧ i.toNatClampNeg + n.toNatClampNeg ≤ n1 ∧ j.toNatClampNeg + n.toNatClampNeg ≤ n2 then some (jset σ b (jI 0 n2 (va_cpy f g i.toNatClampNeg j.toNatClampNeg n.toNatClampNeg))) else none
    | _, _ => none
  | _, _ => none
theorem acI_some {G : jG} {σ σ2 : jH} {r r2 : Option Nat} {i j n : Int32} (h : acI G σ r i r2 j n = some σ2) : ∃ (a b n1 n2 : Nat) (f g : Nat → Int32), r = some a ∧ r2 = some b ∧ σ.1 a = some (jI 0 n1 f) ∧ σ.1 b = some (jI 0 n2 g) ∧ G.2.2.1 ≤ a ∧ G.2.2.1 ≤ b ∧ ¬ i < 0 ∧ ¬ j < 0 ∧ ¬ n < 0 ∧ i.toNatClampNeg + n.toNatClampNeg ≤ n1 ∧ j.toNatClampNeg + n.toNatClampNeg ≤ n2 ∧ σ2 = jset σ b (jI 0 n2 (va_cpy f g i.toNatClampNeg j.toNatClampNeg n.toNatClampNeg)) := by
  unfold acI at h
  split at h
  · next a b =>
    split at h
    · next k1 n1 f k2 n2 g ha hb =>
      split at h
      · next hc =>
        obtain ⟨rfl, rfl, h1, h2, h3, h4, h5, h6, h7⟩ := hc
        exact ⟨a, b, n1, n2, f, g, rfl, rfl, ha, hb, h1, h2, h3, h4, h5, h6, h7, (Option.some.inj h).symm⟩
      · cases h
    · cases h
  · cases h
