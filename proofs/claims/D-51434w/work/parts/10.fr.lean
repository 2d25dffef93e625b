/-! THE FRAME: abstract heaps, the relation to the machine's heap, and J, the judgement of a walk against a function of abstract heaps -/
set_option maxRecDepth 100000
abbrev jF : Type := Nat × List Value
abbrev jB : Type := (Nat × Nat × (Nat → Int32)) ⊕ ((Nat × (Nat → Int64)) ⊕ (Nat × (Nat → Option Nat)))
/-- fine cells: objects; int-like arrays (kind, length, contents); long arrays; arrays of objects -/
abbrev jE : Type := jF ⊕ jB
/-- coarse cells: a kind, references, numbers, two naturals -/
abbrev jC : Type := Nat × List (Option Nat) × List Int32 × Nat × Nat
abbrev jX : Type := jE ⊕ jC
/-- an abstract heap: cells, how many addresses are in use, how many slots were made -/
abbrev jH : Type := (Nat → Option jX) × Nat × Nat
/-- class numbers and slots; array classes; where the law's own cells begin; constants -/
abbrev jG : Type := va_G × (Nat → ClassId) × Nat × (Nat → Option Nat)
abbrev jO (c : Nat) (fs : List Value) : jX := .inl (.inl (c, fs))
abbrev jI (k n : Nat) (f : Nat → Int32) : jX := .inl (.inr (.inl (k, n, f)))
abbrev jL (n : Nat) (f : Nat → Int64) : jX := .inl (.inr (.inr (.inl (n, f))))
abbrev jR (n : Nat) (f : Nat → Option Nat) : jX := .inl (.inr (.inr (.inr (n, f))))
def jA (G : jG) : Nat → Prop := fun q => G.2.2.1 ≤ q
def jty (k : Nat) : FieldType := match k with
  | 0 => .int
  | 1 => .byte
  | 2 => .boolean
  | 3 => .long
  | _ => .object "java/lang/Object"
def jtys (G : jG) : List (ClassId × FieldType) := [(G.2.1 0, .int), (G.2.1 1, .byte), (G.2.1 2, .boolean), (G.2.1 3, .long), (G.2.1 4, .object "java/lang/Object")]
def jtoE (G : jG) (e : jE) : va_E := match e with
  | .inl o => .inr o
  | .inr (.inl (k, n, f)) => .inl (G.2.1 k, n, .inl f)
  | .inr (.inr (.inl (n, f))) => .inl (G.2.1 3, n, .inr (.inl f))
  | .inr (.inr (.inr (n, f))) => .inl (G.2.1 4, n, .inr (.inr (.inr (.inr f))))
/-- a constant's cell, below the law's own -/
def jcat (G : jG) (U : State) (H : Heap) (a : Nat) (e : jE) : Prop := match e with
  | .inl (c, fs) => ∃ r : vw_C, jCl[c]? = some r ∧ va_O r.1 a (jA G) U H ∧ ∀ k, k < r.2.2 → va_OF (r.2.1 k).1 (r.2.1 k).2.1 (r.2.1 k).2.2.1 (vp_V fs k) a (jA G) U H
  | .inr (.inl (k, n, f)) => k ≤ 2 ∧ va_T (jty k) a n (fun j => .int (f j)) (jA G) U H
  | .inr (.inr (.inl (n, f))) => va_T .long a n (fun j => .long (f j)) (jA G) U H
  | .inr (.inr (.inr (n, f))) => va_T (.object "java/lang/Object") a n (fun j => va_rf (f j)) (jA G) U H
theorem jcat.moved {G : jG} {u U : State} {H : Heap} {a : Nat} {e : jE} (hvm : u.vm.Alike U.vm) (h : jcat G u H a e) : jcat G U H a e := by
  match e, h with
  | .inl (c, fs), h =>
    obtain ⟨r, h1, h2, h3⟩ := h
    exact ⟨r, h1, va_O.moved hvm h2, fun k hk => va_OF.moved hvm (h3 k hk)⟩
  | .inr (.inl (k, n, f)), h => exact ⟨h.1, va_T.moved hvm h.2⟩
  | .inr (.inr (.inl (n, f))), h => exact va_T.moved hvm h
  | .inr (.inr (.inr (n, f))), h => exact va_T.moved hvm h
theorem jcat.kept {G : jG} {U : State} {H H1 : Heap} {a : Nat} {e : jE} (h : jcat G U H a e) (hq : ∀ a : Nat, a < H.size → ¬ jA G a → H1[a]? = H[a]?) : jcat G U H1 a e := by
  match e, h with
  | .inl (c, fs), h =>
    obtain ⟨r, h1, h2, h3⟩ := h
    exact ⟨r, h1, h2.kept hq, fun k hk => (h3 k hk).kept hq⟩
  | .inr (.inl (k, n, f)), h => exact ⟨h.1, h.2.kept hq⟩
  | .inr (.inr (.inl (n, f))), h => exact va_T.kept h hq
  | .inr (.inr (.inr (n, f))), h => exact va_T.kept h hq
/-! coarse cells: what private cells ps a coarse cell at a stands for; gh: a linked list's nodes and its count of changes -/
abbrev jGh : Type := Nat → List Nat × Int32
def jSh (G : jG) (gh : jGh) (a : Nat) (c : jC) (ps : List (Nat × jE)) : Prop :=
  match c with
  | (0, rs, _, cap, d) => -- an ArrayList
    ∃ (mc : Int32) (arr : Nat) (f : Nat → Option Nat), ps = [(a, .inl (15, [.int mc, .ref arr, .int (nI rs.length)])), (arr, .inr (.inr (.inr (cap, f))))] ∧ rs.length ≤ cap ∧ cap < 2 ^ 30 ∧ (∀ i, i < rs.length → some (f i) = rs[i]?) ∧ (if d = 1 then cap = 0 ∧ G.2.2.2 104 = some arr else G.2.2.1 ≤ arr ∧ 0 < cap)
  | (1, rs, _, _, _) => -- a LinkedList
    (gh a).1.length = rs.length ∧ (gh a).1.Nodup ∧ (rs.length < 2 ^ 30 ∧ ∀ y ∈ (gh a).1, G.2.2.1 ≤ y) ∧ ps = (a, .inl (16, [.int (gh a).2, .int (nI rs.length), va_rf (gh a).1.head?, va_rf (gh a).1.getLast?])) :: (List.range rs.length).map (fun i => ((gh a).1.getD i 0, .inl (17, [va_rf (rs.getD i none), va_rf (gh a).1[i + 1]?, va_rf (if i = 0 then none else (gh a).1[i - 1]?)])))
  | (2, rs, _, cap, _) => -- an ArrayDeque
    ∃ (arr hd : Nat) (f : Nat → Option Nat), ps = [(a, .inl (18, [.ref arr, .int (nI hd), .int (nI ((hd + rs.length) % cap))])), (arr, .inr (.inr (.inr (cap, f))))] ∧ G.2.2.1 ≤ arr ∧ rs.length < cap ∧ hd < cap ∧ cap < 2 ^ 30 ∧ (∀ i, i < rs.length → some (f ((hd + i) % cap)) = rs[i]?) ∧ (∀ i, rs.length ≤ i → i < cap → f ((hd + i) % cap) = none) ∧ (∀ r ∈ rs, r ≠ none)
  | (3, _, xs, cap, _) => -- a StringBuilder
    ∃ (arr : Nat) (f : Nat → Int32) (ml : Int32), ps = [(a, .inl (20, [.ref arr, .int 0, .int ml, .int (nI xs.length)])), (arr, .inr (.inl (1, cap, f)))] ∧ G.2.2.1 ≤ arr ∧ (xs.length ≤ cap ∧ ∀ i, i < cap → fits .byte (.int (f i)) = true) ∧ cap < 2 ^ 30 ∧ (∀ i, i < xs.length → some (f i) = xs[i]?) ∧ (∀ x ∈ xs, 0 ≤ x ∧ x < 128)
  | (4, _, xs, _, _) => -- a String
    ∃ (arr : Nat) (f : Nat → Int32) (hs hz : Int32), ps = [(a, .inl (21, [.ref arr, .int 0, .int hs, .int hz])), (arr, .inr (.inl (1, xs.length, f)))] ∧ xs.length < 2 ^ 30 ∧ (∀ i, i < xs.length → some (f i) = xs[i]?) ∧ (∀ x ∈ xs, 0 ≤ x ∧ x < 128) ∧ (G.2.2.1 ≤ a → G.2.2.1 ≤ arr ∧ (hz = 0 ∨ hz = 1) ∧ (hz = 1 → hs = 0 ∧ xs.foldl (fun h x => 31 * h + x) 0 = 0) ∧ (hs ≠ 0 → hs = xs.foldl (fun h x => 31 * h + x) 0))
  | (5, [some b], [i], _, _) => -- an iterator over the LinkedList at b
    ∃ lr : Option Nat, ps = [(a, .inl (19, [va_rf lr, va_rf (gh b).1[i.toNatClampNeg]?, .int i, .int (gh b).2, .ref b]))] ∧ ¬ i < 0
  | (_, _, _, _, _) => False
def jCo (G : jG) (gh : jGh) (ow : Nat → Nat) (φ : Nat → Option jE) (a : Nat) (c : jC) : Prop := ∃ ps : List (Nat × jE), (∀ x ∈ ps, φ x.1 = some x.2 ∧ (x.1 < G.2.2.1 ∨ (G.2.2.1 ≤ a ∧ ow x.1 = a))) ∧ jSh G gh a c ps
def jRelW (G : jG) (gh : jGh) (ow : Nat → Nat) (h : Nat → Option jX) (φ : Nat → Option jE) : Prop := ∀ (a : Nat) (x : jX), h a = some x → match x with
  | .inl e => φ a = some e ∧ ow a = a
  | .inr c => ow a = a ∧ jCo G gh ow φ a c
def jRel (G : jG) (h : Nat → Option jX) (φ : Nat → Option jE) : Prop := ∃ (ow : Nat → Nat) (gh : jGh), jRelW G gh ow h φ
/-- classes, links, constants, statics: what holds all through the law's run -/
def jZi : List (String × String × String × Int32) := [("java/lang/String", "COMPACT_STRINGS", "Z", 1)]
def jZr : List (String × String × String × Nat) := [("java/lang/Integer", "DigitOnes", "[B", 100), ("java/lang/Integer", "DigitTens", "[B", 101), ("java/lang/CharacterDataLatin1", "DIGITS", "[B", 102), ("java/lang/CharacterDataLatin1", "instance", "Ljava/lang/CharacterDataLatin1;", 103), ("java/util/ArrayList", "DEFAULTCAPACITY_EMPTY_ELEMENTDATA", "[Ljava/lang/Object;", 104), ("java/util/ArrayList", "EMPTY_ELEMENTDATA", "[Ljava/lang/Object;", 105), ("jdk/internal/util/Preconditions", "SIOOBE_FORMATTER", "Ljava/util/function/BiFunction;", 106), ("java/lang/Throwable", "UNASSIGNED_STACK", "[Ljava/lang/StackTraceElement;", 107), ("java/lang/Throwable", "SUPPRESSED_SENTINEL", "Ljava/util/List;", 108)]
/-- constructors that are declared; classes that aren't classes of others -/
def jNn : List (String × String) := [("java/lang/IllegalArgumentException", "java/lang/IndexOutOfBoundsException"), ("java/lang/IllegalStateException", "java/lang/IndexOutOfBoundsException"), ("java/lang/IllegalStateException", "java/lang/IllegalArgumentException")]
/-- private methods, called through objects of subclasses -/
def jSl : List Cond := [.selects "SortingLoop$Setup" ⟨"SortingLoop$Parser", "at", "(I)I"⟩ ⟨"SortingLoop$Parser", "at", "(I)I"⟩, .selects "SortingLoop$Script" ⟨"SortingLoop$Parser", "at", "(I)I"⟩ ⟨"SortingLoop$Parser", "at", "(I)I"⟩, .selects "SortingLoop$Setup" ⟨"SortingLoop$Parser", "past", "(III)I"⟩ ⟨"SortingLoop$Parser", "past", "(III)I"⟩, .selects "SortingLoop$Script" ⟨"SortingLoop$Parser", "past", "(III)I"⟩ ⟨"SortingLoop$Parser", "past", "(III)I"⟩, .selects "SortingLoop$Setup" ⟨"SortingLoop$Parser", "text", "(II)Ljava/lang/String;"⟩ ⟨"SortingLoop$Parser", "text", "(II)Ljava/lang/String;"⟩, .selects "SortingLoop$Script" ⟨"SortingLoop$Parser", "text", "(II)Ljava/lang/String;"⟩ ⟨"SortingLoop$Parser", "text", "(II)Ljava/lang/String;"⟩, .methodLink "SortingLoop" 396 ⟨"SortingLoop$Parcel", "isAhead", "(LSortingLoop$Numbered;)Z"⟩, .sameMethod "SortingLoop$Parcel" "SortingLoop$Numbered" "isAhead" "(LSortingLoop$Numbered;)Z", .selects "java/lang/StringBuilder" ⟨"java/lang/AbstractStringBuilder", "newCapacity", "(I)I"⟩ ⟨"java/lang/AbstractStringBuilder", "newCapacity", "(I)I"⟩, .selects "java/lang/StringBuilder" ⟨"java/lang/AbstractStringBuilder", "ensureCapacityInternal", "(I)V"⟩ ⟨"java/lang/AbstractStringBuilder", "ensureCapacityInternal", "(I)V"⟩]
theorem jSl_g : GoodIn jSl jSl := goodIn_sub (fun _ h => h) (by decide +kernel)
def jGl (G : jG) (U : State) : Prop :=
  va_K G.1 jCl (jtys G) U ∧
  (∀ q ∈ jNf, va_Nw (.fieldLinkNest q.1 q.2.1 q.2.2.1 q.2.2.2.1 q.2.2.2.2.1 q.2.2.2.2.2) U) ∧
  (∀ q ∈ jNm, va_Nw (.methodLinkNest q.1 q.2.1 q.2.2.1 q.2.2.2) U) ∧
  (∀ q ∈ jNc, va_Nw (.castable q.1 q.2) U) ∧
  (∀ q ∈ jFw, va_Fw q.1 q.2.1 q.2.2 U) ∧
  va_AO "java/lang/Object" U ∧
  (∀ (i : Nat) (q : String × Nat × String), jSr[i]? = some q → ∃ a, G.2.2.2 i = some a ∧ vk_R q.1 q.2.1 q.2.2 a U) ∧
  (∀ q ∈ jZi, va_Z q.1 q.2.1 q.2.2.1 (.int q.2.2.2) (jA G) U U.heap) ∧
  (∀ q ∈ jZr, va_Z q.1 q.2.1 q.2.2.1 (va_rf (G.2.2.2 q.2.2.2)) (jA G) U U.heap) ∧
  vx_Zq Bundle.tN "UNASSIGNED_STACK" Bundle.steD (jA G) U U.heap ∧ vx_Zq Bundle.tN "SUPPRESSED_SENTINEL" Bundle.listD (jA G) U U.heap ∧
  (∀ q ∈ jNd, va_Nw (.declares q) U) ∧ (∀ q ∈ jNn, va_Nc q.1 q.2 U) ∧ (∀ w ∈ jSl, w.before #[] U = true) ∧ va_Nw (.landsInDefault "SortingLoop$Parcel" ⟨"SortingLoop$Parcel", "isAhead", "(LSortingLoop$Numbered;)Z"⟩ ⟨"SortingLoop$Numbered", "isAhead", "(LSortingLoop$Numbered;)Z"⟩) U ∧
  (∃ mi, G.2.2.2 109 = some mi ∧ va_Mi "[Ljava/lang/Object;" mi U) ∧ ∃ cd, G.2.2.2 103 = some cd ∧ cd < G.2.2.1 ∧ va_O "java/lang/CharacterDataLatin1" cd (jA G) U U.heap
theorem jlands {C : String} {x y : MethodName} {s U : State} (hW : s.WarmedH U.vm) (hZ : va_Nw (.landsInDefault C x y) s) : va_Nw (.landsInDefault C x y) U := by
  have h1 : (Cond.landsInDefault C x y).before #[] (s.setVm U.vm) = true := (Cond.landsInDefault_setVm hW.alike (State.methodFound?_setVm hW.alike _ _ _)).trans hZ
  exact h1
theorem jGl.go {G : jG} {s U : State} (h : jGl G s) (hW : s.WarmedH U.vm) (hk : ∀ a : Nat, a < s.heap.size → ¬ jA G a → U.heap[a]? = s.heap[a]?) : jGl G U := by
  obtain ⟨h1, h2, h3, h4, h5, h6, h7, h8, h9, h10, h11, h12, h13, h14, h15, ⟨mi, h16, h17⟩, cd, h18, h19, h20⟩ := h
  exact ⟨h1.moved hW.alike, fun q hq => (h2 q hq).warmF hW, fun q hq => (h3 q hq).warmM hW, fun q hq => (h4 q hq).warmC hW, fun q hq => va_Fw.moved (jFw_t q hq).2.2.2.2.2 hW.alike (h5 q hq), h6.moved hW.alike,
    fun i q hq => by obtain ⟨a, e1, e2⟩ := h7 i q hq; exact ⟨a, e1, e2.warm hW⟩, fun q hq => va_Z.moved hW.alike ((h8 q hq).kept hk), fun q hq => va_Z.moved hW.alike ((h9 q hq).kept hk),
    vx_Zq.moved hW.alike (h10.kept hk), vx_Zq.moved hW.alike (h11.kept hk), fun q hq => (h12 q hq).warmD hW, fun q hq => va_Nc.moved hW.alike (h13 q hq), fun w hw => pay_in h14 jSl_g w hw #[] U hW, jlands hW h15, ⟨mi, h16, h17.moved hW.alike⟩, cd, h18, h19, va_O.moved hW.alike (h20.kept hk)⟩
/-- the same machine tables and the same heap -/
theorem jGl.same {G : jG} {s U : State} (h : jGl G s) (hv : U.vm = s.vm) (hh : U.heap = s.heap) : jGl G U := jGl.go h (by rw [hv]; exact State.WarmedH.refl s) (fun a _ _ => by rw [hh])
/-- φ, its cells in the machine's heap -/
def jIn (G : jG) (s : State) (H0 H : Heap) (h : Nat → Option jX) : Prop := ∃ (φ : Nat → Option jE) (ws : va_W), jRel G h φ ∧ (∀ (a : Nat) (e : jE), φ a = some e → (G.2.2.1 ≤ a ∧ (a, jtoE G e) ∈ ws) ∨ (a < G.2.2.1 ∧ jcat G s H0 a e)) ∧ va_P G.1 jCl ws H ∧ va_D (jA G) ws
def jSt (G : jG) (σ : jH) (U : State) : Prop := jGl G U ∧ jIn G U U.heap U.heap σ.1 ∧ U.heap.size = σ.2.1 ∧ G.2.2.1 ≤ U.heap.size
def jInv (G : jG) (s : State) (σ : jH) (H : Heap) (locs : List Loc) : Prop := jIn G s s.heap H σ.1 ∧ va_S (jA G) s.heap H locs ∧ H.size = σ.2.1 ∧ G.2.2.1 ≤ s.heap.size
theorem jSt.inv {G : jG} {σ : jH} {s : State} (h : jSt G σ s) : jInv G s σ s.heap [] := ⟨h.2.1, va_S.rf, h.2.2.1, h.2.2.2⟩
theorem jInv.st {G : jG} {σ : jH} {s U : State} {H : Heap} {locs : List Loc} (hG : jGl G s) (h : jInv G s σ H locs) (hU : U.heap = H) (hW : s.WarmedH U.vm) : jSt G σ U := by
  obtain ⟨⟨φ, ws, h1, h2, h3, h4⟩, h5, h6, h7⟩ := h
  refine ⟨hG.go hW (fun a ha hn => by rw [hU]; exact h5.2.1 a ha hn), ⟨φ, ws, h1, fun a e he => ?_, by rw [hU]; exact h3, h4⟩, by rw [hU]; exact h6, by rw [hU]; exact Nat.le_trans h7 h5.1⟩
  rcases h2 a e he with q | ⟨q1, q2⟩
  · exact Or.inl q
  · exact Or.inr ⟨q1, jcat.moved hW.alike (q2.kept (fun a ha hn => by rw [hU]; exact h5.2.1 a ha hn))⟩
/-- from a state behind a call, back to the method's own start -/
theorem jSt.back {G : jG} {σ : jH} {s t : State} {H : Heap} {locs : List Loc} (h : jSt G σ t) (hW : s.WarmedH t.vm) (hH : t.heap = H) (hS : va_S (jA G) s.heap H locs) (hn : G.2.2.1 ≤ s.heap.size) : jInv G s σ H locs := by
  obtain ⟨-, ⟨φ, ws, h1, h2, h3, h4⟩, h6, h7⟩ := h
  subst hH
  refine ⟨⟨φ, ws, h1, fun a e he => ?_, h3, h4⟩, hS, h6, hn⟩
  rcases h2 a e he with q | ⟨q1, q2⟩
  · exact Or.inl q
  · refine Or.inr ⟨q1, jcat.moved hW.alike.symm (q2.kept (fun a ha hna => ?_))⟩
    have ha' : a < s.heap.size := Nat.lt_of_lt_of_le (Nat.not_le.mp hna) hn
    exact (hS.2.1 a ha' hna).symm
def jLe (σ τ : jH) : Prop := σ.2.1 ≤ τ.2.1 ∧ σ.2.2 ≤ τ.2.2
theorem jLe.rf {σ : jH} : jLe σ σ := ⟨Nat.le_refl _, Nat.le_refl _⟩
theorem jLe.tr {σ τ υ : jH} (h : jLe σ τ) (k : jLe τ υ) : jLe σ υ := ⟨Nat.le_trans h.1 k.1, Nat.le_trans h.2 k.2⟩
/-- a method's start and end over abstract heaps -/
def jPc (G : jG) (av : List Value) (σ : jH) : Array Value → State → Prop := va_Pc av (jSt G σ)
def jQ (G : jG) (v : Option Value) (σ : jH) : Array Value → State → Outcome → State → Prop := fun _ st oc t => oc = .returned v ∧ jSt G σ t ∧ va_F (jA G) st t
theorem jPc.blind {G : jG} {av : List Value} {σ : jH} : FrameBlind (jPc G av σ) := by
  intro a U g mk h
  obtain ⟨h0, hG, ⟨φ, ws, h1, h2, h3, h4⟩, h6, h7⟩ := h
  refine ⟨h0, hG.same rfl rfl, ⟨φ, ws, h1, fun a e he => ?_, h3, h4⟩, h6, h7⟩
  rcases h2 a e he with q | ⟨q1, q2⟩
  · exact Or.inl q
  · exact Or.inr ⟨q1, jcat.moved (u := U) (Vm.Alike.refl U.vm) q2⟩
/-- THE CONTRACT of a method that returns: y, called with av where the abstract heap is σ, answers as f does -/
def jCt (l : Launch) (G : jG) (y : MethodName) (ws : List Cond) (F L : Nat) {β : Type} (ret : β → Option Value) (av : List Value) (σ : jH) (o : Option (β × jH)) : Prop :=
  ∀ rs : β × jH, o = some rs → jLe σ rs.2 ∧ Met l y ws ({ frames := F, cells := rs.2.2.1 - σ.2.1, slots := rs.2.2.2 - σ.2.2, locals := L } : Room) (jPc G av σ) (jQ G (ret rs.1) rs.2) (rs.2.2.1 - σ.2.1) (rs.2.2.2 - σ.2.2) (jA G)
def jrI (x : Int32) : Option Value := some (.int x)
def jrV (_ : Unit) : Option Value := none
def jrR (r : Option Nat) : Option Value := some (va_rf r)
def jrL (x : Int64) : Option Value := some (.long x)
def jrF (x : UInt32) : Option Value := some (.float x)
def jrD (x : UInt64) : Option Value := some (.double x)
/-- the guard of a method's answer: the heap has grown, if anything -/
def jck {β : Type} (σ : jH) (o : Option (β × jH)) : Option (β × jH) := o.bind fun rs => if σ.2.1 ≤ rs.2.2.1 ∧ σ.2.2 ≤ rs.2.2.2 then some rs else none
theorem jck_some {β : Type} {σ : jH} {o : Option (β × jH)} {rs : β × jH} (h : jck σ o = some rs) : o = some rs ∧ jLe σ rs.2 := by
  unfold jck at h
  cases ho : o with
  | none => rw [ho] at h; cases h
  | some r =>
    rw [ho, Option.bind_some] at h
    split at h
    · next hq => cases h; exact ⟨rfl, hq⟩
    · cases h
theorem jck_eq {β : Type} {σ : jH} {rs : β × jH} (h : jLe σ rs.2) : jck σ (some rs) = some rs := by
  unfold jck
  have h2 : σ.2.1 ≤ rs.2.2.1 ∧ σ.2.2 ≤ rs.2.2.2 := h
  rw [Option.bind_some, if_pos h2]
/-- a reader's answer: the heap stays -/
def jrd {β : Type} (σ : jH) (o : Option β) : Option (β × jH) := o.map fun r => (r, σ)
/-! ===== the walk's judgement ===== -/
def JW (p : Program) (l : Launch) (e : Env) (R : Room) (s : State) (m : MethodId) (args : Array Value) (below : List Frame) (meth : Method) (c : Code) (G : jG) (σ0 : jH) (Q : State → Prop) (σ : jH) (g : JFrame) : Prop :=
  jLe σ0 σ → ∀ (H : Heap) (locs : List Loc), jInv G s σ H locs → W p l e R s m args below meth c H locs (σ.2.1 - σ0.2.1) (σ.2.2 - σ0.2.2) Q g
def J {τ : Type} (p : Program) (l : Launch) (e : Env) (R : Room) (s : State) (m : MethodId) (args : Array Value) (below : List Frame) (meth : Method) (c : Code) (G : jG) (σ0 : jH) (Q : State → Prop) (fin : τ → jH) (t : τ) (o : Option τ) (σ : jH) (g : JFrame) : Prop :=
  o = some t → jLe σ (fin t) ∧ JW p l e R s m args below meth c G σ0 Q σ g
section JRULES
variable {p : Program} {l : Launch} {e : Env} {R : Room} {s : State} {m : MethodId} {args : Array Value} {below : List Frame} {meth : Method} {c : Code} {G : jG} {σ0 : jH} {Q : State → Prop}
variable {τ γ : Type} {fin : τ → jH} {t : τ} {o : Option τ} {σ : jH} {g g1 g2 : JFrame}
theorem J.pu (h : ∀ (H : Heap) (locs : List Loc) (cells slots : Nat), W p l e R s m args below meth c H locs cells slots Q g2 → W p l e R s m args below meth c H locs cells slots Q g) (k : J p l e R s m args below meth c G σ0 Q fin t o σ g2) : J p l e R s m args below meth c G σ0 Q fin t o σ g :=
  fun ho => ⟨(k ho).1, fun h0 H locs hi => h _ _ _ _ ((k ho).2 h0 H locs hi)⟩
theorem J.br {C : Prop} [Decidable C] {A B : Option τ} (h : ∀ (H : Heap) (locs : List Loc) (cells slots : Nat), (C → W p l e R s m args below meth c H locs cells slots Q g1) → (¬ C → W p l e R s m args below meth c H locs cells slots Q g2) → W p l e R s m args below meth c H locs cells slots Q g)
    (k1 : C → J p l e R s m args below meth c G σ0 Q fin t A σ g1) (k2 : ¬ C → J p l e R s m args below meth c G σ0 Q fin t B σ g2) : J p l e R s m args below meth c G σ0 Q fin t (if C then A else B) σ g := by
  intro ho
  by_cases hC : C
  · rw [if_pos hC] at ho
    exact ⟨(k1 hC ho).1, fun h0 H locs hi => h _ _ _ _ (fun _ => (k1 hC ho).2 h0 H locs hi) (fun q => absurd hC q)⟩
  · rw [if_neg hC] at ho
    exact ⟨(k2 hC ho).1, fun h0 H locs hi => h _ _ _ _ (fun q => absurd q hC) (fun _ => (k2 hC ho).2 h0 H locs hi)⟩
theorem J.nil_ : J p l e R s m args below meth c G σ0 Q fin t (none : Option τ) σ g := fun h => by cases h
theorem J.eq {o2 : Option τ} (h : o = o2) (k : J p l e R s m args below meth c G σ0 Q fin t o2 σ g) : J p l e R s m args below meth c G σ0 Q fin t o σ g := h ▸ k
theorem J.geq (h : g = g2) (k : J p l e R s m args below meth c G σ0 Q fin t o σ g2) : J p l e R s m args below meth c G σ0 Q fin t o σ g := h ▸ k
theorem J.bind {a : Option γ} {f : γ → Option τ} (k : ∀ y, a = some y → J p l e R s m args below meth c G σ0 Q fin t (f y) σ g) : J p l e R s m args below meth c G σ0 Q fin t (a.bind f) σ g := by
  intro ho
  cases ha : a with
  | none => rw [ha] at ho; cases ho
  | some y => rw [ha] at ho; exact k y ha ho
/-- a step that changes the abstract heap, but makes no cell -/
theorem J.up {σ2 : jH} (hle : jLe σ σ2) (h : JW p l e R s m args below meth c G σ0 Q σ2 g2 → JW p l e R s m args below meth c G σ0 Q σ g) (k : J p l e R s m args below meth c G σ0 Q fin t o σ2 g2) : J p l e R s m args below meth c G σ0 Q fin t o σ g :=
  fun ho => ⟨hle.tr (k ho).1, h (k ho).2⟩
variable {cc : ByteArray} {pc : Nat} {ls : Array Slot} {rest : List Value}
theorem lv_ex1 {nL : Nat} {lv lv' : List (Nat × Value)} {i : Nat} {v : Value} (h : lv_has ls nL lv) (hn : i < nL) (hc : v.category = 1) (hl : (i, v) :: lv.filter (fun q => !(q.1 == i) && !(q.1 + 1 == i && q.2.category == 2)) = lv') : ∃ ls', lv_has ls' nL lv' := by
  obtain ⟨ls', -, h'⟩ := lv_store1 (v := v) h hn hc
  exact ⟨ls', hl ▸ h'⟩
theorem lv_ex2 {nL : Nat} {lv lv' : List (Nat × Value)} {i : Nat} {v : Value} (h : lv_has ls nL lv) (hn : i + 1 < nL) (hc : v.category = 2) (hl : (i, v) :: lv.filter (fun q => !(q.1 == i) && (!(q.1 == i + 1) && !(q.1 + 1 == i && q.2.category == 2))) = lv') : ∃ ls', lv_has ls' nL lv' := by
  obtain ⟨ls', -, h'⟩ := lv_store2 (v := v) h hn hc
  exact ⟨ls', hl ▸ h'⟩
theorem J.st {nL : Nat} {lv' : List (Nat × Value)} {F : Array Slot → JFrame} (hex : ∃ ls', lv_has ls' nL lv') (h : ∀ (H : Heap) (locs : List Loc) (cells slots : Nat), (∀ ls' : Array Slot, lv_has ls' nL lv' → W p l e R s m args below meth c H locs cells slots Q (F ls')) → W p l e R s m args below meth c H locs cells slots Q g)
    (k : ∀ ls' : Array Slot, lv_has ls' nL lv' → J p l e R s m args below meth c G σ0 Q fin t o σ (F ls')) : J p l e R s m args below meth c G σ0 Q fin t o σ g := by
  intro ho
  obtain ⟨l1, h1⟩ := hex
  exact ⟨(k l1 h1 ho).1, fun h0 H locs hi => h _ _ _ _ (fun ls' h' => (k ls' h' ho).2 h0 H locs hi)⟩
theorem J.istore_n {k : Fin 4} {i nL : Nat} {v : Int32} {lv lv' : List (Nat × Value)} (hx : p.tables.exec = Jvm.exec) (hb : c.code = cc) (hdg : decode cc pc = .ok (.istore_n k, 1)) (hi : (k : Nat) = i) (h : lv_has ls nL lv) (hn : i < nL) (hl : (i, Value.int v) :: lv.filter (fun q => !(q.1 == i) && !(q.1 + 1 == i && q.2.category == 2)) = lv')
    (kk : ∀ ls' : Array Slot, lv_has ls' nL lv' → J p l e R s m args below meth c G σ0 Q fin t o σ (F0 m (pc + 1) ls' rest)) : J p l e R s m args below meth c G σ0 Q fin t o σ (F0 m pc ls (.int v :: rest)) :=
  J.st (F := fun ls' => F0 m (pc + 1) ls' rest) (lv_ex1 h hn rfl hl) (fun _ _ _ _ q => lv_istore_n hx hb hdg hi h hn hl q) kk
theorem J.istore {i nL : Nat} {v : Int32} {lv lv' : List (Nat × Value)} (hx : p.tables.exec = Jvm.exec) (hb : c.code = cc) (hdg : decode cc pc = .ok (.istore i, 2)) (h : lv_has ls nL lv) (hn : i < nL) (hl : (i, Value.int v) :: lv.filter (fun q => !(q.1 == i) && !(q.1 + 1 == i && q.2.category == 2)) = lv')
    (kk : ∀ ls' : Array Slot, lv_has ls' nL lv' → J p l e R s m args below meth c G σ0 Q fin t o σ (F0 m (pc + 2) ls' rest)) : J p l e R s m args below meth c G σ0 Q fin t o σ (F0 m pc ls (.int v :: rest)) :=
  J.st (F := fun ls' => F0 m (pc + 2) ls' rest) (lv_ex1 h hn rfl hl) (fun _ _ _ _ q => lv_istore hx hb hdg h hn hl q) kk
theorem J.iinc {i nL k : Nat} {n : Int} {v w : Int32} {lv lv' : List (Nat × Value)} (hx : p.tables.exec = Jvm.exec) (hb : c.code = cc) (hdg : decode cc pc = .ok (.iinc i n, 3)) (h : lv_has ls nL lv) (hk : lv[k]? = some (i, .int v)) (hv : v + Int32.ofInt n = w) (hn : i < nL) (hl : (i, Value.int w) :: lv.filter (fun q => !(q.1 == i) && !(q.1 + 1 == i && q.2.category == 2)) = lv')
    (kk : ∀ ls' : Array Slot, lv_has ls' nL lv' → J p l e R s m args below meth c G σ0 Q fin t o σ (F0 m (pc + 3) ls' rest)) : J p l e R s m args below meth c G σ0 Q fin t o σ (F0 m pc ls rest) :=
  J.st (F := fun ls' => F0 m (pc + 3) ls' rest) (lv_ex1 h hn rfl hl) (fun _ _ _ _ q => lv_iinc hx hb hdg h hk hv hn hl q) kk
theorem va_rf_cat (r : Option Nat) : (va_rf r).category = 1 := by cases r <;> rfl
theorem J.astore_n {k : Fin 4} {i nL : Nat} {r : Option Nat} {lv lv' : List (Nat × Value)} (hx : p.tables.exec = Jvm.exec) (hb : c.code = cc) (hdg : decode cc pc = .ok (.astore_n k, 1)) (hi : (k : Nat) = i) (h : lv_has ls nL lv) (hn : i < nL) (hl : (i, va_rf r) :: lv.filter (fun q => !(q.1 == i) && !(q.1 + 1 == i && q.2.category == 2)) = lv')
    (kk : ∀ ls' : Array Slot, lv_has ls' nL lv' → J p l e R s m args below meth c G σ0 Q fin t o σ (F0 m (pc + 1) ls' rest)) : J p l e R s m args below meth c G σ0 Q fin t o σ (F0 m pc ls (va_rf r :: rest)) := by
  refine J.st (F := fun ls' => F0 m (pc + 1) ls' rest) (lv_ex1 h hn (va_rf_cat r) hl) (fun _ _ _ _ q => ?_) kk
  cases r with
  | none => exact lv_astore_nN hx hb hdg hi h hn hl q
  | some a => exact lv_astore_n hx hb hdg hi h hn hl q
theorem J.astore {i nL : Nat} {r : Option Nat} {lv lv' : List (Nat × Value)} (hx : p.tables.exec = Jvm.exec) (hb : c.code = cc) (hdg : decode cc pc = .ok (.astore i, 2)) (h : lv_has ls nL lv) (hn : i < nL) (hl : (i, va_rf r) :: lv.filter (fun q => !(q.1 == i) && !(q.1 + 1 == i && q.2.category == 2)) = lv')
    (kk : ∀ ls' : Array Slot, lv_has ls' nL lv' → J p l e R s m args below meth c G σ0 Q fin t o σ (F0 m (pc + 2) ls' rest)) : J p l e R s m args below meth c G σ0 Q fin t o σ (F0 m pc ls (va_rf r :: rest)) := by
  refine J.st (F := fun ls' => F0 m (pc + 2) ls' rest) (lv_ex1 h hn (va_rf_cat r) hl) (fun _ _ _ _ q => ?_) kk
  cases r with
  | none => exact lv_astoreN hx hb hdg h hn hl q
  | some a => exact lv_astore hx hb hdg h hn hl q
theorem J.dstore {i nL : Nat} {v : UInt64} {lv lv' : List (Nat × Value)} (hx : p.tables.exec = Jvm.exec) (hb : c.code = cc) (hdg : decode cc pc = .ok (.dstore i, 2)) (h : lv_has ls nL lv) (hn : i + 1 < nL) (hl : (i, Value.double v) :: lv.filter (fun q => !(q.1 == i) && (!(q.1 == i + 1) && !(q.1 + 1 == i && q.2.category == 2))) = lv')
    (kk : ∀ ls' : Array Slot, lv_has ls' nL lv' → J p l e R s m args below meth c G σ0 Q fin t o σ (F0 m (pc + 2) ls' rest)) : J p l e R s m args below meth c G σ0 Q fin t o σ (F0 m pc ls (.double v :: rest)) :=
  J.st (F := fun ls' => F0 m (pc + 2) ls' rest) (lv_ex2 h hn rfl hl) (fun _ _ _ _ q => lv_dstore hx hb hdg h hn hl q) kk
/-- loads of references -/
theorem W.rload_n {H : Heap} {locs : List Loc} {cells slots : Nat} (hx : p.tables.exec = Jvm.exec) (hb : c.code = cc) {k : Fin 4} {i : Nat} {r : Option Nat} (hdg : decode cc pc = .ok (.aload_n k, 1)) (hi : (k : Nat) = i) (hl : ls[i]? = some (.val (va_rf r)))
    (kk : W p l e R s m args below meth c H locs cells slots Q (F0 m (pc + 1) ls (va_rf r :: rest))) : W p l e R s m args below meth c H locs cells slots Q (F0 m pc ls rest) := by
  cases r with
  | none => exact lv_aload_nN hx hb hdg hi hl kk
  | some a => exact lv_aload_n hx hb hdg hi hl kk
theorem W.rload {H : Heap} {locs : List Loc} {cells slots : Nat} (hx : p.tables.exec = Jvm.exec) (hb : c.code = cc) {i : Nat} {r : Option Nat} (hdg : decode cc pc = .ok (.aload i, 2)) (hl : ls[i]? = some (.val (va_rf r)))
    (kk : W p l e R s m args below meth c H locs cells slots Q (F0 m (pc + 2) ls (va_rf r :: rest))) : W p l e R s m args below meth c H locs cells slots Q (F0 m pc ls rest) := by
  cases r with
  | none => exact lv_aloadN hx hb hdg hl kk
  | some a => exact lv_aload hx hb hdg hl kk
theorem W.rnull {H : Heap} {locs : List Loc} {cells slots : Nat} (hx : p.tables.exec = Jvm.exec) (hb : c.code = cc) {r : Option Nat} {off : Int} {tgt : Nat} (hdg : decode cc pc = .ok (.ifnull off, 3)) (ht : (pc : Int) + off = (tgt : Int))
    (k1 : r = none → W p l e R s m args below meth c H locs cells slots Q (F0 m tgt ls rest)) (k2 : ¬ r = none → W p l e R s m args below meth c H locs cells slots Q (F0 m (pc + 3) ls rest)) : W p l e R s m args below meth c H locs cells slots Q (F0 m pc ls (va_rf r :: rest)) := by
  cases r with
  | none => exact lv_ifnullN hx hb hdg ht (k1 rfl)
  | some a => exact lv_ifnull hx hb hdg (k2 (fun h => by cases h))
theorem W.rnonnull {H : Heap} {locs : List Loc} {cells slots : Nat} (hx : p.tables.exec = Jvm.exec) (hb : c.code = cc) {r : Option Nat} {off : Int} {tgt : Nat} (hdg : decode cc pc = .ok (.ifnonnull off, 3)) (ht : (pc : Int) + off = (tgt : Int))
    (k1 : ¬ r = none → W p l e R s m args below meth c H locs cells slots Q (F0 m tgt ls rest)) (k2 : r = none → W p l e R s m args below meth c H locs cells slots Q (F0 m (pc + 3) ls rest)) : W p l e R s m args below meth c H locs cells slots Q (F0 m pc ls (va_rf r :: rest)) := by
  cases r with
  | none => exact lv_ifnonnullN hx hb hdg (k2 rfl)
  | some a => exact lv_ifnonnull hx hb hdg ht (k1 (fun h => by cases h))
end JRULES
/-! ===== loops ===== -/
def jloop {S T : Type} (step : (S → Option T) → S → Option T) : Nat → S → Option T
  | 0, _ => none
  | n + 1, s => step (jloop step n) s
theorem jloop_s {S T : Type} (step : (S → Option T) → S → Option T) (n : Nat) (s : S) : jloop step (n + 1) s = step (jloop step n) s := rfl
