/-! helpers of the component's walks: what calls of constructors, of inherited and of interface methods ask; the words of a throw -/
set_option maxRecDepth 100000
section HW
variable {R : Room} {s : State} {args : Array Value} {own C owner : String} {idx : Nat} {x y : MethodName} {b : ByteArray} {L mc ms : Nat} {r : Option FieldType} {rm : Room}
theorem jcwI (n : Nat) (ht : ∀ w ∈ lw_all, w.before args s = true) (h1 : Cond.methodLink own idx y ∈ lw_all) (h2 : Cond.instanceMethod y ∈ lw_all) (h3 : Cond.initialized y.cls ∈ lw_all) (h4 : Cond.code y b L none ∈ lw_all) (hy : y.name = "<init>") (hrc : rm.cells = mc) (hrs : rm.slots = ms)
    (hd : y.cls ≠ "java/lang/invoke/MethodHandle" ∧ y.cls ≠ "java/lang/invoke/VarHandle" ∧ (parseMethodDescriptor y.desc).map (fun d => d.parameters.length) = some n) (hR : rm.frames + 1 ≤ R.frames ∧ 8 + (L + 11) + rm.locals ≤ R.locals) :
    CallB R s args own idx y b L none (ws_ y b L none) rm mc ms n ∧ y.name = "<init>" ∧ (Cond.instanceMethod y).before args s = true := by
  refine ⟨⟨hrc, hrs, hR.1, hR.2, pay_in ht (lw_meth h4), List.mem_cons_self, ht _ h4, ht _ h3, ⟨hd.1, hd.2.1⟩, fun sig h => ?_, ht _ h1⟩, hy, ht _ h2⟩
  have h2 := hd.2.2
  rw [h] at h2
  exact (Option.some.inj h2).symm
theorem lw_U (h1 : Cond.methodLink own idx x ∈ lw_all) (h2 : Cond.sameMethod x.cls owner x.name x.desc ∈ lw_all) (h3 : Cond.selects C x y ∈ lw_all) (h4 : Cond.instanceMethod y ∈ lw_all) (h5 : Cond.initialized y.cls ∈ lw_all) (h6 : Cond.code y b L r ∈ lw_all) : GoodIn lw_all (va_wsU own idx C owner x y (ws_ y b L r)) := by
  refine lw_app ?_ (lw_meth h6)
  intro w hw
  simp only [List.mem_cons, List.not_mem_nil, or_false] at hw
  rcases hw with e | e | e | e | e
  · rw [e]; exact h1
  · rw [e]; exact h2
  · rw [e]; exact h3
  · rw [e]; exact h4
  · rw [e]; exact h5
theorem lw_F (h1 : Cond.methodLink own idx x ∈ lw_all) (h3 : Cond.selects C x y ∈ lw_all) (h4 : Cond.instanceMethod y ∈ lw_all) (h5 : Cond.initialized y.cls ∈ lw_all) (h6 : Cond.code y b L r ∈ lw_all) : GoodIn lw_all (va_wsF own idx C x y (ws_ y b L r)) := by
  refine lw_app ?_ (lw_meth h6)
  intro w hw
  simp only [List.mem_cons, List.not_mem_nil, or_false] at hw
  rcases hw with e | e | e | e
  · rw [e]; exact h1
  · rw [e]; exact h3
  · rw [e]; exact h4
  · rw [e]; exact h5
/-- a private method, called through an object of a subclass -/
theorem jsel {n n2 : Nat} (hy : y.cls ≠ "java/lang/invoke/MethodHandle" ∧ y.cls ≠ "java/lang/invoke/VarHandle") (hins : (Cond.instantiable y.cls n).before args s = true) (hpriv : (Cond.privateMethod y).before args s = true) (hinst : (Cond.instanceMethod y).before args s = true) (hC : (Cond.instantiable C n2).before args s = true) : (Cond.selects C y y).before args s = true := by
  obtain ⟨c, k, hc, hk, -, hniab, -, -⟩ := Cond.instantiable_spec hins
  obtain ⟨c2, k2, hc2, -, -, -, -, -⟩ := Cond.instantiable_spec hC
  have hni : k.isInterface = false := (Bool.or_eq_false_iff.mp hniab).1
  obtain ⟨mk, methM, hnamed, hmethM, -, -⟩ := Cond.instanceMethod_spec hinst
  have hfound : s.methodFound? y.cls y.name y.desc = some mk := State.methodFound?_of_named hnamed hy
  have hcls : mk.cls = c := Option.some.inj ((findClass_of_methodNamed hnamed).symm.trans hc)
  have hsel : selectMethod {} s.vm c2 mk = .method mk := selectMethod_private hmethM (Cond.privateMethod_at hpriv mk methM hnamed hmethM)
  simp only [Cond.before, Cond.holds, Cond.value, hc2, hfound, hnamed, hsel, hcls, hk]
  simp
  exact hni
theorem jcwP {n : Nat} {ws : List Cond} (cw : CallW R s args own y.cls idx y b L r ws rm mc ms n) (h : (Cond.selects C y y).before args s = true) : CallW R s args own C idx y b L r ws rm mc ms n := ⟨cw.1, cw.2.1, h⟩
end HW
section JB
variable {p : Program} {l : Launch} {e : Env} {R : Room} {s : State} {m : MethodId} {args : Array Value} {below : List Frame} {meth : Method} {c : Code} {G : jG} {σ0 σ : jH} {Q : State → Prop} {τ : Type} {fin : τ → jH} {t : τ} {g : JFrame}
theorem J.tretb {ty : FieldType} {x : Int32} {o : Option τ} (k : jnr ty x = true → J p l e R s m args below meth c G σ0 Q fin t o σ g) : J p l e R s m args below meth c G σ0 Q fin t (jbo ty x o) σ g := by
  unfold jbo
  split
  · next h => exact k h
  · exact J.nil_
end JB
theorem jnil_all {α : Type} {P : α → Prop} : ∀ x ∈ ([] : List α), P x := fun _ h => nomatch h

theorem jth0_g : ∀ w ∈ (vx_at0 "SortingLoop" 9 "java/lang/IllegalArgumentException" ["java/lang/RuntimeException", "java/lang/Exception"]).filter goodWord, w ∈ lw_all := lw_in _ [143, 248, 257, 266, 269, 271, 249, 250, 208, 209, 251, 256, 267, 508, 238, 509, 240, 510, 242, 252, 254, 244, 2403, 2404, 2405, 1301, 1301, 1302, 1303, 1304, 1304, 1305, 1306, 249, 2402, 227, 235, 236, 237, 239, 241, 243, 247, 246, 245] (by decide +kernel) (by decide +kernel)
theorem jth0 {G : jG} {s : State} {args : Array Value} (ht : ∀ w ∈ lw_all, w.before args s = true) (h : jGl G s) : ∀ w ∈ vx_at0 "SortingLoop" 9 "java/lang/IllegalArgumentException" ["java/lang/RuntimeException", "java/lang/Exception"], w.before args s = true :=
  vx_hat (B := [.declares ⟨"java/lang/RuntimeException", "<init>", "()V"⟩, .declares ⟨"java/lang/Exception", "<init>", "()V"⟩, .declares ⟨"java/lang/Throwable", "<init>", "()V"⟩, .castable "java/lang/IllegalArgumentException" "java/lang/IllegalArgumentException"]) (fun w hw => ht w (jth0_g w hw)) (fun w hw => List.contains_iff_mem.mp (List.all_eq_true.mp (show ((vx_at0 "SortingLoop" 9 "java/lang/IllegalArgumentException" ["java/lang/RuntimeException", "java/lang/Exception"]).filter (fun w => !goodWord w)).all (fun w => ([.declares ⟨"java/lang/RuntimeException", "<init>", "()V"⟩, .declares ⟨"java/lang/Exception", "<init>", "()V"⟩, .declares ⟨"java/lang/Throwable", "<init>", "()V"⟩, .castable "java/lang/IllegalArgumentException" "java/lang/IllegalArgumentException"] : List Cond).contains w) = true by decide +kernel) w hw)) (vx_c (va_Nw.use rfl (h.2.2.2.2.2.2.2.2.2.2.2.1 _ (List.mem_of_getElem? (i := 0) rfl))) (vx_c (va_Nw.use rfl (h.2.2.2.2.2.2.2.2.2.2.2.1 _ (List.mem_of_getElem? (i := 2) rfl))) (vx_c (va_Nw.use rfl (h.2.2.2.2.2.2.2.2.2.2.2.1 _ (List.mem_of_getElem? (i := 4) rfl))) (vx_c (va_Nw.use rfl (h.2.2.2.1 _ (List.mem_of_getElem? (i := 0) rfl))) vx_n))))
theorem jth1_g : ∀ w ∈ (vx_at0 "SortingLoop" 12 "java/lang/IllegalStateException" ["java/lang/RuntimeException", "java/lang/Exception"]).filter goodWord, w ∈ lw_all := lw_in _ [143, 248, 257, 266, 269, 271, 249, 250, 208, 209, 251, 256, 267, 508, 238, 509, 240, 510, 242, 252, 254, 244, 2635, 2636, 2637, 1301, 1301, 1302, 1303, 1304, 1304, 1305, 1306, 249, 2634, 1937, 1939, 261, 1940, 1941, 1942, 1943, 247, 246, 1944] (by decide +kernel) (by decide +kernel)
theorem jth1 {G : jG} {s : State} {args : Array Value} (ht : ∀ w ∈ lw_all, w.before args s = true) (h : jGl G s) : ∀ w ∈ vx_at0 "SortingLoop" 12 "java/lang/IllegalStateException" ["java/lang/RuntimeException", "java/lang/Exception"], w.before args s = true :=
  vx_hat (B := [.declares ⟨"java/lang/RuntimeException", "<init>", "()V"⟩, .declares ⟨"java/lang/Exception", "<init>", "()V"⟩, .declares ⟨"java/lang/Throwable", "<init>", "()V"⟩, .castable "java/lang/IllegalStateException" "java/lang/IllegalStateException"]) (fun w hw => ht w (jth1_g w hw)) (fun w hw => List.contains_iff_mem.mp (List.all_eq_true.mp (show ((vx_at0 "SortingLoop" 12 "java/lang/IllegalStateException" ["java/lang/RuntimeException", "java/lang/Exception"]).filter (fun w => !goodWord w)).all (fun w => ([.declares ⟨"java/lang/RuntimeException", "<init>", "()V"⟩, .declares ⟨"java/lang/Exception", "<init>", "()V"⟩, .declares ⟨"java/lang/Throwable", "<init>", "()V"⟩, .castable "java/lang/IllegalStateException" "java/lang/IllegalStateException"] : List Cond).contains w) = true by decide +kernel) w hw)) (vx_c (va_Nw.use rfl (h.2.2.2.2.2.2.2.2.2.2.2.1 _ (List.mem_of_getElem? (i := 0) rfl))) (vx_c (va_Nw.use rfl (h.2.2.2.2.2.2.2.2.2.2.2.1 _ (List.mem_of_getElem? (i := 2) rfl))) (vx_c (va_Nw.use rfl (h.2.2.2.2.2.2.2.2.2.2.2.1 _ (List.mem_of_getElem? (i := 4) rfl))) (vx_c (va_Nw.use rfl (h.2.2.2.1 _ (List.mem_of_getElem? (i := 13) rfl))) vx_n))))
theorem jth2_g : ∀ w ∈ (vx_at0 "SortingLoop" 3 "java/lang/IndexOutOfBoundsException" ["java/lang/RuntimeException", "java/lang/Exception"]).filter goodWord, w ∈ lw_all := lw_in _ [143, 248, 257, 266, 269, 271, 249, 250, 208, 209, 251, 256, 267, 508, 238, 509, 240, 510, 242, 252, 254, 244, 2436, 2437, 2438, 1301, 1301, 1302, 1303, 1304, 1304, 1305, 1306, 249, 2435, 880, 882, 262, 883, 884, 885, 886, 247, 246, 887] (by decide +kernel) (by decide +kernel)
theorem jth2 {G : jG} {s : State} {args : Array Value} (ht : ∀ w ∈ lw_all, w.before args s = true) (h : jGl G s) : ∀ w ∈ vx_at0 "SortingLoop" 3 "java/lang/IndexOutOfBoundsException" ["java/lang/RuntimeException", "java/lang/Exception"], w.before args s = true :=
  vx_hat (B := [.declares ⟨"java/lang/RuntimeException", "<init>", "()V"⟩, .declares ⟨"java/lang/Exception", "<init>", "()V"⟩, .declares ⟨"java/lang/Throwable", "<init>", "()V"⟩, .castable "java/lang/IndexOutOfBoundsException" "java/lang/IndexOutOfBoundsException"]) (fun w hw => ht w (jth2_g w hw)) (fun w hw => List.contains_iff_mem.mp (List.all_eq_true.mp (show ((vx_at0 "SortingLoop" 3 "java/lang/IndexOutOfBoundsException" ["java/lang/RuntimeException", "java/lang/Exception"]).filter (fun w => !goodWord w)).all (fun w => ([.declares ⟨"java/lang/RuntimeException", "<init>", "()V"⟩, .declares ⟨"java/lang/Exception", "<init>", "()V"⟩, .declares ⟨"java/lang/Throwable", "<init>", "()V"⟩, .castable "java/lang/IndexOutOfBoundsException" "java/lang/IndexOutOfBoundsException"] : List Cond).contains w) = true by decide +kernel) w hw)) (vx_c (va_Nw.use rfl (h.2.2.2.2.2.2.2.2.2.2.2.1 _ (List.mem_of_getElem? (i := 0) rfl))) (vx_c (va_Nw.use rfl (h.2.2.2.2.2.2.2.2.2.2.2.1 _ (List.mem_of_getElem? (i := 2) rfl))) (vx_c (va_Nw.use rfl (h.2.2.2.2.2.2.2.2.2.2.2.1 _ (List.mem_of_getElem? (i := 4) rfl))) (vx_c (va_Nw.use rfl (h.2.2.2.1 _ (List.mem_of_getElem? (i := 4) rfl))) vx_n))))
theorem jth3_g : ∀ w ∈ (vx_at0 "SortingLoop" 15 "java/util/NoSuchElementException" ["java/lang/RuntimeException", "java/lang/Exception"]).filter goodWord, w ∈ lw_all := lw_in _ [143, 248, 257, 266, 269, 271, 249, 250, 208, 209, 251, 256, 267, 508, 238, 509, 240, 510, 242, 252, 254, 244, 1298, 1299, 1300, 1301, 1301, 1302, 1303, 1304, 1304, 1305, 1306, 249, 2693, 1221, 1223, 265, 1224, 1225, 1226, 1227, 247, 246, 1228] (by decide +kernel) (by decide +kernel)
theorem jth3 {G : jG} {s : State} {args : Array Value} (ht : ∀ w ∈ lw_all, w.before args s = true) (h : jGl G s) : ∀ w ∈ vx_at0 "SortingLoop" 15 "java/util/NoSuchElementException" ["java/lang/RuntimeException", "java/lang/Exception"], w.before args s = true :=
  vx_hat (B := [.declares ⟨"java/lang/RuntimeException", "<init>", "()V"⟩, .declares ⟨"java/lang/Exception", "<init>", "()V"⟩, .declares ⟨"java/lang/Throwable", "<init>", "()V"⟩, .castable "java/util/NoSuchElementException" "java/util/NoSuchElementException"]) (fun w hw => ht w (jth3_g w hw)) (fun w hw => List.contains_iff_mem.mp (List.all_eq_true.mp (show ((vx_at0 "SortingLoop" 15 "java/util/NoSuchElementException" ["java/lang/RuntimeException", "java/lang/Exception"]).filter (fun w => !goodWord w)).all (fun w => ([.declares ⟨"java/lang/RuntimeException", "<init>", "()V"⟩, .declares ⟨"java/lang/Exception", "<init>", "()V"⟩, .declares ⟨"java/lang/Throwable", "<init>", "()V"⟩, .castable "java/util/NoSuchElementException" "java/util/NoSuchElementException"] : List Cond).contains w) = true by decide +kernel) w hw)) (vx_c (va_Nw.use rfl (h.2.2.2.2.2.2.2.2.2.2.2.1 _ (List.mem_of_getElem? (i := 0) rfl))) (vx_c (va_Nw.use rfl (h.2.2.2.2.2.2.2.2.2.2.2.1 _ (List.mem_of_getElem? (i := 2) rfl))) (vx_c (va_Nw.use rfl (h.2.2.2.2.2.2.2.2.2.2.2.1 _ (List.mem_of_getElem? (i := 4) rfl))) (vx_c (va_Nw.use rfl (h.2.2.2.1 _ (List.mem_of_getElem? (i := 9) rfl))) vx_n))))
theorem jap_X8 : jap TX8 8 := by unfold jap; decide +kernel
theorem jap_X10 : jap TX10 8 := by unfold jap; decide +kernel
theorem jsl0 {G : jG} {s : State} {args : Array Value} (h : jGl G s) : (Cond.selects "SortingLoop$Setup" ⟨"SortingLoop$Parser", "at", "(I)I"⟩ ⟨"SortingLoop$Parser", "at", "(I)I"⟩).before args s = true := pay_in h.2.2.2.2.2.2.2.2.2.2.2.2.2.1 jSl_g _ (List.mem_of_getElem? (i := 0) rfl) args s (State.WarmedH.refl s)
theorem jsl1 {G : jG} {s : State} {args : Array Value} (h : jGl G s) : (Cond.selects "SortingLoop$Script" ⟨"SortingLoop$Parser", "at", "(I)I"⟩ ⟨"SortingLoop$Parser", "at", "(I)I"⟩).before args s = true := pay_in h.2.2.2.2.2.2.2.2.2.2.2.2.2.1 jSl_g _ (List.mem_of_getElem? (i := 1) rfl) args s (State.WarmedH.refl s)
theorem jsl2 {G : jG} {s : State} {args : Array Value} (h : jGl G s) : (Cond.selects "SortingLoop$Setup" ⟨"SortingLoop$Parser", "past", "(III)I"⟩ ⟨"SortingLoop$Parser", "past", "(III)I"⟩).before args s = true := pay_in h.2.2.2.2.2.2.2.2.2.2.2.2.2.1 jSl_g _ (List.mem_of_getElem? (i := 2) rfl) args s (State.WarmedH.refl s)
theorem jsl3 {G : jG} {s : State} {args : Array Value} (h : jGl G s) : (Cond.selects "SortingLoop$Script" ⟨"SortingLoop$Parser", "past", "(III)I"⟩ ⟨"SortingLoop$Parser", "past", "(III)I"⟩).before args s = true := pay_in h.2.2.2.2.2.2.2.2.2.2.2.2.2.1 jSl_g _ (List.mem_of_getElem? (i := 3) rfl) args s (State.WarmedH.refl s)
theorem jsl4 {G : jG} {s : State} {args : Array Value} (h : jGl G s) : (Cond.selects "SortingLoop$Setup" ⟨"SortingLoop$Parser", "text", "(II)Ljava/lang/String;"⟩ ⟨"SortingLoop$Parser", "text", "(II)Ljava/lang/String;"⟩).before args s = true := pay_in h.2.2.2.2.2.2.2.2.2.2.2.2.2.1 jSl_g _ (List.mem_of_getElem? (i := 4) rfl) args s (State.WarmedH.refl s)
theorem jsl5 {G : jG} {s : State} {args : Array Value} (h : jGl G s) : (Cond.selects "SortingLoop$Script" ⟨"SortingLoop$Parser", "text", "(II)Ljava/lang/String;"⟩ ⟨"SortingLoop$Parser", "text", "(II)Ljava/lang/String;"⟩).before args s = true := pay_in h.2.2.2.2.2.2.2.2.2.2.2.2.2.1 jSl_g _ (List.mem_of_getElem? (i := 5) rfl) args s (State.WarmedH.refl s)
theorem jnd3 {G : jG} {s : State} (h : jGl G s) : va_Nw (.declares ⟨"SortingLoop$Deed", "does", "(LSortingLoop$Loop;)Z"⟩) s := h.2.2.2.2.2.2.2.2.2.2.2.1 ⟨"SortingLoop$Deed", "does", "(LSortingLoop$Loop;)Z"⟩ (List.mem_of_getElem? (i := 31) rfl)
theorem jfw0 {G : jG} {s : State} (h : jGl G s) : va_Fw "java/util/ArrayList" ⟨"java/util/List", "add", "(Ljava/lang/Object;)Z"⟩ ⟨"java/util/ArrayList", "add", "(Ljava/lang/Object;)Z"⟩ s := h.2.2.2.2.1 ("java/util/ArrayList", ⟨"java/util/List", "add", "(Ljava/lang/Object;)Z"⟩, ⟨"java/util/ArrayList", "add", "(Ljava/lang/Object;)Z"⟩) (List.mem_of_getElem? (i := 0) rfl)
theorem jfw1 {G : jG} {s : State} (h : jGl G s) : va_Fw "java/util/LinkedList" ⟨"java/util/List", "add", "(Ljava/lang/Object;)Z"⟩ ⟨"java/util/LinkedList", "add", "(Ljava/lang/Object;)Z"⟩ s := h.2.2.2.2.1 ("java/util/LinkedList", ⟨"java/util/List", "add", "(Ljava/lang/Object;)Z"⟩, ⟨"java/util/LinkedList", "add", "(Ljava/lang/Object;)Z"⟩) (List.mem_of_getElem? (i := 1) rfl)
theorem jfw2 {G : jG} {s : State} (h : jGl G s) : va_Fw "java/util/ArrayList" ⟨"java/util/List", "size", "()I"⟩ ⟨"java/util/ArrayList", "size", "()I"⟩ s := h.2.2.2.2.1 ("java/util/ArrayList", ⟨"java/util/List", "size", "()I"⟩, ⟨"java/util/ArrayList", "size", "()I"⟩) (List.mem_of_getElem? (i := 2) rfl)
theorem jfw3 {G : jG} {s : State} (h : jGl G s) : va_Fw "java/util/LinkedList" ⟨"java/util/List", "size", "()I"⟩ ⟨"java/util/LinkedList", "size", "()I"⟩ s := h.2.2.2.2.1 ("java/util/LinkedList", ⟨"java/util/List", "size", "()I"⟩, ⟨"java/util/LinkedList", "size", "()I"⟩) (List.mem_of_getElem? (i := 3) rfl)
theorem jfw4 {G : jG} {s : State} (h : jGl G s) : va_Fw "java/util/ArrayList" ⟨"java/util/List", "get", "(I)Ljava/lang/Object;"⟩ ⟨"java/util/ArrayList", "get", "(I)Ljava/lang/Object;"⟩ s := h.2.2.2.2.1 ("java/util/ArrayList", ⟨"java/util/List", "get", "(I)Ljava/lang/Object;"⟩, ⟨"java/util/ArrayList", "get", "(I)Ljava/lang/Object;"⟩) (List.mem_of_getElem? (i := 4) rfl)
theorem jfw5 {G : jG} {s : State} (h : jGl G s) : va_Fw "java/util/LinkedList" ⟨"java/util/List", "get", "(I)Ljava/lang/Object;"⟩ ⟨"java/util/LinkedList", "get", "(I)Ljava/lang/Object;"⟩ s := h.2.2.2.2.1 ("java/util/LinkedList", ⟨"java/util/List", "get", "(I)Ljava/lang/Object;"⟩, ⟨"java/util/LinkedList", "get", "(I)Ljava/lang/Object;"⟩) (List.mem_of_getElem? (i := 5) rfl)
theorem jfw6 {G : jG} {s : State} (h : jGl G s) : va_Fw "java/util/ArrayList" ⟨"java/util/List", "remove", "(I)Ljava/lang/Object;"⟩ ⟨"java/util/ArrayList", "remove", "(I)Ljava/lang/Object;"⟩ s := h.2.2.2.2.1 ("java/util/ArrayList", ⟨"java/util/List", "remove", "(I)Ljava/lang/Object;"⟩, ⟨"java/util/ArrayList", "remove", "(I)Ljava/lang/Object;"⟩) (List.mem_of_getElem? (i := 6) rfl)
theorem jfw7 {G : jG} {s : State} (h : jGl G s) : va_Fw "java/util/LinkedList" ⟨"java/util/List", "remove", "(I)Ljava/lang/Object;"⟩ ⟨"java/util/LinkedList", "remove", "(I)Ljava/lang/Object;"⟩ s := h.2.2.2.2.1 ("java/util/LinkedList", ⟨"java/util/List", "remove", "(I)Ljava/lang/Object;"⟩, ⟨"java/util/LinkedList", "remove", "(I)Ljava/lang/Object;"⟩) (List.mem_of_getElem? (i := 7) rfl)
theorem jfw8 {G : jG} {s : State} (h : jGl G s) : va_Fw "java/util/ArrayList" ⟨"java/util/List", "set", "(ILjava/lang/Object;)Ljava/lang/Object;"⟩ ⟨"java/util/ArrayList", "set", "(ILjava/lang/Object;)Ljava/lang/Object;"⟩ s := h.2.2.2.2.1 ("java/util/ArrayList", ⟨"java/util/List", "set", "(ILjava/lang/Object;)Ljava/lang/Object;"⟩, ⟨"java/util/ArrayList", "set", "(ILjava/lang/Object;)Ljava/lang/Object;"⟩) (List.mem_of_getElem? (i := 8) rfl)
theorem jfw9 {G : jG} {s : State} (h : jGl G s) : va_Fw "java/util/LinkedList" ⟨"java/util/List", "set", "(ILjava/lang/Object;)Ljava/lang/Object;"⟩ ⟨"java/util/LinkedList", "set", "(ILjava/lang/Object;)Ljava/lang/Object;"⟩ s := h.2.2.2.2.1 ("java/util/LinkedList", ⟨"java/util/List", "set", "(ILjava/lang/Object;)Ljava/lang/Object;"⟩, ⟨"java/util/LinkedList", "set", "(ILjava/lang/Object;)Ljava/lang/Object;"⟩) (List.mem_of_getElem? (i := 9) rfl)
theorem jfw10 {G : jG} {s : State} (h : jGl G s) : va_Fw "java/util/ArrayList" ⟨"java/util/List", "clear", "()V"⟩ ⟨"java/util/ArrayList", "clear", "()V"⟩ s := h.2.2.2.2.1 ("java/util/ArrayList", ⟨"java/util/List", "clear", "()V"⟩, ⟨"java/util/ArrayList", "clear", "()V"⟩) (List.mem_of_getElem? (i := 10) rfl)
theorem jfw11 {G : jG} {s : State} (h : jGl G s) : va_Fw "java/util/LinkedList" ⟨"java/util/List", "clear", "()V"⟩ ⟨"java/util/LinkedList", "clear", "()V"⟩ s := h.2.2.2.2.1 ("java/util/LinkedList", ⟨"java/util/List", "clear", "()V"⟩, ⟨"java/util/LinkedList", "clear", "()V"⟩) (List.mem_of_getElem? (i := 11) rfl)
theorem jfw12 {G : jG} {s : State} (h : jGl G s) : va_Fw "java/util/ArrayList" ⟨"java/util/List", "iterator", "()Ljava/util/Iterator;"⟩ ⟨"java/util/ArrayList", "iterator", "()Ljava/util/Iterator;"⟩ s := h.2.2.2.2.1 ("java/util/ArrayList", ⟨"java/util/List", "iterator", "()Ljava/util/Iterator;"⟩, ⟨"java/util/ArrayList", "iterator", "()Ljava/util/Iterator;"⟩) (List.mem_of_getElem? (i := 12) rfl)
theorem jfw13 {G : jG} {s : State} (h : jGl G s) : va_Fw "java/util/LinkedList" ⟨"java/util/List", "iterator", "()Ljava/util/Iterator;"⟩ ⟨"java/util/AbstractSequentialList", "iterator", "()Ljava/util/Iterator;"⟩ s := h.2.2.2.2.1 ("java/util/LinkedList", ⟨"java/util/List", "iterator", "()Ljava/util/Iterator;"⟩, ⟨"java/util/AbstractSequentialList", "iterator", "()Ljava/util/Iterator;"⟩) (List.mem_of_getElem? (i := 13) rfl)
theorem jfw14 {G : jG} {s : State} (h : jGl G s) : va_Fw "java/util/AbstractList$ListItr" ⟨"java/util/Iterator", "hasNext", "()Z"⟩ ⟨"java/util/AbstractList$Itr", "hasNext", "()Z"⟩ s := h.2.2.2.2.1 ("java/util/AbstractList$ListItr", ⟨"java/util/Iterator", "hasNext", "()Z"⟩, ⟨"java/util/AbstractList$Itr", "hasNext", "()Z"⟩) (List.mem_of_getElem? (i := 14) rfl)
theorem jfw15 {G : jG} {s : State} (h : jGl G s) : va_Fw "java/util/ArrayList$Itr" ⟨"java/util/Iterator", "hasNext", "()Z"⟩ ⟨"java/util/ArrayList$Itr", "hasNext", "()Z"⟩ s := h.2.2.2.2.1 ("java/util/ArrayList$Itr", ⟨"java/util/Iterator", "hasNext", "()Z"⟩, ⟨"java/util/ArrayList$Itr", "hasNext", "()Z"⟩) (List.mem_of_getElem? (i := 15) rfl)
theorem jfw16 {G : jG} {s : State} (h : jGl G s) : va_Fw "java/util/ArrayList$ListItr" ⟨"java/util/Iterator", "hasNext", "()Z"⟩ ⟨"java/util/ArrayList$Itr", "hasNext", "()Z"⟩ s := h.2.2.2.2.1 ("java/util/ArrayList$ListItr", ⟨"java/util/Iterator", "hasNext", "()Z"⟩, ⟨"java/util/ArrayList$Itr", "hasNext", "()Z"⟩) (List.mem_of_getElem? (i := 16) rfl)
theorem jfw17 {G : jG} {s : State} (h : jGl G s) : va_Fw "java/util/LinkedList$ListItr" ⟨"java/util/Iterator", "hasNext", "()Z"⟩ ⟨"java/util/LinkedList$ListItr", "hasNext", "()Z"⟩ s := h.2.2.2.2.1 ("java/util/LinkedList$ListItr", ⟨"java/util/Iterator", "hasNext", "()Z"⟩, ⟨"java/util/LinkedList$ListItr", "hasNext", "()Z"⟩) (List.mem_of_getElem? (i := 17) rfl)
theorem jfw18 {G : jG} {s : State} (h : jGl G s) : va_Fw "java/util/AbstractList$ListItr" ⟨"java/util/Iterator", "next", "()Ljava/lang/Object;"⟩ ⟨"java/util/AbstractList$Itr", "next", "()Ljava/lang/Object;"⟩ s := h.2.2.2.2.1 ("java/util/AbstractList$ListItr", ⟨"java/util/Iterator", "next", "()Ljava/lang/Object;"⟩, ⟨"java/util/AbstractList$Itr", "next", "()Ljava/lang/Object;"⟩) (List.mem_of_getElem? (i := 18) rfl)
theorem jfw19 {G : jG} {s : State} (h : jGl G s) : va_Fw "java/util/ArrayList$Itr" ⟨"java/util/Iterator", "next", "()Ljava/lang/Object;"⟩ ⟨"java/util/ArrayList$Itr", "next", "()Ljava/lang/Object;"⟩ s := h.2.2.2.2.1 ("java/util/ArrayList$Itr", ⟨"java/util/Iterator", "next", "()Ljava/lang/Object;"⟩, ⟨"java/util/ArrayList$Itr", "next", "()Ljava/lang/Object;"⟩) (List.mem_of_getElem? (i := 19) rfl)
theorem jfw20 {G : jG} {s : State} (h : jGl G s) : va_Fw "java/util/ArrayList$ListItr" ⟨"java/util/Iterator", "next", "()Ljava/lang/Object;"⟩ ⟨"java/util/ArrayList$Itr", "next", "()Ljava/lang/Object;"⟩ s := h.2.2.2.2.1 ("java/util/ArrayList$ListItr", ⟨"java/util/Iterator", "next", "()Ljava/lang/Object;"⟩, ⟨"java/util/ArrayList$Itr", "next", "()Ljava/lang/Object;"⟩) (List.mem_of_getElem? (i := 20) rfl)
theorem jfw21 {G : jG} {s : State} (h : jGl G s) : va_Fw "java/util/LinkedList$ListItr" ⟨"java/util/Iterator", "next", "()Ljava/lang/Object;"⟩ ⟨"java/util/LinkedList$ListItr", "next", "()Ljava/lang/Object;"⟩ s := h.2.2.2.2.1 ("java/util/LinkedList$ListItr", ⟨"java/util/Iterator", "next", "()Ljava/lang/Object;"⟩, ⟨"java/util/LinkedList$ListItr", "next", "()Ljava/lang/Object;"⟩) (List.mem_of_getElem? (i := 21) rfl)
theorem jfw22 {G : jG} {s : State} (h : jGl G s) : va_Fw "java/lang/System$2" ⟨"jdk/internal/access/JavaLangAccess", "getUTF16Char", "([BI)C"⟩ ⟨"java/lang/System$2", "getUTF16Char", "([BI)C"⟩ s := h.2.2.2.2.1 ("java/lang/System$2", ⟨"jdk/internal/access/JavaLangAccess", "getUTF16Char", "([BI)C"⟩, ⟨"java/lang/System$2", "getUTF16Char", "([BI)C"⟩) (List.mem_of_getElem? (i := 22) rfl)
theorem jfw23 {G : jG} {s : State} (h : jGl G s) : va_Fw "java/util/ArrayList" ⟨"java/util/List", "isEmpty", "()Z"⟩ ⟨"java/util/ArrayList", "isEmpty", "()Z"⟩ s := h.2.2.2.2.1 ("java/util/ArrayList", ⟨"java/util/List", "isEmpty", "()Z"⟩, ⟨"java/util/ArrayList", "isEmpty", "()Z"⟩) (List.mem_of_getElem? (i := 23) rfl)
theorem jfw24 {G : jG} {s : State} (h : jGl G s) : va_Fw "java/util/LinkedList" ⟨"java/util/List", "isEmpty", "()Z"⟩ ⟨"java/util/AbstractCollection", "isEmpty", "()Z"⟩ s := h.2.2.2.2.1 ("java/util/LinkedList", ⟨"java/util/List", "isEmpty", "()Z"⟩, ⟨"java/util/AbstractCollection", "isEmpty", "()Z"⟩) (List.mem_of_getElem? (i := 24) rfl)
theorem jfw25 {G : jG} {s : State} (h : jGl G s) : va_Fw "java/util/ArrayList" ⟨"java/util/List", "add", "(ILjava/lang/Object;)V"⟩ ⟨"java/util/ArrayList", "add", "(ILjava/lang/Object;)V"⟩ s := h.2.2.2.2.1 ("java/util/ArrayList", ⟨"java/util/List", "add", "(ILjava/lang/Object;)V"⟩, ⟨"java/util/ArrayList", "add", "(ILjava/lang/Object;)V"⟩) (List.mem_of_getElem? (i := 25) rfl)
theorem jfw26 {G : jG} {s : State} (h : jGl G s) : va_Fw "java/util/LinkedList" ⟨"java/util/List", "add", "(ILjava/lang/Object;)V"⟩ ⟨"java/util/LinkedList", "add", "(ILjava/lang/Object;)V"⟩ s := h.2.2.2.2.1 ("java/util/LinkedList", ⟨"java/util/List", "add", "(ILjava/lang/Object;)V"⟩, ⟨"java/util/LinkedList", "add", "(ILjava/lang/Object;)V"⟩) (List.mem_of_getElem? (i := 26) rfl)
theorem jfw27 {G : jG} {s : State} (h : jGl G s) : va_Fw "java/util/ArrayList" ⟨"java/util/List", "contains", "(Ljava/lang/Object;)Z"⟩ ⟨"java/util/ArrayList", "contains", "(Ljava/lang/Object;)Z"⟩ s := h.2.2.2.2.1 ("java/util/ArrayList", ⟨"java/util/List", "contains", "(Ljava/lang/Object;)Z"⟩, ⟨"java/util/ArrayList", "contains", "(Ljava/lang/Object;)Z"⟩) (List.mem_of_getElem? (i := 27) rfl)
theorem jfw28 {G : jG} {s : State} (h : jGl G s) : va_Fw "java/util/LinkedList" ⟨"java/util/List", "contains", "(Ljava/lang/Object;)Z"⟩ ⟨"java/util/LinkedList", "contains", "(Ljava/lang/Object;)Z"⟩ s := h.2.2.2.2.1 ("java/util/LinkedList", ⟨"java/util/List", "contains", "(Ljava/lang/Object;)Z"⟩, ⟨"java/util/LinkedList", "contains", "(Ljava/lang/Object;)Z"⟩) (List.mem_of_getElem? (i := 28) rfl)
theorem jfw29 {G : jG} {s : State} (h : jGl G s) : va_Fw "SortingLoop$Chute" ⟨"SortingLoop$Numbered", "number", "()I"⟩ ⟨"SortingLoop$Chute", "number", "()I"⟩ s := h.2.2.2.2.1 ("SortingLoop$Chute", ⟨"SortingLoop$Numbered", "number", "()I"⟩, ⟨"SortingLoop$Chute", "number", "()I"⟩) (List.mem_of_getElem? (i := 29) rfl)
theorem jfw30 {G : jG} {s : State} (h : jGl G s) : va_Fw "SortingLoop$Parcel" ⟨"SortingLoop$Numbered", "number", "()I"⟩ ⟨"SortingLoop$Parcel", "number", "()I"⟩ s := h.2.2.2.2.1 ("SortingLoop$Parcel", ⟨"SortingLoop$Numbered", "number", "()I"⟩, ⟨"SortingLoop$Parcel", "number", "()I"⟩) (List.mem_of_getElem? (i := 30) rfl)
theorem jnf0 : (("java/util/ArrayList$Itr", 28, "java/util/ArrayList", "size", "I", "java/util/ArrayList") : String × Nat × String × String × String × String) ∈ jNf := List.mem_of_getElem? (i := 0) rfl
theorem jnf1 : (("SortingLoop$Setup", 55, "SortingLoop$Loop", "cells", "I", "SortingLoop") : String × Nat × String × String × String × String) ∈ jNf := List.mem_of_getElem? (i := 1) rfl
theorem jnf2 : (("SortingLoop", 178, "SortingLoop$Loop", "cells", "I", "SortingLoop") : String × Nat × String × String × String × String) ∈ jNf := List.mem_of_getElem? (i := 2) rfl
theorem jnf3 : (("SortingLoop", 181, "SortingLoop$Loop", "in", "I", "SortingLoop") : String × Nat × String × String × String × String) ∈ jNf := List.mem_of_getElem? (i := 3) rfl
theorem jnf4 : (("SortingLoop$Setup", 62, "SortingLoop$Loop", "scanners", "[Z", "SortingLoop") : String × Nat × String × String × String × String) ∈ jNf := List.mem_of_getElem? (i := 4) rfl
theorem jnf5 : (("SortingLoop", 65, "SortingLoop$Loop", "scanners", "[Z", "SortingLoop") : String × Nat × String × String × String × String) ∈ jNf := List.mem_of_getElem? (i := 5) rfl
theorem jnf6 : (("SortingLoop$Script", 54, "SortingLoop$Loop", "chutes", "Ljava/util/List;", "SortingLoop") : String × Nat × String × String × String × String) ∈ jNf := List.mem_of_getElem? (i := 6) rfl
theorem jnf7 : (("SortingLoop$Setup", 66, "SortingLoop$Loop", "chutes", "Ljava/util/List;", "SortingLoop") : String × Nat × String × String × String × String) ∈ jNf := List.mem_of_getElem? (i := 7) rfl
theorem jnf8 : (("SortingLoop", 69, "SortingLoop$Loop", "chutes", "Ljava/util/List;", "SortingLoop") : String × Nat × String × String × String × String) ∈ jNf := List.mem_of_getElem? (i := 8) rfl
theorem jnf9 : (("SortingLoop$Slipping", 13, "SortingLoop$Loop", "parcels", "Ljava/util/List;", "SortingLoop") : String × Nat × String × String × String × String) ∈ jNf := List.mem_of_getElem? (i := 9) rfl
theorem jnf10 : (("SortingLoop", 154, "SortingLoop$Loop", "parcels", "Ljava/util/List;", "SortingLoop") : String × Nat × String × String × String × String) ∈ jNf := List.mem_of_getElem? (i := 10) rfl
theorem jnf11 : (("SortingLoop", 227, "SortingLoop$Loop", "ring", "LSortingLoop$Places;", "SortingLoop") : String × Nat × String × String × String × String) ∈ jNf := List.mem_of_getElem? (i := 11) rfl
theorem jnf12 : (("SortingLoop", 210, "SortingLoop$Loop", "accounts", "[I", "SortingLoop") : String × Nat × String × String × String × String) ∈ jNf := List.mem_of_getElem? (i := 12) rfl
theorem jnf13 : (("SortingLoop$Ticking", 9, "SortingLoop$Loop", "tick", "I", "SortingLoop") : String × Nat × String × String × String × String) ∈ jNf := List.mem_of_getElem? (i := 13) rfl
theorem jnf14 : (("SortingLoop", 187, "SortingLoop$Loop", "tick", "I", "SortingLoop") : String × Nat × String × String × String × String) ∈ jNf := List.mem_of_getElem? (i := 14) rfl
theorem jnf15 : (("SortingLoop$Setup", 100, "SortingLoop$Loop", "rounds", "I", "SortingLoop") : String × Nat × String × String × String × String) ∈ jNf := List.mem_of_getElem? (i := 15) rfl
theorem jnf16 : (("SortingLoop", 190, "SortingLoop$Loop", "rounds", "I", "SortingLoop") : String × Nat × String × String × String × String) ∈ jNf := List.mem_of_getElem? (i := 16) rfl
theorem jnf17 : (("SortingLoop$Loop", 214, "SortingLoop$Chute", "number", "I", "SortingLoop") : String × Nat × String × String × String × String) ∈ jNf := List.mem_of_getElem? (i := 17) rfl
theorem jnf18 : (("SortingLoop$Loop", 173, "SortingLoop$Chute", "cell", "I", "SortingLoop") : String × Nat × String × String × String × String) ∈ jNf := List.mem_of_getElem? (i := 18) rfl
theorem jnf19 : (("SortingLoop", 274, "SortingLoop$Chute", "cell", "I", "SortingLoop") : String × Nat × String × String × String × String) ∈ jNf := List.mem_of_getElem? (i := 19) rfl
theorem jnf20 : (("SortingLoop", 275, "SortingLoop$Chute", "capacity", "I", "SortingLoop") : String × Nat × String × String × String × String) ∈ jNf := List.mem_of_getElem? (i := 20) rfl
theorem jnf21 : (("SortingLoop$Loop", 220, "SortingLoop$Chute", "reset", "I", "SortingLoop") : String × Nat × String × String × String × String) ∈ jNf := List.mem_of_getElem? (i := 21) rfl
theorem jnf22 : (("SortingLoop", 281, "SortingLoop$Chute", "reset", "I", "SortingLoop") : String × Nat × String × String × String × String) ∈ jNf := List.mem_of_getElem? (i := 22) rfl
theorem jnf23 : (("SortingLoop$Loop", 125, "SortingLoop$Chute", "held", "Ljava/util/List;", "SortingLoop") : String × Nat × String × String × String × String) ∈ jNf := List.mem_of_getElem? (i := 23) rfl
theorem jnf24 : (("SortingLoop", 291, "SortingLoop$Chute", "held", "Ljava/util/List;", "SortingLoop") : String × Nat × String × String × String × String) ∈ jNf := List.mem_of_getElem? (i := 24) rfl
theorem jnf25 : (("SortingLoop$Loop", 147, "SortingLoop$Chute", "window", "I", "SortingLoop") : String × Nat × String × String × String × String) ∈ jNf := List.mem_of_getElem? (i := 25) rfl
theorem jnf26 : (("SortingLoop", 278, "SortingLoop$Chute", "window", "I", "SortingLoop") : String × Nat × String × String × String × String) ∈ jNf := List.mem_of_getElem? (i := 26) rfl
theorem jnf27 : (("SortingLoop$Loop", 150, "SortingLoop$Chute", "rest", "I", "SortingLoop") : String × Nat × String × String × String × String) ∈ jNf := List.mem_of_getElem? (i := 27) rfl
theorem jnf28 : (("SortingLoop", 284, "SortingLoop$Chute", "rest", "I", "SortingLoop") : String × Nat × String × String × String × String) ∈ jNf := List.mem_of_getElem? (i := 28) rfl
theorem jnf29 : (("SortingLoop$Loop", 153, "SortingLoop$Chute", "got", "I", "SortingLoop") : String × Nat × String × String × String × String) ∈ jNf := List.mem_of_getElem? (i := 29) rfl
theorem jnf30 : (("SortingLoop", 297, "SortingLoop$Chute", "got", "I", "SortingLoop") : String × Nat × String × String × String × String) ∈ jNf := List.mem_of_getElem? (i := 30) rfl
theorem jnf31 : (("SortingLoop$Loop", 156, "SortingLoop$Chute", "open", "Z", "SortingLoop") : String × Nat × String × String × String × String) ∈ jNf := List.mem_of_getElem? (i := 31) rfl
theorem jnf32 : (("SortingLoop", 287, "SortingLoop$Chute", "open", "Z", "SortingLoop") : String × Nat × String × String × String × String) ∈ jNf := List.mem_of_getElem? (i := 32) rfl
theorem jnf33 : (("SortingLoop$Loop", 144, "SortingLoop$Parcel", "number", "I", "SortingLoop") : String × Nat × String × String × String × String) ∈ jNf := List.mem_of_getElem? (i := 33) rfl
theorem jnf34 : (("SortingLoop", 303, "SortingLoop$Parcel", "number", "I", "SortingLoop") : String × Nat × String × String × String × String) ∈ jNf := List.mem_of_getElem? (i := 34) rfl
theorem jnf35 : (("SortingLoop$Loop", 88, "SortingLoop$Parcel", "dest", "I", "SortingLoop") : String × Nat × String × String × String × String) ∈ jNf := List.mem_of_getElem? (i := 35) rfl
theorem jnf36 : (("SortingLoop$Chute", 61, "SortingLoop$Parcel", "dest", "I", "SortingLoop") : String × Nat × String × String × String × String) ∈ jNf := List.mem_of_getElem? (i := 36) rfl
theorem jnf37 : (("SortingLoop", 252, "SortingLoop$Parcel", "dest", "I", "SortingLoop") : String × Nat × String × String × String × String) ∈ jNf := List.mem_of_getElem? (i := 37) rfl
theorem jnf38 : (("SortingLoop$Loop", 207, "SortingLoop$Parcel", "torn", "I", "SortingLoop") : String × Nat × String × String × String × String) ∈ jNf := List.mem_of_getElem? (i := 38) rfl
theorem jnf39 : (("SortingLoop", 255, "SortingLoop$Parcel", "torn", "I", "SortingLoop") : String × Nat × String × String × String × String) ∈ jNf := List.mem_of_getElem? (i := 39) rfl
theorem jnf40 : (("SortingLoop$Loop", 202, "SortingLoop$Parcel", "laps", "I", "SortingLoop") : String × Nat × String × String × String × String) ∈ jNf := List.mem_of_getElem? (i := 40) rfl
theorem jnf41 : (("SortingLoop", 258, "SortingLoop$Parcel", "laps", "I", "SortingLoop") : String × Nat × String × String × String × String) ∈ jNf := List.mem_of_getElem? (i := 41) rfl
theorem jnf42 : (("SortingLoop$Loop", 178, "SortingLoop$Parcel", "what", "I", "SortingLoop") : String × Nat × String × String × String × String) ∈ jNf := List.mem_of_getElem? (i := 42) rfl
theorem jnf43 : (("SortingLoop", 261, "SortingLoop$Parcel", "what", "I", "SortingLoop") : String × Nat × String × String × String × String) ∈ jNf := List.mem_of_getElem? (i := 43) rfl
theorem jnf44 : (("SortingLoop$Loop", 105, "SortingLoop$Parcel", "cell", "I", "SortingLoop") : String × Nat × String × String × String × String) ∈ jNf := List.mem_of_getElem? (i := 44) rfl
theorem jnf45 : (("SortingLoop", 264, "SortingLoop$Parcel", "cell", "I", "SortingLoop") : String × Nat × String × String × String × String) ∈ jNf := List.mem_of_getElem? (i := 45) rfl
theorem jnf46 : (("SortingLoop$Loop", 166, "SortingLoop$Parcel", "track", "I", "SortingLoop") : String × Nat × String × String × String × String) ∈ jNf := List.mem_of_getElem? (i := 46) rfl
theorem jnf47 : (("SortingLoop", 221, "SortingLoop$Parcel", "track", "I", "SortingLoop") : String × Nat × String × String × String × String) ∈ jNf := List.mem_of_getElem? (i := 47) rfl
theorem jnf48 : (("SortingLoop$Loop", 215, "SortingLoop$Parcel", "chute", "I", "SortingLoop") : String × Nat × String × String × String × String) ∈ jNf := List.mem_of_getElem? (i := 48) rfl
theorem jnf49 : (("SortingLoop", 267, "SortingLoop$Parcel", "chute", "I", "SortingLoop") : String × Nat × String × String × String × String) ∈ jNf := List.mem_of_getElem? (i := 49) rfl
theorem jnf50 : (("SortingLoop", 269, "SortingLoop$Parcel", "left", "I", "SortingLoop") : String × Nat × String × String × String × String) ∈ jNf := List.mem_of_getElem? (i := 50) rfl
theorem jnf51 : (("SortingLoop$Loop", 188, "SortingLoop$Parcel", "slipped", "Z", "SortingLoop") : String × Nat × String × String × String × String) ∈ jNf := List.mem_of_getElem? (i := 51) rfl
theorem jnf52 : (("SortingLoop", 389, "SortingLoop$Parcel", "slipped", "Z", "SortingLoop") : String × Nat × String × String × String × String) ∈ jNf := List.mem_of_getElem? (i := 52) rfl
theorem jnf53 : (("SortingLoop$Parser", 28, "SortingLoop", "input", "[B", "SortingLoop") : String × Nat × String × String × String × String) ∈ jNf := List.mem_of_getElem? (i := 53) rfl
theorem jnf54 : (("SortingLoop$Parser", 24, "SortingLoop", "inputLength", "I", "SortingLoop") : String × Nat × String × String × String × String) ∈ jNf := List.mem_of_getElem? (i := 54) rfl
theorem jnf55 : (("SortingLoop$Script", 50, "SortingLoop", "now", "LSortingLoop$Loop;", "SortingLoop") : String × Nat × String × String × String × String) ∈ jNf := List.mem_of_getElem? (i := 55) rfl
theorem jnf56 : (("SortingLoop", 98, "SortingLoop$ParseException", "code", "I", "SortingLoop") : String × Nat × String × String × String × String) ∈ jNf := List.mem_of_getElem? (i := 56) rfl
theorem jnf57 : (("SortingLoop", 103, "SortingLoop$ParseException", "offset", "I", "SortingLoop") : String × Nat × String × String × String × String) ∈ jNf := List.mem_of_getElem? (i := 57) rfl
theorem jnm0 {G : jG} {s : State} (h : jGl G s) : va_Nw (.methodLinkNest "SortingLoop" 111 ⟨"SortingLoop$Setup", "<init>", "(LSortingLoop;)V"⟩ "SortingLoop") s := h.2.2.1 ("SortingLoop", 111, ⟨"SortingLoop$Setup", "<init>", "(LSortingLoop;)V"⟩, "SortingLoop") (List.mem_of_getElem? (i := 0) rfl)
theorem jnm1 {G : jG} {s : State} (h : jGl G s) : va_Nw (.methodLinkNest "SortingLoop$Parser" 36 ⟨"SortingLoop", "isIn", "(JJJ)Z"⟩ "SortingLoop") s := h.2.2.1 ("SortingLoop$Parser", 36, ⟨"SortingLoop", "isIn", "(JJJ)Z"⟩, "SortingLoop") (List.mem_of_getElem? (i := 1) rfl)
theorem jnm2 {G : jG} {s : State} (h : jGl G s) : va_Nw (.methodLinkNest "SortingLoop$Loop" 174 ⟨"SortingLoop", "bit", "(Z)I"⟩ "SortingLoop") s := h.2.2.1 ("SortingLoop$Loop", 174, ⟨"SortingLoop", "bit", "(Z)I"⟩, "SortingLoop") (List.mem_of_getElem? (i := 2) rfl)
theorem jnm3 {G : jG} {s : State} (h : jGl G s) : va_Nw (.methodLinkNest "SortingLoop" 133 ⟨"SortingLoop$Script", "<init>", "(LSortingLoop;)V"⟩ "SortingLoop") s := h.2.2.1 ("SortingLoop", 133, ⟨"SortingLoop$Script", "<init>", "(LSortingLoop;)V"⟩, "SortingLoop") (List.mem_of_getElem? (i := 3) rfl)
theorem jnm4 {G : jG} {s : State} (h : jGl G s) : va_Nw (.methodLinkNest "SortingLoop$Chute" 64 ⟨"SortingLoop", "bit", "(Z)I"⟩ "SortingLoop") s := h.2.2.1 ("SortingLoop$Chute", 64, ⟨"SortingLoop", "bit", "(Z)I"⟩, "SortingLoop") (List.mem_of_getElem? (i := 4) rfl)
theorem jnc0 : (("java/lang/IllegalArgumentException", "java/lang/IllegalArgumentException") : String × String) ∈ jNc := List.mem_of_getElem? (i := 0) rfl
theorem jnc1 : (("[B", "java/lang/Cloneable") : String × String) ∈ jNc := List.mem_of_getElem? (i := 1) rfl
theorem jnc2 : (("java/util/ArrayList", "java/util/List") : String × String) ∈ jNc := List.mem_of_getElem? (i := 2) rfl
theorem jnc3 : (("java/util/LinkedList", "java/util/List") : String × String) ∈ jNc := List.mem_of_getElem? (i := 3) rfl
theorem jnc4 : (("java/lang/IndexOutOfBoundsException", "java/lang/IndexOutOfBoundsException") : String × String) ∈ jNc := List.mem_of_getElem? (i := 4) rfl
theorem jnc5 : (("java/util/AbstractList$ListItr", "java/util/Iterator") : String × String) ∈ jNc := List.mem_of_getElem? (i := 5) rfl
theorem jnc6 : (("java/util/ArrayList$Itr", "java/util/Iterator") : String × String) ∈ jNc := List.mem_of_getElem? (i := 6) rfl
theorem jnc7 : (("java/util/ArrayList$ListItr", "java/util/Iterator") : String × String) ∈ jNc := List.mem_of_getElem? (i := 7) rfl
theorem jnc8 : (("java/util/LinkedList$ListItr", "java/util/Iterator") : String × String) ∈ jNc := List.mem_of_getElem? (i := 8) rfl
theorem jnc9 : (("java/util/NoSuchElementException", "java/util/NoSuchElementException") : String × String) ∈ jNc := List.mem_of_getElem? (i := 9) rfl
theorem jnc10 : (("java/lang/NumberFormatException", "java/lang/NumberFormatException") : String × String) ∈ jNc := List.mem_of_getElem? (i := 10) rfl
theorem jnc11 : (("SortingLoop$ParseException", "SortingLoop$ParseException") : String × String) ∈ jNc := List.mem_of_getElem? (i := 11) rfl
theorem jnc12 : (("java/lang/System$2", "jdk/internal/access/JavaLangAccess") : String × String) ∈ jNc := List.mem_of_getElem? (i := 12) rfl
theorem jnc13 : (("java/lang/IllegalStateException", "java/lang/IllegalStateException") : String × String) ∈ jNc := List.mem_of_getElem? (i := 13) rfl
theorem jnc14 : (("SortingLoop$Chute", "SortingLoop$Numbered") : String × String) ∈ jNc := List.mem_of_getElem? (i := 14) rfl
theorem jnc15 : (("SortingLoop$Parcel", "SortingLoop$Numbered") : String × String) ∈ jNc := List.mem_of_getElem? (i := 15) rfl
theorem jnc16 : (("java/lang/ArrayIndexOutOfBoundsException", "java/lang/ArrayIndexOutOfBoundsException") : String × String) ∈ jNc := List.mem_of_getElem? (i := 16) rfl
theorem jnc17 : (("java/lang/NumberFormatException", "java/lang/IllegalArgumentException") : String × String) ∈ jNc := List.mem_of_getElem? (i := 17) rfl
theorem jnc18 : (("java/lang/ArrayIndexOutOfBoundsException", "java/lang/IndexOutOfBoundsException") : String × String) ∈ jNc := List.mem_of_getElem? (i := 18) rfl
theorem jnc19 : (("java/lang/StringIndexOutOfBoundsException", "java/lang/IndexOutOfBoundsException") : String × String) ∈ jNc := List.mem_of_getElem? (i := 19) rfl
theorem jnc20 : (("SortingLoop$Emptying", "SortingLoop$Deed") : String × String) ∈ jNc := List.mem_of_getElem? (i := 20) rfl
theorem jnc21 : (("SortingLoop$Opening", "SortingLoop$Deed") : String × String) ∈ jNc := List.mem_of_getElem? (i := 21) rfl
theorem jnc22 : (("SortingLoop$Putting", "SortingLoop$Deed") : String × String) ∈ jNc := List.mem_of_getElem? (i := 22) rfl
theorem jnc23 : (("SortingLoop$Setting", "SortingLoop$Deed") : String × String) ∈ jNc := List.mem_of_getElem? (i := 23) rfl
theorem jnc24 : (("SortingLoop$Slipping", "SortingLoop$Deed") : String × String) ∈ jNc := List.mem_of_getElem? (i := 24) rfl
theorem jnc25 : (("SortingLoop$Ticking", "SortingLoop$Deed") : String × String) ∈ jNc := List.mem_of_getElem? (i := 25) rfl
theorem jnc26 : (("SortingLoop", "java/lang/Object") : String × String) ∈ jNc := List.mem_of_getElem? (i := 26) rfl
theorem jnc27 : (("SortingLoop$Loop", "java/lang/Object") : String × String) ∈ jNc := List.mem_of_getElem? (i := 27) rfl
theorem jnc28 : (("java/util/ArrayList", "java/lang/Object") : String × String) ∈ jNc := List.mem_of_getElem? (i := 28) rfl
theorem jnc29 : (("java/lang/IllegalArgumentException", "java/lang/Object") : String × String) ∈ jNc := List.mem_of_getElem? (i := 29) rfl
theorem jnc30 : (("java/lang/StringBuilder", "java/lang/Object") : String × String) ∈ jNc := List.mem_of_getElem? (i := 30) rfl
theorem jnc31 : (("java/lang/String", "java/lang/Object") : String × String) ∈ jNc := List.mem_of_getElem? (i := 31) rfl
theorem jnc32 : (("SortingLoop$Places", "java/lang/Object") : String × String) ∈ jNc := List.mem_of_getElem? (i := 32) rfl
theorem jnc33 : (("SortingLoop$Chute", "java/lang/Object") : String × String) ∈ jNc := List.mem_of_getElem? (i := 33) rfl
theorem jnc34 : (("java/util/LinkedList", "java/lang/Object") : String × String) ∈ jNc := List.mem_of_getElem? (i := 34) rfl
theorem jnc35 : (("java/util/LinkedList$Node", "java/lang/Object") : String × String) ∈ jNc := List.mem_of_getElem? (i := 35) rfl
theorem jnc36 : (("java/util/ArrayDeque", "java/lang/Object") : String × String) ∈ jNc := List.mem_of_getElem? (i := 36) rfl
theorem jnc37 : (("java/lang/IndexOutOfBoundsException", "java/lang/Object") : String × String) ∈ jNc := List.mem_of_getElem? (i := 37) rfl
theorem jnc38 : (("SortingLoop$Parcel", "java/lang/Object") : String × String) ∈ jNc := List.mem_of_getElem? (i := 38) rfl
theorem jnc39 : (("java/util/ArrayList$Itr", "java/lang/Object") : String × String) ∈ jNc := List.mem_of_getElem? (i := 39) rfl
theorem jnc40 : (("java/util/AbstractList$ListItr", "java/lang/Object") : String × String) ∈ jNc := List.mem_of_getElem? (i := 40) rfl
theorem jnc41 : (("java/util/ArrayList$ListItr", "java/lang/Object") : String × String) ∈ jNc := List.mem_of_getElem? (i := 41) rfl
theorem jnc42 : (("java/util/LinkedList$ListItr", "java/lang/Object") : String × String) ∈ jNc := List.mem_of_getElem? (i := 42) rfl
theorem jnc43 : (("java/util/NoSuchElementException", "java/lang/Object") : String × String) ∈ jNc := List.mem_of_getElem? (i := 43) rfl
theorem jnc44 : (("SortingLoopModel", "java/lang/Object") : String × String) ∈ jNc := List.mem_of_getElem? (i := 44) rfl
theorem jnc45 : (("SortingLoop$Setup", "java/lang/Object") : String × String) ∈ jNc := List.mem_of_getElem? (i := 45) rfl
theorem jnc46 : (("java/lang/NumberFormatException", "java/lang/Object") : String × String) ∈ jNc := List.mem_of_getElem? (i := 46) rfl
theorem jnc47 : (("java/lang/CharacterDataLatin1", "java/lang/Object") : String × String) ∈ jNc := List.mem_of_getElem? (i := 47) rfl
theorem jnc48 : (("SortingLoop$ParseException", "java/lang/Object") : String × String) ∈ jNc := List.mem_of_getElem? (i := 48) rfl
theorem jnc49 : (("java/lang/System$2", "java/lang/Object") : String × String) ∈ jNc := List.mem_of_getElem? (i := 49) rfl
theorem jnc50 : (("SortingLoop$Script", "java/lang/Object") : String × String) ∈ jNc := List.mem_of_getElem? (i := 50) rfl
theorem jnc51 : (("SortingLoop$Putting", "java/lang/Object") : String × String) ∈ jNc := List.mem_of_getElem? (i := 51) rfl
theorem jnc52 : (("SortingLoop$Ticking", "java/lang/Object") : String × String) ∈ jNc := List.mem_of_getElem? (i := 52) rfl
theorem jnc53 : (("SortingLoop$Slipping", "java/lang/Object") : String × String) ∈ jNc := List.mem_of_getElem? (i := 53) rfl
theorem jnc54 : (("SortingLoop$Emptying", "java/lang/Object") : String × String) ∈ jNc := List.mem_of_getElem? (i := 54) rfl
theorem jnc55 : (("SortingLoop$Opening", "java/lang/Object") : String × String) ∈ jNc := List.mem_of_getElem? (i := 55) rfl
theorem jnc56 : (("SortingLoop$Setting", "java/lang/Object") : String × String) ∈ jNc := List.mem_of_getElem? (i := 56) rfl
theorem jnc57 : (("java/lang/IllegalStateException", "java/lang/Object") : String × String) ∈ jNc := List.mem_of_getElem? (i := 57) rfl
theorem jnc58 : (("java/lang/ArrayIndexOutOfBoundsException", "java/lang/Object") : String × String) ∈ jNc := List.mem_of_getElem? (i := 58) rfl
theorem jnc59 : (("java/lang/StringIndexOutOfBoundsException", "java/lang/Object") : String × String) ∈ jNc := List.mem_of_getElem? (i := 59) rfl
theorem jnc60 : (("java/lang/Throwable", "java/lang/Object") : String × String) ∈ jNc := List.mem_of_getElem? (i := 60) rfl
theorem jnc61 : (("SortingLoop$Parser", "java/lang/Object") : String × String) ∈ jNc := List.mem_of_getElem? (i := 61) rfl
theorem jnc62 : (("[Ljava/lang/Object;", "java/lang/Object") : String × String) ∈ jNc := List.mem_of_getElem? (i := 62) rfl
theorem jnc63 : (("[B", "java/lang/Object") : String × String) ∈ jNc := List.mem_of_getElem? (i := 63) rfl
theorem jnc64 : (("[I", "java/lang/Object") : String × String) ∈ jNc := List.mem_of_getElem? (i := 64) rfl
theorem jnc65 : (("[Z", "java/lang/Object") : String × String) ∈ jNc := List.mem_of_getElem? (i := 65) rfl
theorem jnc66 : (("[J", "java/lang/Object") : String × String) ∈ jNc := List.mem_of_getElem? (i := 66) rfl
theorem jsl8 {G : jG} {s : State} {args : Array Value} (h : jGl G s) : (Cond.selects "java/lang/StringBuilder" ⟨"java/lang/AbstractStringBuilder", "newCapacity", "(I)I"⟩ ⟨"java/lang/AbstractStringBuilder", "newCapacity", "(I)I"⟩).before args s = true := pay_in h.2.2.2.2.2.2.2.2.2.2.2.2.2.1 jSl_g _ (List.mem_of_getElem? (i := 8) rfl) args s (State.WarmedH.refl s)
theorem jsl9 {G : jG} {s : State} {args : Array Value} (h : jGl G s) : (Cond.selects "java/lang/StringBuilder" ⟨"java/lang/AbstractStringBuilder", "ensureCapacityInternal", "(I)V"⟩ ⟨"java/lang/AbstractStringBuilder", "ensureCapacityInternal", "(I)V"⟩).before args s = true := pay_in h.2.2.2.2.2.2.2.2.2.2.2.2.2.1 jSl_g _ (List.mem_of_getElem? (i := 9) rfl) args s (State.WarmedH.refl s)
section HW2
variable {R : Room} {s : State} {args : Array Value} {own C owner : String} {idx : Nat} {x y : MethodName} {b : ByteArray} {L mc ms : Nat} {r : Option FieldType} {rm : Room}
theorem jcwQ (n : Nat) (ht : ∀ w ∈ lw_all, w.before args s = true) (h1 : Cond.methodLink own idx y ∈ lw_all) (h2 : Cond.instanceMethod y ∈ lw_all) (h3 : Cond.initialized y.cls ∈ lw_all) (h4 : Cond.code y b L r ∈ lw_all) (hrc : rm.cells = mc) (hrs : rm.slots = ms)
    (hd : y.cls ≠ "java/lang/invoke/MethodHandle" ∧ y.cls ≠ "java/lang/invoke/VarHandle" ∧ (parseMethodDescriptor y.desc).map (fun d => d.parameters.length) = some n) (hR : rm.frames + 1 ≤ R.frames ∧ 8 + (L + 11) + rm.locals ≤ R.locals) (hsel : (Cond.selects C y y).before args s = true) :
    CallW R s args own C idx y b L r (ws_ y b L r) rm mc ms n := by
  refine ⟨⟨hrc, hrs, hR.1, hR.2, pay_in ht (lw_meth h4), List.mem_cons_self, ht _ h4, ht _ h3, ⟨hd.1, hd.2.1⟩, fun sig h => ?_, ht _ h1⟩, ht _ h2, hsel⟩
  have h2 := hd.2.2
  rw [h] at h2
  exact (Option.some.inj h2).symm
theorem lw_SU (h1 : Cond.methodLink own idx y ∈ lw_all) (h2 : Cond.sameMethod y.cls y.cls y.name y.desc ∈ lw_all) (h3 : Cond.superclass own y.cls ∈ lw_all) (h4 : Cond.instanceMethod y ∈ lw_all) (h5 : Cond.initialized y.cls ∈ lw_all) (h6 : Cond.code y b L r ∈ lw_all) : GoodIn lw_all (va_wsSU own idx y (ws_ y b L r)) := by
  refine lw_app ?_ (lw_meth h6)
  intro w hw
  simp only [List.mem_cons, List.not_mem_nil, or_false] at hw
  rcases hw with e | e | e | e | e
  · rw [e]; exact h1
  · rw [e]; exact h2
  · rw [e]; exact h3
  · rw [e]; exact h4
  · rw [e]; exact h5
theorem lw_O (h1 : Cond.methodLink own idx x ∈ lw_all) (h2 : Cond.sameMethod x.cls owner x.name x.desc ∈ lw_all) (h0 : Cond.instanceMethod ⟨owner, x.name, x.desc⟩ ∈ lw_all) (h3 : Cond.selects C x y ∈ lw_all) (h4 : Cond.instanceMethod y ∈ lw_all) (h5 : Cond.initialized y.cls ∈ lw_all) (h6 : Cond.code y b L r ∈ lw_all) : GoodIn lw_all (va_wsO own idx C owner x y (ws_ y b L r)) := by
  refine lw_app ?_ (lw_meth h6)
  intro w hw
  simp only [List.mem_cons, List.not_mem_nil, or_false] at hw
  rcases hw with e | e | e | e | e | e
  · rw [e]; exact h1
  · rw [e]; exact h2
  · rw [e]; exact h0
  · rw [e]; exact h3
  · rw [e]; exact h4
  · rw [e]; exact h5
end HW2
