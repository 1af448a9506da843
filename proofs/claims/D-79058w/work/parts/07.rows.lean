/-! contexts, the judgement GW over the ghost heap, one row an instruction (printed by gen/rows07.py) -/
set_option maxRecDepth 100000
def gNF : List (String × Nat × String × String × String × String) := [("CrewPairer", 62, "CrewPairer$State", "legs", "Ljava/util/ArrayList;", "CrewPairer"), ("CrewPairer", 76, "CrewPairer$State", "crews", "Ljava/util/ArrayList;", "CrewPairer"), ("CrewPairer", 190, "CrewPairer$State", "rules", "[I", "CrewPairer"), ("CrewPairer", 124, "CrewPairer$Leg", "from", "I", "CrewPairer"), ("CrewPairer", 127, "CrewPairer$Leg", "to", "I", "CrewPairer"), ("CrewPairer", 130, "CrewPairer$Leg", "departure", "I", "CrewPairer"), ("CrewPairer", 181, "CrewPairer$Leg", "arrival", "I", "CrewPairer"), ("CrewPairer", 171, "CrewPairer$Leg", "isCancelled", "Z", "CrewPairer"), ("CrewPairer", 193, "CrewPairer$Crew", "base", "I", "CrewPairer"), ("CrewPairer", 205, "CrewPairer$Crew", "legs", "[I", "CrewPairer"), ("CrewPairer", 168, "CrewPairer$Crew", "flies", "[Z", "CrewPairer"), ("CrewPairer", 199, "CrewPairer$Crew", "items", "I", "CrewPairer"), ("CrewPairer", 310, "CrewPairer$Crew", "start", "I", "CrewPairer"), ("CrewPairer", 313, "CrewPairer$Crew", "end", "I", "CrewPairer"), ("CrewPairer", 329, "CrewPairer$Cheapest", "best", "LCrewPairer$Priced;", "CrewPairer"), ("CrewPairer", 332, "CrewPairer$Offer", "crew", "I", "CrewPairer"), ("CrewPairer", 354, "CrewPairer$Offer", "other", "I", "CrewPairer"), ("CrewPairer", 357, "CrewPairer$Offer", "price", "I", "CrewPairer"), ("CrewPairer", 506, "CrewPairer$CommandException", "code", "I", "CrewPairer")]
def gNM : List (String × Nat × MethodName × String) := [("CrewPairer", 9, ⟨"CrewPairer$State", "<init>", "()V"⟩, "CrewPairer"), ("CrewPairer", 318, ⟨"CrewPairer$Cheapest", "<init>", "()V"⟩, "CrewPairer")]
def gNC : List (String × String) := [("java/lang/System$2", "jdk/internal/access/JavaLangAccess"), ("java/lang/String", "java/lang/Comparable"), ("java/lang/StringBuilder", "java/lang/Comparable"), ("CrewPairer$Leg", "CrewPairer$Timed"), ("CrewPairer$Offer", "CrewPairer$Priced"), ("[B", "java/lang/Cloneable"), ("java/lang/String", "java/lang/CharSequence"), ("java/lang/StringBuilder", "java/lang/CharSequence"), ("CrewPairer$CommandException", "CrewPairer$CommandException"), ("java/lang/StringBuilder", "java/lang/AbstractStringBuilder"), ("CrewPairer$State", "java/lang/Object"), ("java/lang/String", "java/lang/Object"), ("java/util/HashMap$Node", "java/lang/Object"), ("CrewPairer", "java/lang/Object"), ("java/util/ArrayList", "java/lang/Object"), ("java/lang/StringBuilder", "java/lang/Object"), ("CrewPairerModel", "java/lang/Object"), ("java/util/HashSet", "java/lang/Object"), ("java/util/HashMap", "java/lang/Object"), ("CrewPairer$LegKey", "java/lang/Object"), ("jdk/internal/misc/Unsafe", "java/lang/Object"), ("java/util/HashMap$TreeNode", "java/lang/Object"), ("CrewPairer$Leg", "java/lang/Object"), ("CrewPairer$Crew", "java/lang/Object"), ("CrewPairer$Cheapest", "java/lang/Object"), ("CrewPairer$Offer", "java/lang/Object"), ("java/lang/System$2", "java/lang/Object"), ("CrewPairer$CommandException", "java/lang/Object"), ("java/lang/Throwable", "java/lang/Object"), ("java/util/HashMap$TreeNode", "java/util/HashMap$Node"), ("[I", "java/lang/Object"), ("[LCrewPairer$State;", "java/lang/Object"), ("[Z", "java/lang/Object"), ("[B", "java/lang/Object"), ("[Ljava/lang/String;", "java/lang/Object"), ("[Ljava/lang/Object;", "java/lang/Object"), ("[Ljava/util/HashMap$Node;", "java/lang/Object"), ("[C", "java/lang/Object")]
def gNN : List (String × String) := [("java/util/HashMap$Node", "java/util/HashMap$TreeNode")]
def gAO : List String := ["CrewPairer$State", "java/lang/String", "java/lang/Object", "java/util/HashMap$Node"]
def gFw : List (String × MethodName × MethodName) := [("CrewPairer$Leg", ⟨"CrewPairer$Timed", "arrival", "()I"⟩, ⟨"CrewPairer$Leg", "arrival", "()I"⟩), ("CrewPairer$Leg", ⟨"CrewPairer$Timed", "departure", "()I"⟩, ⟨"CrewPairer$Leg", "departure", "()I"⟩), ("CrewPairer$Leg", ⟨"CrewPairer$Timed", "way", "()Ljava/lang/String;"⟩, ⟨"CrewPairer$Leg", "way", "()Ljava/lang/String;"⟩), ("CrewPairer$Leg", ⟨"CrewPairer$Timed", "text", "(Z)Ljava/lang/CharSequence;"⟩, ⟨"CrewPairer$Timed", "text", "(Z)Ljava/lang/CharSequence;"⟩), ("CrewPairer$Offer", ⟨"CrewPairer$Priced", "price", "()I"⟩, ⟨"CrewPairer$Offer", "price", "()I"⟩), ("CrewPairer$Offer", ⟨"CrewPairer$Priced", "minutes", "()I"⟩, ⟨"CrewPairer$Offer", "minutes", "()I"⟩), ("java/lang/String", ⟨"java/lang/CharSequence", "length", "()I"⟩, ⟨"java/lang/String", "length", "()I"⟩), ("java/lang/String", ⟨"java/lang/CharSequence", "charAt", "(I)C"⟩, ⟨"java/lang/String", "charAt", "(I)C"⟩)]
def gMi : List (String × Nat) := [("[Ljava/lang/Object;", 12)]
def gDe : List MethodName := [⟨"CrewPairer$Timed", "length", "()I"⟩, ⟨"CrewPairer$Timed", "within", "(II)I"⟩, ⟨"CrewPairer$Timed", "text", "(Z)Ljava/lang/CharSequence;"⟩, ⟨"java/lang/Object", "hashCode", "()I"⟩, ⟨"java/lang/Object", "equals", "(Ljava/lang/Object;)Z"⟩, ⟨"java/lang/Object", "getClass", "()Ljava/lang/Class;"⟩]
def gDf : List (String × MethodName × MethodName) := [("CrewPairer$Leg", ⟨"CrewPairer$Leg", "length", "()I"⟩, ⟨"CrewPairer$Timed", "length", "()I"⟩), ("CrewPairer$Leg", ⟨"CrewPairer$Leg", "within", "(II)I"⟩, ⟨"CrewPairer$Timed", "within", "(II)I"⟩), ("CrewPairer$Leg", ⟨"CrewPairer$Timed", "text", "(Z)Ljava/lang/CharSequence;"⟩, ⟨"CrewPairer$Timed", "text", "(Z)Ljava/lang/CharSequence;"⟩)]
def gKw : List Cond := [Cond.methodLink "CrewPairer" 223 ⟨"CrewPairer$Leg", "length", "()I"⟩, Cond.sameMethod "CrewPairer$Leg" "CrewPairer$Timed" "length" "()I", Cond.methodLink "CrewPairer" 226 ⟨"CrewPairer$Leg", "within", "(II)I"⟩, Cond.sameMethod "CrewPairer$Leg" "CrewPairer$Timed" "within" "(II)I", Cond.selects "java/lang/StringBuilder" ⟨"java/lang/AbstractStringBuilder", "ensureCapacityInternal", "(I)V"⟩ ⟨"java/lang/AbstractStringBuilder", "ensureCapacityInternal", "(I)V"⟩, Cond.selects "java/lang/StringBuilder" ⟨"java/lang/AbstractStringBuilder", "newCapacity", "(I)I"⟩ ⟨"java/lang/AbstractStringBuilder", "newCapacity", "(I)I"⟩, Cond.selects "java/lang/StringBuilder" ⟨"java/lang/AbstractStringBuilder", "putStringAt", "(ILjava/lang/String;)V"⟩ ⟨"java/lang/AbstractStringBuilder", "putStringAt", "(ILjava/lang/String;)V"⟩, Cond.selects "java/lang/StringBuilder" ⟨"java/lang/AbstractStringBuilder", "inflateIfNeededFor", "(Ljava/lang/String;)V"⟩ ⟨"java/lang/AbstractStringBuilder", "inflateIfNeededFor", "(Ljava/lang/String;)V"⟩]
/-- statics that nobody writes: references (by the constants' places) and numbers -/
def gZr : List (String × String × String × Nat) := [("java/util/ArrayList", "DEFAULTCAPACITY_EMPTY_ELEMENTDATA", "[Ljava/lang/Object;", 0), ("java/util/HashSet", "PRESENT", "Ljava/lang/Object;", 1), ("java/lang/Integer", "DigitOnes", "[B", 2), ("java/lang/Integer", "DigitTens", "[B", 3), ("java/lang/Throwable", "UNASSIGNED_STACK", "[Ljava/lang/StackTraceElement;", 4), ("java/lang/Throwable", "SUPPRESSED_SENTINEL", "Ljava/util/List;", 5), ("CrewPairerModel", "FIRST", "[I", 6), ("CrewPairerModel", "LEAST", "[I", 7), ("CrewPairerModel", "MOST", "[I", 8), ("jdk/internal/util/Preconditions", "SIOOBE_FORMATTER", "Ljava/util/function/BiFunction;", 9), ("jdk/internal/util/Preconditions", "IOOBE_FORMATTER", "Ljava/util/function/BiFunction;", 10)]
def gZi : List (String × String × String × Int32) := [("java/lang/String", "COMPACT_STRINGS", "Z", 1), ("java/util/HashMap$TreeNode", "$assertionsDisabled", "Z", 1)]
/-- String constants: class, entry, text, place -/
def gSs : List (String × Nat × String × Nat) := [("CrewPairer$Leg", 36, ">", 20), ("CrewPairer$Timed", 26, " ", 21), ("CrewPairer$Timed", 43, "d", 22), ("CrewPairer$Timed", 48, "h", 23), ("CrewPairer$Timed", 53, "", 24), ("CrewPairer$Timed", 32, "-", 25), ("CrewPairer$Timed", 34, "fly", 26), ("CrewPairer$Timed", 36, "ride", 27), ("CrewPairer$Timed", 38, ";", 28), ("java/lang/AbstractStringBuilder", 230, "null", 29), ("CrewPairer", 413, "leg", 30), ("CrewPairer", 418, "fly", 31), ("CrewPairer", 420, "ride", 32), ("CrewPairer", 422, "drop", 33), ("CrewPairer", 424, "late", 34), ("CrewPairer", 426, "rule", 35), ("CrewPairer", 428, "crew", 36), ("CrewPairer", 429, "cancel", 37), ("CrewPairer", 431, "pair", 38), ("CrewPairer", 433, "repair", 39), ("CrewPairer$CommandException", 1, "command", 40), ("CrewPairerModel", 274, " fly;", 41), ("CrewPairerModel", 276, " ride;", 42), ("CrewPairerModel", 295, "leg", 43), ("CrewPairerModel", 297, "crew", 44), ("CrewPairerModel", 299, "fly", 45), ("CrewPairerModel", 301, "ride", 46), ("CrewPairerModel", 303, "drop", 47), ("CrewPairerModel", 305, "late", 48), ("CrewPairerModel", 307, "cancel", 49), ("CrewPairerModel", 309, "rule", 50), ("CrewPairerModel", 311, "pair", 51), ("CrewPairerModel", 313, "repair", 52)]
def gtys (Γ : GE) : List (ClassId × FieldType) := (List.range 8).map fun t => (Γ.2.2.1 t, gtyq t)
def gK (Γ : GE) (s : State) : Prop := va_K Γ.1 vwCl (gtys Γ) s ∧ (∀ q ∈ gNF, va_Nw (.fieldLinkNest q.1 q.2.1 q.2.2.1 q.2.2.2.1 q.2.2.2.2.1 q.2.2.2.2.2) s) ∧ (∀ q ∈ gNM, va_Nw (.methodLinkNest q.1 q.2.1 q.2.2.1 q.2.2.2) s) ∧ (∀ q ∈ gNC, va_Nw (.castable q.1 q.2) s) ∧ (∀ q ∈ gNN, va_Nc q.1 q.2 s) ∧ (∀ C ∈ gAO, va_AO C s) ∧ (∀ q ∈ gFw, va_Fw q.1 q.2.1 q.2.2 s) ∧ (∀ w ∈ gKw, va_Nw w s) ∧ (∀ q ∈ gSs, vk_R q.1 q.2.1 q.2.2.1 (Γ.2.2.2 q.2.2.2) s) ∧ (∀ x ∈ gDe, va_Nw (.declares x) s) ∧ (∀ q ∈ gDf, va_Nw (.landsInDefault q.1 q.2.1 q.2.2) s) ∧ ∀ q ∈ gMi, va_Mi q.1 (Γ.2.2.2 q.2) s
def gZ (Γ : GE) (s : State) (H : Heap) : Prop := (∀ z ∈ gZr, va_Z z.1 z.2.1 z.2.2.1 (.ref (Γ.2.2.2 z.2.2.2)) (gA Γ) s H) ∧ ∀ z ∈ gZi, va_Z z.1 z.2.1 z.2.2.1 (.int z.2.2.2) (gA Γ) s H
theorem gFw_plain : ∀ q ∈ gFw, q.2.1.cls ≠ "java/lang/invoke/MethodHandle" ∧ q.2.1.cls ≠ "java/lang/invoke/VarHandle" := by decide +kernel
theorem gKw_good : ∀ w ∈ gKw, (w.onTables && w.keeps) = true := by
  intro w hw
  simp only [gKw, List.mem_cons, List.not_mem_nil, or_false] at hw
  rcases hw with rfl | rfl | rfl | rfl | rfl | rfl | rfl | rfl <;> rfl
theorem lid_same {C : String} {x y : MethodName} {u U : State} (hv : U.vm = u.vm) (h : va_Nw (.landsInDefault C x y) u) : va_Nw (.landsInDefault C x y) U := by
  have e1 : ∀ a b c, U.methodFound? a b c = u.methodFound? a b c := fun a b c => by simp only [State.methodFound?, hv]
  have e2 : ∀ x, U.methodNamed? x = u.methodNamed? x := fun x => by simp only [State.methodNamed?, hv]
  unfold va_Nw at h ⊢
  simp only [Cond.before, Cond.holds, Cond.value, e1, e2, hv] at h ⊢
  exact h
theorem va_Nw.warmL {C : String} {x y : MethodName} {s U : State} (hW : s.WarmedH U.vm) (hZ : va_Nw (.landsInDefault C x y) s) : va_Nw (.landsInDefault C x y) U :=
  lid_same (u := s.setVm U.vm) rfl ((Cond.landsInDefault_setVm (args := #[]) (args' := #[]) hW.alike (State.methodFound?_setVm hW.alike _ _ _)).trans hZ)
theorem gK.warm {Γ : GE} {s U : State} (hW : s.WarmedH U.vm) (h : gK Γ s) : gK Γ U := by
  obtain ⟨h1, h2, h3, h4, h5, h6, h7, h8, h9, h10, h11, h12⟩ := h
  refine ⟨va_K.moved hW.alike h1, fun q hq => va_Nw.warmF hW (h2 q hq), fun q hq => va_Nw.warmM hW (h3 q hq), fun q hq => va_Nw.warmC hW (h4 q hq), fun q hq => va_Nc.moved hW.alike (h5 q hq), fun q hq => va_AO.moved hW.alike (h6 q hq), fun q hq => va_Fw.moved (gFw_plain q hq) hW.alike (h7 q hq), fun w hw => ?_, fun q hq => vk_R.warm hW (h9 q hq), fun q hq => va_Nw.warmD hW (h10 q hq), fun q hq => va_Nw.warmL hW (h11 q hq), fun q hq => va_Mi.moved hW.alike (h12 q hq)⟩
  exact word_at hW (Or.inl (gKw_good w hw)) (h8 w hw)
theorem gK.same {Γ : GE} {u U : State} (hv : U.vm = u.vm) (h : gK Γ u) : gK Γ U := by
  obtain ⟨h1, h2, h3, h4, h5, h6, h7, h8, h9, h10, h11, h12⟩ := h
  have ha : u.vm.Alike U.vm := by rw [hv]; exact Vm.Alike.refl _
  refine ⟨va_K.moved ha h1, fun q hq => va_Nw.same rfl hv.symm (h2 q hq), fun q hq => va_Nw.same rfl hv.symm (h3 q hq), fun q hq => va_Nw.same rfl hv.symm (h4 q hq), fun q hq => va_Nc.moved ha (h5 q hq), fun q hq => va_AO.moved ha (h6 q hq), fun q hq => va_Fw.moved (gFw_plain q hq) ha (h7 q hq), fun w hw => ?_, fun q hq => vk_R.same hv (h9 q hq), fun q hq => va_Nw.same rfl hv.symm (h10 q hq), fun q hq => lid_same hv (h11 q hq), fun q hq => va_Mi.moved ha (h12 q hq)⟩
  have hg := gKw_good w hw
  rw [Bool.and_eq_true] at hg
  exact va_Nw.same hg.1 hv.symm (h8 w hw)
theorem gZ.moved {Γ : GE} {s U : State} {H H1 : Heap} (hvm : s.vm.Alike U.vm) (hq : ∀ a : Nat, a < H.size → ¬ gA Γ a → H1[a]? = H[a]?) (h : gZ Γ s H) : gZ Γ U H1 :=
  ⟨fun z hz => va_Z.kept (va_Z.moved hvm (h.1 z hz)) hq, fun z hz => va_Z.kept (va_Z.moved hvm (h.2 z hz)) hq⟩
def gRm (h mc ms : Nat) : Room := { frames := h, cells := mc, slots := ms, locals := 64 * h }
/-- a method's end -/
def gQ (Γ : GE) (Q : Option Value → GH → Prop) : Array Value → State → Outcome → State → Prop := fun _ st oc t => (∃ (v : Option Value) (G' : GH), oc = .returned v ∧ Q v G' ∧ gH Γ t G' t.heap) ∧ va_F (gA Γ) st t
/-- a method's start -/
def gP (Γ : GE) (G : GH) (U : State) : Prop := gK Γ U ∧ gZ Γ U U.heap ∧ gH Γ U G U.heap
/-- THE CONTRACT: from the ghost heap G, called with av, the method mi returns with Q; at height h, it makes at most mc cells of ms slots -/
def Tr (Γ : GE) (l : Launch) (mi : MI) (h mc ms : Nat) (av : List Value) (G : GH) (Q : Option Value → GH → Prop) : Prop :=
  Met l mi.1 (ws_ mi.1 mi.2.1 mi.2.2.1 mi.2.2.2) (gRm h mc ms) (va_Pc av (gP Γ G)) (gQ Γ Q) mc ms (gA Γ)
def GX (Γ : GE) (mi : MI) (h MC MS : Nat) (p : Program) (R : Room) (s : State) (m : MethodId) (args : Array Value) (meth : Method) (c : Code) : Prop :=
  p.tables.exec = Jvm.exec ∧ c.code = mi.2.1 ∧ c.maxLocals = mi.2.2.1 ∧ meth.sig.returnType = mi.2.2.2 ∧ meth.locks = false ∧ meth.name = mi.1.name ∧ (∀ w ∈ lw_all, w.before args s = true) ∧ s.vm.findClass mi.1.cls = some m.cls ∧ gK Γ s ∧ gZ Γ s s.heap ∧ h ≤ R.frames ∧ 64 * h ≤ R.locals ∧ R.cells = MC ∧ R.slots = MS ∧ Γ.2.1 ≤ s.heap.size
/-- THE JUDGEMENT: the method mi, at pc with locals lv and stack st, over the ghost heap G, with room for bc more cells of bs slots, comes to its end with Q -/
def GW (Γ : GE) (l : Launch) (mi : MI) (h MC MS : Nat) (Q : Option Value → GH → Prop) (pc : Nat) (lv : List (Nat × Value)) (st : List Value) (G : GH) (bc bs : Nat) : Prop :=
  ∀ (p : Program) (e : Env) (R : Room) (s : State) (m : MethodId) (args : Array Value) (below : List Frame) (meth : Method) (c : Code) (H : Heap) (locs : List Loc) (cells slots : Nat) (ls : Array Slot),
    GX Γ mi h MC MS p R s m args meth c → va_S (gA Γ) s.heap H locs → gH Γ s G H → lv_has ls mi.2.2.1 lv → cells + bc ≤ MC → slots + bs ≤ MS →
    W p l e R s m args below meth c H locs cells slots (MQ below (gQ Γ Q) args s MC MS (gA Γ)) (F0 m pc ls st)
theorem Tr.intro {Γ : GE} {l : Launch} {mi : MI} {h mc ms : Nat} {av : List Value} {G : GH} {Q : Option Value → GH → Prop} (hy : plainName mi.1.cls = true) (hn : (lg_sl av).length ≤ mi.2.2.1) (k : GW Γ l mi h mc ms Q 0 (lv_args 0 av) [] G mc ms) : Tr Γ l mi h mc ms av G Q := by
  refine Met.ofW (cc := mi.2.1) (maxL := mi.2.2.1) (ret := mi.2.2.2) hy rfl ?_
  intro p e s m args below meth c s₁ B hml hv
  obtain ⟨rfl, hK, hZ, hG⟩ := hv
  have hts := atoms_spec (ws := ws_ mi.1 mi.2.1 mi.2.2.1 mi.2.2.2) B.pre
  have hts : ∀ w ∈ lw_all, w.before _ s = true := fun w h => hts w (List.mem_cons_of_mem _ h)
  have hl := lv_entry av (n := mi.2.2.1) hn
  rw [lg_entry_eq]
  exact k p e _ s m _ below meth c s.heap [] 0 0 _ ⟨B.exec, B.bytes, hml, B.returns, B.notSynchronized, (name_of_methodNamed B.named B.method).1, hts, findClass_of_methodNamed B.named, hK, hZ, Nat.le_refl _, Nat.le_refl _, rfl, rfl, hG.1⟩ va_S.rf hG hl (by omega) (by omega)
section GROWS
variable {Γ : GE} {l : Launch} {mi : MI} {h MC MS : Nat} {Q : Option Value → GH → Prop} {pc : Nat} {lv : List (Nat × Value)} {st : List Value} {G : GH} {bc bs : Nat}
theorem GW.pure {pc' : Nat} {st' : List Value}
    (f : ∀ {p : Program} {e : Env} {R : Room} {s : State} {m : MethodId} {args : Array Value} {below : List Frame} {meth : Method} {c : Code} {H : Heap} {locs : List Loc} {cells slots : Nat} {ls : Array Slot} {Z : State → Prop}, p.tables.exec = Jvm.exec → c.code = mi.2.1 → W p l e R s m args below meth c H locs cells slots Z (F0 m pc' ls st') → W p l e R s m args below meth c H locs cells slots Z (F0 m pc ls st))
    (k : GW Γ l mi h MC MS Q pc' lv st' G bc bs) : GW Γ l mi h MC MS Q pc lv st G bc bs :=
  fun p e R s m args below meth c H locs cells slots ls X hS hG hl h1 h2 => f X.1 X.2.1 (k p e R s m args below meth c H locs cells slots ls X hS hG hl h1 h2)
theorem GW.pure2 {pc1 pc2 : Nat} {st1 st2 : List Value} {C1 C2 : Prop}
    (f : ∀ {p : Program} {e : Env} {R : Room} {s : State} {m : MethodId} {args : Array Value} {below : List Frame} {meth : Method} {c : Code} {H : Heap} {locs : List Loc} {cells slots : Nat} {ls : Array Slot} {Z : State → Prop}, p.tables.exec = Jvm.exec → c.code = mi.2.1 → (C1 → W p l e R s m args below meth c H locs cells slots Z (F0 m pc1 ls st1)) → (C2 → W p l e R s m args below meth c H locs cells slots Z (F0 m pc2 ls st2)) → W p l e R s m args below meth c H locs cells slots Z (F0 m pc ls st))
    (k1 : C1 → GW Γ l mi h MC MS Q pc1 lv st1 G bc bs) (k2 : C2 → GW Γ l mi h MC MS Q pc2 lv st2 G bc bs) : GW Γ l mi h MC MS Q pc lv st G bc bs :=
  fun p e R s m args below meth c H locs cells slots ls X hS hG hl h1 h2 => f X.1 X.2.1 (fun q => k1 q p e R s m args below meth c H locs cells slots ls X hS hG hl h1 h2) (fun q => k2 q p e R s m args below meth c H locs cells slots ls X hS hG hl h1 h2)
theorem GW.lsub {lv' : List (Nat × Value)} (ks : List Nat) (hl : lv_pick lv ks = lv') (k : GW Γ l mi h MC MS Q pc lv' st G bc bs) : GW Γ l mi h MC MS Q pc lv st G bc bs :=
  fun p e R s m args below meth c H locs cells slots ls X hS hG hl' h1 h2 => k p e R s m args below meth c H locs cells slots ls X hS hG (lv_sub hl' ks hl) h1 h2
theorem GW.less {bc' bs' : Nat} (h1 : bc' ≤ bc) (h2 : bs' ≤ bs) (k : GW Γ l mi h MC MS Q pc lv st G bc' bs') : GW Γ l mi h MC MS Q pc lv st G bc bs :=
  fun p e R s m args below meth c H locs cells slots ls X hS hG hl' e1 e2 => k p e R s m args below meth c H locs cells slots ls X hS hG hl' (by omega) (by omega)
theorem g_iconst {n : Int} {v : Int32} (hd : decode mi.2.1 pc = .ok (.iconst n, 1)) (hv : Int32.ofInt n = v) (k : GW Γ l mi h MC MS Q (pc + 1) lv (.int v :: st) G bc bs) : GW Γ l mi h MC MS Q pc lv st G bc bs := GW.pure (fun hx hb k => lv_iconst hx hb hd hv k) k
theorem g_bipush {n : Int} {v : Int32} (hd : decode mi.2.1 pc = .ok (.bipush n, 2)) (hv : (Int8.ofInt n).toInt32 = v) (k : GW Γ l mi h MC MS Q (pc + 2) lv (.int v :: st) G bc bs) : GW Γ l mi h MC MS Q pc lv st G bc bs := GW.pure (fun hx hb k => lv_bipush hx hb hd hv k) k
theorem g_sipush {n : Int} {v : Int32} (hd : decode mi.2.1 pc = .ok (.sipush n, 3)) (hv : (Int16.ofInt n).toInt32 = v) (k : GW Γ l mi h MC MS Q (pc + 3) lv (.int v :: st) G bc bs) : GW Γ l mi h MC MS Q pc lv st G bc bs := GW.pure (fun hx hb k => lv_sipush hx hb hd hv k) k
theorem g_null (hd : decode mi.2.1 pc = .ok (.aconst_null, 1)) (k : GW Γ l mi h MC MS Q (pc + 1) lv (va_rf none :: st) G bc bs) : GW Γ l mi h MC MS Q pc lv st G bc bs := GW.pure (fun hx hb k => lv_null hx hb hd k) k
theorem g_iadd {x y : Int32} (hd : decode mi.2.1 pc = .ok (.iadd, 1)) (k : GW Γ l mi h MC MS Q (pc + 1) lv (.int (x + y) :: st) G bc bs) : GW Γ l mi h MC MS Q pc lv (.int y :: .int x :: st) G bc bs := GW.pure (fun hx hb k => lv_iadd hx hb hd k) k
theorem g_isub {x y : Int32} (hd : decode mi.2.1 pc = .ok (.isub, 1)) (k : GW Γ l mi h MC MS Q (pc + 1) lv (.int (x - y) :: st) G bc bs) : GW Γ l mi h MC MS Q pc lv (.int y :: .int x :: st) G bc bs := GW.pure (fun hx hb k => lv_isub hx hb hd k) k
theorem g_imul {x y : Int32} (hd : decode mi.2.1 pc = .ok (.imul, 1)) (k : GW Γ l mi h MC MS Q (pc + 1) lv (.int (x * y) :: st) G bc bs) : GW Γ l mi h MC MS Q pc lv (.int y :: .int x :: st) G bc bs := GW.pure (fun hx hb k => lv_imul hx hb hd k) k
theorem g_iand {x y : Int32} (hd : decode mi.2.1 pc = .ok (.iand, 1)) (k : GW Γ l mi h MC MS Q (pc + 1) lv (.int (x &&& y) :: st) G bc bs) : GW Γ l mi h MC MS Q pc lv (.int y :: .int x :: st) G bc bs := GW.pure (fun hx hb k => lv_iand hx hb hd k) k
theorem g_ior {x y : Int32} (hd : decode mi.2.1 pc = .ok (.ior, 1)) (k : GW Γ l mi h MC MS Q (pc + 1) lv (.int (x ||| y) :: st) G bc bs) : GW Γ l mi h MC MS Q pc lv (.int y :: .int x :: st) G bc bs := GW.pure (fun hx hb k => lv_ior hx hb hd k) k
theorem g_ixor {x y : Int32} (hd : decode mi.2.1 pc = .ok (.ixor, 1)) (k : GW Γ l mi h MC MS Q (pc + 1) lv (.int (x ^^^ y) :: st) G bc bs) : GW Γ l mi h MC MS Q pc lv (.int y :: .int x :: st) G bc bs := GW.pure (fun hx hb k => lv_ixor hx hb hd k) k
theorem g_idiv {x y : Int32} (hd : decode mi.2.1 pc = .ok (.idiv, 1)) (hne : ¬ y = 0) (k : GW Γ l mi h MC MS Q (pc + 1) lv (.int (x / y) :: st) G bc bs) : GW Γ l mi h MC MS Q pc lv (.int y :: .int x :: st) G bc bs := GW.pure (fun hx hb k => lv_idiv hx hb hd hne k) k
theorem g_irem {x y : Int32} (hd : decode mi.2.1 pc = .ok (.irem, 1)) (hne : ¬ y = 0) (k : GW Γ l mi h MC MS Q (pc + 1) lv (.int (x - x / y * y) :: st) G bc bs) : GW Γ l mi h MC MS Q pc lv (.int y :: .int x :: st) G bc bs := GW.pure (fun hx hb k => lv_irem hx hb hd hne k) k
theorem g_ineg {x : Int32} (hd : decode mi.2.1 pc = .ok (.ineg, 1)) (k : GW Γ l mi h MC MS Q (pc + 1) lv (.int (-x) :: st) G bc bs) : GW Γ l mi h MC MS Q pc lv (.int x :: st) G bc bs := GW.pure (fun hx hb k => lv_ineg hx hb hd k) k
theorem g_ishl {x y : Int32} (hd : decode mi.2.1 pc = .ok (.ishl, 1)) (k : GW Γ l mi h MC MS Q (pc + 1) lv (.int (x <<< (y &&& 31)) :: st) G bc bs) : GW Γ l mi h MC MS Q pc lv (.int y :: .int x :: st) G bc bs := GW.pure (fun hx hb k => lv_ishl hx hb hd k) k
theorem g_ishr {x y : Int32} (hd : decode mi.2.1 pc = .ok (.ishr, 1)) (k : GW Γ l mi h MC MS Q (pc + 1) lv (.int (x >>> (y &&& 31)) :: st) G bc bs) : GW Γ l mi h MC MS Q pc lv (.int y :: .int x :: st) G bc bs := GW.pure (fun hx hb k => lv_ishr hx hb hd k) k
theorem g_iushr {x y : Int32} (hd : decode mi.2.1 pc = .ok (.iushr, 1)) (k : GW Γ l mi h MC MS Q (pc + 1) lv (.int ((x.toUInt32 >>> (y.toUInt32 &&& Int32.toUInt32 31)).toInt32) :: st) G bc bs) : GW Γ l mi h MC MS Q pc lv (.int y :: .int x :: st) G bc bs := GW.pure (fun hx hb k => lv_iushr hx hb hd rfl k) k
theorem g_i2c {x : Int32} (hd : decode mi.2.1 pc = .ok (.i2c, 1)) (k : GW Γ l mi h MC MS Q (pc + 1) lv (.int ((x.toUInt32 % 65536).toInt32) :: st) G bc bs) : GW Γ l mi h MC MS Q pc lv (.int x :: st) G bc bs := GW.pure (fun hx hb k => lv_i2c hx hb hd rfl k) k
theorem g_i2b {x : Int32} (hd : decode mi.2.1 pc = .ok (.i2b, 1)) (k : GW Γ l mi h MC MS Q (pc + 1) lv (.int (x.toInt8.toInt32) :: st) G bc bs) : GW Γ l mi h MC MS Q pc lv (.int x :: st) G bc bs := GW.pure (fun hx hb k => lv_i2b hx hb hd rfl k) k
theorem g_dup {va : Value} (hd : decode mi.2.1 pc = .ok (.dup, 1)) (hva : va.category = 1) (k : GW Γ l mi h MC MS Q (pc + 1) lv (va :: va :: st) G bc bs) : GW Γ l mi h MC MS Q pc lv (va :: st) G bc bs := GW.pure (fun hx hb k => lv_dup hx hb hd hva k) k
theorem g_pop {va : Value} (hd : decode mi.2.1 pc = .ok (.pop, 1)) (hva : va.category = 1) (k : GW Γ l mi h MC MS Q (pc + 1) lv st G bc bs) : GW Γ l mi h MC MS Q pc lv (va :: st) G bc bs := GW.pure (fun hx hb k => lv_pop hx hb hd hva k) k
theorem g_dup_x1 {va vb : Value} (hd : decode mi.2.1 pc = .ok (.dup_x1, 1)) (hva : va.category = 1) (hvb : vb.category = 1) (k : GW Γ l mi h MC MS Q (pc + 1) lv (va :: vb :: va :: st) G bc bs) : GW Γ l mi h MC MS Q pc lv (va :: vb :: st) G bc bs := GW.pure (fun hx hb k => lv_dup_x1 hx hb hd hva hvb k) k
theorem g_dup_x2 {va vb vd : Value} (hd : decode mi.2.1 pc = .ok (.dup_x2, 1)) (hva : va.category = 1) (hvb : vb.category = 1) (hvd : vd.category = 1) (k : GW Γ l mi h MC MS Q (pc + 1) lv (va :: vb :: vd :: va :: st) G bc bs) : GW Γ l mi h MC MS Q pc lv (va :: vb :: vd :: st) G bc bs := GW.pure (fun hx hb k => lv_dup_x2 hx hb hd hva hvb hvd k) k
theorem g_dup2 {va vb : Value} (hd : decode mi.2.1 pc = .ok (.dup2, 1)) (hva : va.category = 1) (hvb : vb.category = 1) (k : GW Γ l mi h MC MS Q (pc + 1) lv (va :: vb :: va :: vb :: st) G bc bs) : GW Γ l mi h MC MS Q pc lv (va :: vb :: st) G bc bs := GW.pure (fun hx hb k => lv_dup2_11 hx hb hd hva hvb k) k
theorem g_goto {off : Int} (tgt : Nat) (hd : decode mi.2.1 pc = .ok (.goto off, 3)) (ht : (pc : Int) + off = (tgt : Int)) (k : GW Γ l mi h MC MS Q tgt lv st G bc bs) : GW Γ l mi h MC MS Q pc lv st G bc bs := GW.pure (fun hx hb k => lv_goto hx hb hd ht k) k
theorem va_rf_cat (r : Option Nat) : (va_rf r).category = 1 := by cases r <;> rfl
theorem g_aload_n {kk : Fin 4} {i : Nat} {r : Option Nat} (hd : decode mi.2.1 pc = .ok (.aload_n kk, 1)) (hi : (kk : Nat) = i) (p0 : Nat) (hl : lv[p0]? = some (i, va_rf r)) (k : GW Γ l mi h MC MS Q (pc + 1) lv (va_rf r :: st) G bc bs) : GW Γ l mi h MC MS Q pc lv st G bc bs := by
  intro p e R s m args below meth c H locs cells slots ls X hS hG hls h1 h2
  have K := k p e R s m args below meth c H locs cells slots ls X hS hG hls h1 h2
  cases r with
  | none => exact lv_aload_nN X.1 X.2.1 hd hi (lv_at hls p0 hl) K
  | some a => exact lv_aload_n X.1 X.2.1 hd hi (lv_at hls p0 hl) K
theorem g_aload {i : Nat} {r : Option Nat} (hd : decode mi.2.1 pc = .ok (.aload i, 2)) (p0 : Nat) (hl : lv[p0]? = some (i, va_rf r)) (k : GW Γ l mi h MC MS Q (pc + 2) lv (va_rf r :: st) G bc bs) : GW Γ l mi h MC MS Q pc lv st G bc bs := by
  intro p e R s m args below meth c H locs cells slots ls X hS hG hls h1 h2
  have K := k p e R s m args below meth c H locs cells slots ls X hS hG hls h1 h2
  cases r with
  | none => exact lv_aloadN X.1 X.2.1 hd (lv_at hls p0 hl) K
  | some a => exact lv_aload X.1 X.2.1 hd (lv_at hls p0 hl) K
theorem g_iload_n {kk : Fin 4} {i : Nat} {x : Int32} (hd : decode mi.2.1 pc = .ok (.iload_n kk, 1)) (hi : (kk : Nat) = i) (p0 : Nat) (hl : lv[p0]? = some (i, .int x)) (k : GW Γ l mi h MC MS Q (pc + 1) lv (.int x :: st) G bc bs) : GW Γ l mi h MC MS Q pc lv st G bc bs := by
  intro p e R s m args below meth c H locs cells slots ls X hS hG hls h1 h2
  exact lv_iload_n X.1 X.2.1 hd hi (lv_at hls p0 hl) (k p e R s m args below meth c H locs cells slots ls X hS hG hls h1 h2)
theorem g_iload {i : Nat} {x : Int32} (hd : decode mi.2.1 pc = .ok (.iload i, 2)) (p0 : Nat) (hl : lv[p0]? = some (i, .int x)) (k : GW Γ l mi h MC MS Q (pc + 2) lv (.int x :: st) G bc bs) : GW Γ l mi h MC MS Q pc lv st G bc bs := by
  intro p e R s m args below meth c H locs cells slots ls X hS hG hls h1 h2
  exact lv_iload X.1 X.2.1 hd (lv_at hls p0 hl) (k p e R s m args below meth c H locs cells slots ls X hS hG hls h1 h2)
theorem g_fload {i : Nat} {x : UInt32} (hd : decode mi.2.1 pc = .ok (.fload i, 2)) (p0 : Nat) (hl : lv[p0]? = some (i, .float x)) (k : GW Γ l mi h MC MS Q (pc + 2) lv (.float x :: st) G bc bs) : GW Γ l mi h MC MS Q pc lv st G bc bs := by
  intro p e R s m args below meth c H locs cells slots ls X hS hG hls h1 h2
  exact lv_fload X.1 X.2.1 hd (lv_at hls p0 hl) (k p e R s m args below meth c H locs cells slots ls X hS hG hls h1 h2)
theorem g_istore_n {kk : Fin 4} {i : Nat} {x : Int32} {lv1 lv' : List (Nat × Value)} (hd : decode mi.2.1 pc = .ok (.istore_n kk, 1)) (hi : (kk : Nat) = i) (hn : i < mi.2.2.1) (hl : (i, Value.int x) :: lv.filter (fun q => !(q.1 == i) && !(q.1 + 1 == i && q.2.category == 2)) = lv1) (ks : List Nat) (hk : lv_pick lv1 ks = lv') (k : GW Γ l mi h MC MS Q (pc + 1) lv' st G bc bs) : GW Γ l mi h MC MS Q pc lv (.int x :: st) G bc bs := by
  intro p e R s m args below meth c H locs cells slots ls X hS hG hls h1 h2
  exact lv_istore_n X.1 X.2.1 hd hi hls hn hl (fun ls1 hls1 => k p e R s m args below meth c H locs cells slots ls1 X hS hG (lv_sub hls1 ks hk) h1 h2)
theorem g_istore {i : Nat} {x : Int32} {lv1 lv' : List (Nat × Value)} (hd : decode mi.2.1 pc = .ok (.istore i, 2)) (hn : i < mi.2.2.1) (hl : (i, Value.int x) :: lv.filter (fun q => !(q.1 == i) && !(q.1 + 1 == i && q.2.category == 2)) = lv1) (ks : List Nat) (hk : lv_pick lv1 ks = lv') (k : GW Γ l mi h MC MS Q (pc + 2) lv' st G bc bs) : GW Γ l mi h MC MS Q pc lv (.int x :: st) G bc bs := by
  intro p e R s m args below meth c H locs cells slots ls X hS hG hls h1 h2
  exact lv_istore X.1 X.2.1 hd hls hn hl (fun ls1 hls1 => k p e R s m args below meth c H locs cells slots ls1 X hS hG (lv_sub hls1 ks hk) h1 h2)
theorem g_fstore {i : Nat} {x : UInt32} {lv1 lv' : List (Nat × Value)} (hd : decode mi.2.1 pc = .ok (.fstore i, 2)) (hn : i < mi.2.2.1) (hl : (i, Value.float x) :: lv.filter (fun q => !(q.1 == i) && !(q.1 + 1 == i && q.2.category == 2)) = lv1) (ks : List Nat) (hk : lv_pick lv1 ks = lv') (k : GW Γ l mi h MC MS Q (pc + 2) lv' st G bc bs) : GW Γ l mi h MC MS Q pc lv (.float x :: st) G bc bs := by
  intro p e R s m args below meth c H locs cells slots ls X hS hG hls h1 h2
  exact lv_fstore X.1 X.2.1 hd hls hn hl (fun ls1 hls1 => k p e R s m args below meth c H locs cells slots ls1 X hS hG (lv_sub hls1 ks hk) h1 h2)
theorem g_astore_n {kk : Fin 4} {i : Nat} {r : Option Nat} {lv1 lv' : List (Nat × Value)} (hd : decode mi.2.1 pc = .ok (.astore_n kk, 1)) (hi : (kk : Nat) = i) (hn : i < mi.2.2.1) (hl : (i, va_rf r) :: lv.filter (fun q => !(q.1 == i) && !(q.1 + 1 == i && q.2.category == 2)) = lv1) (ks : List Nat) (hk : lv_pick lv1 ks = lv') (k : GW Γ l mi h MC MS Q (pc + 1) lv' st G bc bs) : GW Γ l mi h MC MS Q pc lv (va_rf r :: st) G bc bs := by
  intro p e R s m args below meth c H locs cells slots ls X hS hG hls h1 h2
  cases r with
  | none => exact lv_astore_nN X.1 X.2.1 hd hi hls hn hl (fun ls1 hls1 => k p e R s m args below meth c H locs cells slots ls1 X hS hG (lv_sub hls1 ks hk) h1 h2)
  | some a => exact lv_astore_n X.1 X.2.1 hd hi hls hn hl (fun ls1 hls1 => k p e R s m args below meth c H locs cells slots ls1 X hS hG (lv_sub hls1 ks hk) h1 h2)
theorem g_astore {i : Nat} {r : Option Nat} {lv1 lv' : List (Nat × Value)} (hd : decode mi.2.1 pc = .ok (.astore i, 2)) (hn : i < mi.2.2.1) (hl : (i, va_rf r) :: lv.filter (fun q => !(q.1 == i) && !(q.1 + 1 == i && q.2.category == 2)) = lv1) (ks : List Nat) (hk : lv_pick lv1 ks = lv') (k : GW Γ l mi h MC MS Q (pc + 2) lv' st G bc bs) : GW Γ l mi h MC MS Q pc lv (va_rf r :: st) G bc bs := by
  intro p e R s m args below meth c H locs cells slots ls X hS hG hls h1 h2
  cases r with
  | none => exact lv_astoreN X.1 X.2.1 hd hls hn hl (fun ls1 hls1 => k p e R s m args below meth c H locs cells slots ls1 X hS hG (lv_sub hls1 ks hk) h1 h2)
  | some a => exact lv_astore X.1 X.2.1 hd hls hn hl (fun ls1 hls1 => k p e R s m args below meth c H locs cells slots ls1 X hS hG (lv_sub hls1 ks hk) h1 h2)
theorem g_iinc {i k0 : Nat} {n : Int} {x v : Int32} {lv1 lv' : List (Nat × Value)} (hd : decode mi.2.1 pc = .ok (.iinc i n, 3)) (hk0 : lv[k0]? = some (i, .int x)) (hv : x + Int32.ofInt n = v) (hn : i < mi.2.2.1) (hl : (i, Value.int v) :: lv.filter (fun q => !(q.1 == i) && !(q.1 + 1 == i && q.2.category == 2)) = lv1) (ks : List Nat) (hk : lv_pick lv1 ks = lv') (k : GW Γ l mi h MC MS Q (pc + 3) lv' st G bc bs) : GW Γ l mi h MC MS Q pc lv st G bc bs := by
  intro p e R s m args below meth c H locs cells slots ls X hS hG hls h1 h2
  exact lv_iinc X.1 X.2.1 hd hls hk0 hv hn hl (fun ls1 hls1 => k p e R s m args below meth c H locs cells slots ls1 X hS hG (lv_sub hls1 ks hk) h1 h2)
theorem g_if_eq {x : Int32} {off : Int} (tgt : Nat) (hd : decode mi.2.1 pc = .ok (.ifCond .eq off, 3)) (ht : (pc : Int) + off = (tgt : Int)) (kt : x = 0 → GW Γ l mi h MC MS Q tgt lv st G bc bs) (kf : ¬ x = 0 → GW Γ l mi h MC MS Q (pc + 3) lv st G bc bs) : GW Γ l mi h MC MS Q pc lv (.int x :: st) G bc bs := GW.pure2 (fun hx hb k1 k2 => lv_if_eq hx hb hd ht k1 k2) kt kf
theorem g_icmp_eq {x y : Int32} {off : Int} (tgt : Nat) (hd : decode mi.2.1 pc = .ok (.if_icmp .eq off, 3)) (ht : (pc : Int) + off = (tgt : Int)) (kt : x = y → GW Γ l mi h MC MS Q tgt lv st G bc bs) (kf : ¬ x = y → GW Γ l mi h MC MS Q (pc + 3) lv st G bc bs) : GW Γ l mi h MC MS Q pc lv (.int y :: .int x :: st) G bc bs := GW.pure2 (fun hx hb k1 k2 => lv_icmp_eq hx hb hd ht k1 k2) kt kf
theorem g_if_ne {x : Int32} {off : Int} (tgt : Nat) (hd : decode mi.2.1 pc = .ok (.ifCond .ne off, 3)) (ht : (pc : Int) + off = (tgt : Int)) (kt : ¬ x = 0 → GW Γ l mi h MC MS Q tgt lv st G bc bs) (kf : x = 0 → GW Γ l mi h MC MS Q (pc + 3) lv st G bc bs) : GW Γ l mi h MC MS Q pc lv (.int x :: st) G bc bs := GW.pure2 (fun hx hb k1 k2 => lv_if_ne hx hb hd ht k1 k2) kt kf
theorem g_icmp_ne {x y : Int32} {off : Int} (tgt : Nat) (hd : decode mi.2.1 pc = .ok (.if_icmp .ne off, 3)) (ht : (pc : Int) + off = (tgt : Int)) (kt : ¬ x = y → GW Γ l mi h MC MS Q tgt lv st G bc bs) (kf : x = y → GW Γ l mi h MC MS Q (pc + 3) lv st G bc bs) : GW Γ l mi h MC MS Q pc lv (.int y :: .int x :: st) G bc bs := GW.pure2 (fun hx hb k1 k2 => lv_icmp_ne hx hb hd ht k1 k2) kt kf
theorem g_if_lt {x : Int32} {off : Int} (tgt : Nat) (hd : decode mi.2.1 pc = .ok (.ifCond .lt off, 3)) (ht : (pc : Int) + off = (tgt : Int)) (kt : x < 0 → GW Γ l mi h MC MS Q tgt lv st G bc bs) (kf : ¬ x < 0 → GW Γ l mi h MC MS Q (pc + 3) lv st G bc bs) : GW Γ l mi h MC MS Q pc lv (.int x :: st) G bc bs := GW.pure2 (fun hx hb k1 k2 => lv_if_lt hx hb hd ht k1 k2) kt kf
theorem g_icmp_lt {x y : Int32} {off : Int} (tgt : Nat) (hd : decode mi.2.1 pc = .ok (.if_icmp .lt off, 3)) (ht : (pc : Int) + off = (tgt : Int)) (kt : x < y → GW Γ l mi h MC MS Q tgt lv st G bc bs) (kf : ¬ x < y → GW Γ l mi h MC MS Q (pc + 3) lv st G bc bs) : GW Γ l mi h MC MS Q pc lv (.int y :: .int x :: st) G bc bs := GW.pure2 (fun hx hb k1 k2 => lv_icmp_lt hx hb hd ht k1 k2) kt kf
theorem g_if_ge {x : Int32} {off : Int} (tgt : Nat) (hd : decode mi.2.1 pc = .ok (.ifCond .ge off, 3)) (ht : (pc : Int) + off = (tgt : Int)) (kt : 0 ≤ x → GW Γ l mi h MC MS Q tgt lv st G bc bs) (kf : ¬ 0 ≤ x → GW Γ l mi h MC MS Q (pc + 3) lv st G bc bs) : GW Γ l mi h MC MS Q pc lv (.int x :: st) G bc bs := GW.pure2 (fun hx hb k1 k2 => lv_if_ge hx hb hd ht k1 k2) kt kf
theorem g_icmp_ge {x y : Int32} {off : Int} (tgt : Nat) (hd : decode mi.2.1 pc = .ok (.if_icmp .ge off, 3)) (ht : (pc : Int) + off = (tgt : Int)) (kt : y ≤ x → GW Γ l mi h MC MS Q tgt lv st G bc bs) (kf : ¬ y ≤ x → GW Γ l mi h MC MS Q (pc + 3) lv st G bc bs) : GW Γ l mi h MC MS Q pc lv (.int y :: .int x :: st) G bc bs := GW.pure2 (fun hx hb k1 k2 => lv_icmp_ge hx hb hd ht k1 k2) kt kf
theorem g_if_gt {x : Int32} {off : Int} (tgt : Nat) (hd : decode mi.2.1 pc = .ok (.ifCond .gt off, 3)) (ht : (pc : Int) + off = (tgt : Int)) (kt : 0 < x → GW Γ l mi h MC MS Q tgt lv st G bc bs) (kf : ¬ 0 < x → GW Γ l mi h MC MS Q (pc + 3) lv st G bc bs) : GW Γ l mi h MC MS Q pc lv (.int x :: st) G bc bs := GW.pure2 (fun hx hb k1 k2 => lv_if_gt hx hb hd ht k1 k2) kt kf
theorem g_icmp_gt {x y : Int32} {off : Int} (tgt : Nat) (hd : decode mi.2.1 pc = .ok (.if_icmp .gt off, 3)) (ht : (pc : Int) + off = (tgt : Int)) (kt : y < x → GW Γ l mi h MC MS Q tgt lv st G bc bs) (kf : ¬ y < x → GW Γ l mi h MC MS Q (pc + 3) lv st G bc bs) : GW Γ l mi h MC MS Q pc lv (.int y :: .int x :: st) G bc bs := GW.pure2 (fun hx hb k1 k2 => lv_icmp_gt hx hb hd ht k1 k2) kt kf
theorem g_if_le {x : Int32} {off : Int} (tgt : Nat) (hd : decode mi.2.1 pc = .ok (.ifCond .le off, 3)) (ht : (pc : Int) + off = (tgt : Int)) (kt : x ≤ 0 → GW Γ l mi h MC MS Q tgt lv st G bc bs) (kf : ¬ x ≤ 0 → GW Γ l mi h MC MS Q (pc + 3) lv st G bc bs) : GW Γ l mi h MC MS Q pc lv (.int x :: st) G bc bs := GW.pure2 (fun hx hb k1 k2 => lv_if_le hx hb hd ht k1 k2) kt kf
theorem g_icmp_le {x y : Int32} {off : Int} (tgt : Nat) (hd : decode mi.2.1 pc = .ok (.if_icmp .le off, 3)) (ht : (pc : Int) + off = (tgt : Int)) (kt : x ≤ y → GW Γ l mi h MC MS Q tgt lv st G bc bs) (kf : ¬ x ≤ y → GW Γ l mi h MC MS Q (pc + 3) lv st G bc bs) : GW Γ l mi h MC MS Q pc lv (.int y :: .int x :: st) G bc bs := GW.pure2 (fun hx hb k1 k2 => lv_icmp_le hx hb hd ht k1 k2) kt kf
theorem g_acmp_eq {rx ry : Option Nat} {off : Int} (tgt : Nat) (hd : decode mi.2.1 pc = .ok (.if_acmp .eq off, 3)) (ht : (pc : Int) + off = (tgt : Int)) (kt : rx = ry → GW Γ l mi h MC MS Q tgt lv st G bc bs) (kf : ¬ rx = ry → GW Γ l mi h MC MS Q (pc + 3) lv st G bc bs) : GW Γ l mi h MC MS Q pc lv (va_rf ry :: va_rf rx :: st) G bc bs := GW.pure2 (fun hx hb k1 k2 => lv_acmp_eq hx hb hd ht k1 k2) kt kf
theorem g_acmp_ne {rx ry : Option Nat} {off : Int} (tgt : Nat) (hd : decode mi.2.1 pc = .ok (.if_acmp .ne off, 3)) (ht : (pc : Int) + off = (tgt : Int)) (kt : ¬ rx = ry → GW Γ l mi h MC MS Q tgt lv st G bc bs) (kf : rx = ry → GW Γ l mi h MC MS Q (pc + 3) lv st G bc bs) : GW Γ l mi h MC MS Q pc lv (va_rf ry :: va_rf rx :: st) G bc bs := GW.pure2 (fun hx hb k1 k2 => lv_acmp_ne hx hb hd ht k1 k2) kt kf
theorem g_ifnull {r : Option Nat} {off : Int} (tgt : Nat) (hd : decode mi.2.1 pc = .ok (.ifnull off, 3)) (ht : (pc : Int) + off = (tgt : Int)) (kt : r = none → GW Γ l mi h MC MS Q tgt lv st G bc bs) (kf : ∀ a, r = some a → GW Γ l mi h MC MS Q (pc + 3) lv st G bc bs) : GW Γ l mi h MC MS Q pc lv (va_rf r :: st) G bc bs := by
  cases r with
  | none => exact GW.pure (fun hx hb k => lv_ifnullN hx hb hd ht k) (kt rfl)
  | some a => exact GW.pure (fun hx hb k => lv_ifnull hx hb hd k) (kf a rfl)
theorem g_ifnonnull {r : Option Nat} {off : Int} (tgt : Nat) (hd : decode mi.2.1 pc = .ok (.ifnonnull off, 3)) (ht : (pc : Int) + off = (tgt : Int)) (kt : ∀ a, r = some a → GW Γ l mi h MC MS Q tgt lv st G bc bs) (kf : r = none → GW Γ l mi h MC MS Q (pc + 3) lv st G bc bs) : GW Γ l mi h MC MS Q pc lv (va_rf r :: st) G bc bs := by
  cases r with
  | none => exact GW.pure (fun hx hb k => lv_ifnonnullN hx hb hd k) (kf rfl)
  | some a => exact GW.pure (fun hx hb k => lv_ifnonnull hx hb hd ht k) (kt a rfl)
theorem upd_sI {a k : Nat} {x : Int32} : upd (gI G a) k x = gI (sI G a k x) a := by
  funext j
  rw [gI_sI]
  unfold upd
  by_cases hj : j = k
  · rw [if_pos hj, if_pos ⟨rfl, hj⟩]
  · rw [if_neg hj, if_neg (fun z => hj z.2)]
theorem gS_keep {s : State} {H H1 : Heap} {locs locs1 : List Loc} (hb : Γ.2.1 ≤ s.heap.size) (h : va_S (gA Γ) s.heap H locs) (h1 : va_S (gA Γ) s.heap H1 locs1) : ∀ q, ¬ gA Γ q → H1[q]? = H[q]? := by
  intro q hq
  have hl : q < s.heap.size := by
    have : ¬ Γ.2.1 ≤ q := hq
    omega
  rw [h1.2.1 q hl hq, h.2.1 q hl hq]
theorem gH.read {s : State} {H : Heap} {a : Nat} (hG : gH Γ s G H) (hc : gC G a ≠ 0) (hm : gM G a = true) : ∃ (ws : va_W) (k : Nat), va_P Γ.1 vwCl ws H ∧ ws[k]? = some (a, gent Γ G a) := by
  obtain ⟨-, ⟨ws, hP, -, h1, -⟩, -⟩ := hG
  obtain ⟨k, hk⟩ := List.getElem?_of_mem (h1 a hc hm)
  exact ⟨ws, k, hP, hk⟩
theorem gfs_at {a ci k : Nat} (hk : k < (gcl ci).2.2) : (gfs G a ci)[k]? = some (gfv (gcty ci k) (gI G a k) (gR G a k) (gF G a k)) := by
  unfold gfs
  rw [List.getElem?_map, List.getElem?_range hk]
  rfl
theorem gfs_len {a ci : Nat} : (gfs G a ci).length = (gcl ci).2.2 := by
  unfold gfs
  rw [List.length_map, List.length_range]
/-- getfield, any kind -/
theorem g_get {C ref : String} {T : u_T} {N index : Nat} (ci k : Nat) (hc : vwCl[ci]? = some (C, T, N)) (hin : ∀ w ∈ u_ws C T N, w ∈ lw_all) (hk : k < N) (hlink : Cond.fieldLink mi.1.cls index ref (T k).2.1 (T k).2.2.1 ∈ lw_all) (hsame : (T k).1 = ref ∨ Cond.sameField ref (T k).1 (T k).2.1 (T k).2.2.1 ∈ lw_all) {a : Nat} (ha : gC G a = kO ci) (hd : decode mi.2.1 pc = .ok (.getfield index, 3))
    (kk : GW Γ l mi h MC MS Q (pc + 3) lv (gfv (gcty ci k) (gI G a k) (gR G a k) (gF G a k) :: st) G bc bs) : GW Γ l mi h MC MS Q pc lv (.ref a :: st) G bc bs := by
  intro p e R s m args below meth c H locs cells slots ls X hS hG hls h1 h2
  have K := kk p e R s m args below meth c H locs cells slots ls X hS hG hls h1 h2
  obtain ⟨hx, hb, hml, hr, hlk, hnm, hts, hown, hK, hZ, -, -, -, -, hbase⟩ := X
  have hgc : gcl ci = (C, T, N) := by unfold gcl; rw [List.getD_eq_getElem?_getD, hc]; rfl
  have hsm : ∀ x, s.fieldFound? (T k).1 (T k).2.1 (T k).2.2.1 = some x → s.fieldFound? ref (T k).2.1 (T k).2.2.1 = some x := by
    intro x hx
    rcases hsame with e | e
    · rw [← e]; exact hx
    · exact u_same (hts _ e) x hx
  have hk' : k < (gcl ci).2.2 := by rw [hgc]; exact hk
  cases hm : gM G a with
  | true =>
    obtain ⟨ws, k0, hP, hk0⟩ := hG.read (by rw [ha]; exact kO_ne0 ci) hm
    rw [gent_O ha] at hk0
    exact va_get hx hb hts hin hown hK.1 hP k0 hk0 hc k hk (hts _ hlink) hsm (gfs_at hk') hd K
  | false =>
    obtain ⟨-, cell, c1, c2, c3, c4, -⟩ := hG.2.2 a (by rw [ha]; exact kO_ne0 ci) hm
    have c5 := (c4 (by rw [ha]; exact kO_odd ci)).2
    rw [ha, kO_half, hgc] at c5
    obtain ⟨cf, kf, i, f, ce, a1, a2, a3, a4, a5, -⟩ := c5 k hk
    exact W.getf hx hb hown (hts _ hlink) (hsm _ a1) a2 a3 a4 a5 rfl rfl hd K
/-- getfield of a nest mate's private field -/
theorem g_getN {C ref host : String} {T : u_T} {N index : Nat} (ci k : Nat) (hc : vwCl[ci]? = some (C, T, N)) (hin : ∀ w ∈ u_ws C T N, w ∈ lw_all) (hk : k < N) (hlink : (mi.1.cls, index, ref, (T k).2.1, (T k).2.2.1, host) ∈ gNF) (hsame : (T k).1 = ref) {a : Nat} (ha : gC G a = kO ci) (hm : gM G a = true) (hd : decode mi.2.1 pc = .ok (.getfield index, 3))
    (kk : GW Γ l mi h MC MS Q (pc + 3) lv (gfv (gcty ci k) (gI G a k) (gR G a k) (gF G a k) :: st) G bc bs) : GW Γ l mi h MC MS Q pc lv (.ref a :: st) G bc bs := by
  intro p e R s m args below meth c H locs cells slots ls X hS hG hls h1 h2
  have K := kk p e R s m args below meth c H locs cells slots ls X hS hG hls h1 h2
  obtain ⟨hx, hb, hml, hr, hlk, hnm, hts, hown, hK, hZ, -, -, -, -, hbase⟩ := X
  have hgc : gcl ci = (C, T, N) := by unfold gcl; rw [List.getD_eq_getElem?_getD, hc]; rfl
  have hk' : k < (gcl ci).2.2 := by rw [hgc]; exact hk
  obtain ⟨ws, k0, hP, hk0⟩ := hG.read (by rw [ha]; exact kO_ne0 ci) hm
  rw [gent_O ha] at hk0
  exact va_getN hx hb hts hin hown hK.1 hP k0 hk0 hc k hk (va_Nw.use rfl (hK.2.1 _ hlink)) (fun x hx => by rw [← hsame]; exact hx) (gfs_at hk') hd K
theorem gfs_set {G1 : GH} {a ci k : Nat} {v : Value} (hk : k < (gcl ci).2.2) (hv : gfv (gcty ci k) (gI G1 a k) (gR G1 a k) (gF G1 a k) = v) (ho : ∀ j, j ≠ k → gI G1 a j = gI G a j ∧ gR G1 a j = gR G a j ∧ gF G1 a j = gF G a j) : (gfs G a ci).set k v = gfs G1 a ci := by
  apply List.ext_getElem?
  intro j
  by_cases hj : j = k
  · subst hj
    rw [List.getElem?_set_self (by rw [gfs_len]; exact hk), gfs_at hk, hv]
  · rw [List.getElem?_set_ne (Ne.symm hj)]
    unfold gfs
    rw [List.getElem?_map, List.getElem?_map]
    obtain ⟨o1, o2, o3⟩ := ho j hj
    by_cases hl : j < (gcl ci).2.2
    · rw [List.getElem?_range hl]
      simp only [Option.map_some, o1, o2, o3]
    · rw [List.getElem?_eq_none (by rw [List.length_range]; omega)]
      rfl
/-- putfield, any kind: G1 is the ghost heap behind it -/
theorem g_put {G1 : GH} {C ref : String} {T : u_T} {N index : Nat} {tyN : Nat → FieldType} {v : Value} (ci k : Nat) (hc : vwCl[ci]? = some (C, T, N)) (hin : ∀ w ∈ u_ws C T N, w ∈ lw_all) (htyN : ∀ k, k < N → parseFieldDescriptor (T k).2.2.1 = some (tyN k)) (hnmN : ∀ a, a < N → ∀ b, b < N → a ≠ b → (T a).2.1 ≠ (T b).2.1) (hk : k < N) (hlink : Cond.fieldLink mi.1.cls index ref (T k).2.1 (T k).2.2.1 ∈ lw_all) (hsame : (T k).1 = ref ∨ Cond.sameField ref (T k).1 (T k).2.1 (T k).2.2.1 ∈ lw_all)
    (hfin : (T k).2.2.2 = false ∨ (mi.1.name = "<init>" ∧ (T k).1 = mi.1.cls)) {a : Nat} (ha : gC G a = kO ci) (hm : gM G a = true) (hn : narrow (tyN k) v = v) (hfit : fits (tyN k) v = true)
    (e1 : gC G1 = gC G) (e2 : gL G1 = gL G) (e3 : gM G1 = gM G) (ev : gfv (gcty ci k) (gI G1 a k) (gR G1 a k) (gF G1 a k) = v) (eo : ∀ j, j ≠ k → gI G1 a j = gI G a j ∧ gR G1 a j = gR G a j ∧ gF G1 a j = gF G a j) (ea : ∀ q, q ≠ a → (∀ j, gI G1 q j = gI G q j) ∧ (∀ j, gR G1 q j = gR G q j) ∧ ∀ j, gF G1 q j = gF G q j)
    (hd : decode mi.2.1 pc = .ok (.putfield index, 3)) (kk : GW Γ l mi h MC MS Q (pc + 3) lv st G1 bc bs) : GW Γ l mi h MC MS Q pc lv (v :: .ref a :: st) G bc bs := by
  intro p e R s m args below meth c H locs cells slots ls X hS hG hls h1 h2
  have K := fun H1 locs1 hS1 hG1 => kk p e R s m args below meth c H1 locs1 cells slots ls X hS1 hG1 hls h1 h2
  obtain ⟨hx, hb, hml, hr, hlk, hnm, hts, hown, hK, hZ, -, -, -, -, hbase⟩ := X
  have hgc : gcl ci = (C, T, N) := by unfold gcl; rw [List.getD_eq_getElem?_getD, hc]; rfl
  have hsm : ∀ x, s.fieldFound? (T k).1 (T k).2.1 (T k).2.2.1 = some x → s.fieldFound? ref (T k).2.1 (T k).2.2.1 = some x := by
    intro x hx
    rcases hsame with e | e
    · rw [← e]; exact hx
    · exact u_same (hts _ e) x hx
  have hk' : k < (gcl ci).2.2 := by rw [hgc]; exact hk
  have hGG := hG
  obtain ⟨hbs, ⟨ws, hP, hD, w1, w2⟩, hcst⟩ := hG
  obtain ⟨k0, hk0⟩ := List.getElem?_of_mem (w1 a (by rw [ha]; exact kO_ne0 ci) hm)
  have hk1 := hk0
  rw [gent_O ha] at hk0
  have fin : ∀ (H1 : Heap) (locs1 : List Loc), va_P Γ.1 vwCl (ws.set k0 (a, .inr (ci, (gfs G a ci).set k v))) H1 → va_D (gA Γ) (ws.set k0 (a, .inr (ci, (gfs G a ci).set k v))) → va_S (gA Γ) s.heap H1 locs1 → W p l e R s m args below meth c H1 locs1 cells slots (MQ below (gQ Γ Q) args s MC MS (gA Γ)) (F0 m (pc + 3) ls st) := by
    intro H1 locs1 hP1 hD1 hS1
    refine K H1 locs1 hS1 (gH_put (Nat.le_trans hbase hS1.1) hGG hP hD w1 w2 hk1 hP1 (gS_keep hbase hS hS1) e1 e2 e3 ?_ ea)
    rw [gent_O (by rw [e1]; exact ha), gfs_set hk' ev eo]
  rcases hfin with hf | ⟨hf1, hf2⟩
  · exact va_put hx hb hts hin tyN htyN hnmN hown hK.1 hP hD hS k0 hk0 hc k hk (hts _ hlink) hsm hf (htyN k hk) hn hfit (by rw [gfs_len]; exact hk') hd fin
  · cases hfl : (T k).2.2.2 with
    | false => exact va_put hx hb hts hin tyN htyN hnmN hown hK.1 hP hD hS k0 hk0 hc k hk (hts _ hlink) hsm hfl (htyN k hk) hn hfit (by rw [gfs_len]; exact hk') hd fin
    | true => exact va_putF hx hb hts hin tyN htyN hnmN hown hK.1 hP hD hS k0 hk0 hc k hk (hts _ hlink) hsm hfl (hnm.trans hf1) hf2 (htyN k hk) hn hfit (by rw [gfs_len]; exact hk') hd fin
theorem gtys_at (t : Nat) (ht : t < 8) : (gtys Γ)[t]? = some (Γ.2.2.1 t, gtyq t) := by
  unfold gtys
  rw [List.getElem?_map, List.getElem?_range ht]
  rfl
theorem vp_lt {i : Int32} {n : Nat} (h : vp_in i n) : i.toNatClampNeg < n := Nat.not_le.mp fun q => h (Or.inr q)
/-- what a read of an int-like array needs -/
theorem gH.arrC {s : State} {H : Heap} {a t : Nat} {i : Int32} (hG : gH Γ s G H) (ha : gC G a = kA t) (ht : t < 4) (hm : gM G a = false) (hin : vp_in i (gL G a)) : ∃ cell : Cell, H[a]? = some cell ∧ s.isArrayOf cell (gtyq t) ∧ cell.vm ≠ .unknown ∧ ¬ (i < 0 ∨ cell.slots.size ≤ i.toNatClampNeg) ∧ cell.slots[i.toNatClampNeg]? = some (.int (gI G a i.toNatClampNeg)) := by
  obtain ⟨-, cell, c1, c2, c3, -, c5⟩ := hG.2.2 a (by rw [ha]; exact kA_ne0 t) hm
  obtain ⟨d1, d2, d3⟩ := c5 (by rw [ha]; exact kA_even t)
  rw [ha, kA_half] at d1 d3
  refine ⟨cell, c1, d1, c3, by rw [d2]; exact hin, ?_⟩
  rw [d3 _ (vp_lt hin), if_neg (by omega)]
theorem g_iald {a : Nat} {i : Int32} (ha : gC G a = kA 0) (hin : vp_in i (gL G a)) (hd : decode mi.2.1 pc = .ok (.iaload, 1)) (kk : GW Γ l mi h MC MS Q (pc + 1) lv (.int (gI G a i.toNatClampNeg) :: st) G bc bs) : GW Γ l mi h MC MS Q pc lv (.int i :: .ref a :: st) G bc bs := by
  intro p e R s m args below meth c H locs cells slots ls X hS hG hls h1 h2
  have K := kk p e R s m args below meth c H locs cells slots ls X hS hG hls h1 h2
  cases hm : gM G a with
  | true =>
    obtain ⟨ws, k0, hP, hk0⟩ := hG.read (by rw [ha]; exact kA_ne0 0) hm
    rw [gent_Ai ha (by decide)] at hk0
    exact va_iald X.1 X.2.1 X.2.2.2.2.2.2.2.2.1.1 hP k0 0 hk0 (gtys_at 0 (by decide)) hin hd K
  | false =>
    obtain ⟨cell, c1, c2, c3, c4, c5⟩ := hG.arrC ha (by decide) hm hin
    exact W.iald X.1 X.2.1 c1 c2 c3 c4 c5 rfl rfl hd K
theorem g_zald {a : Nat} {i : Int32} (ha : gC G a = kA 1) (hin : vp_in i (gL G a)) (hd : decode mi.2.1 pc = .ok (.baload, 1)) (kk : GW Γ l mi h MC MS Q (pc + 1) lv (.int (gI G a i.toNatClampNeg) :: st) G bc bs) : GW Γ l mi h MC MS Q pc lv (.int i :: .ref a :: st) G bc bs := by
  intro p e R s m args below meth c H locs cells slots ls X hS hG hls h1 h2
  have K := kk p e R s m args below meth c H locs cells slots ls X hS hG hls h1 h2
  cases hm : gM G a with
  | true =>
    obtain ⟨ws, k0, hP, hk0⟩ := hG.read (by rw [ha]; exact kA_ne0 1) hm
    rw [gent_Ai ha (by decide)] at hk0
    exact va_zald X.1 X.2.1 X.2.2.2.2.2.2.2.2.1.1 hP k0 1 hk0 (gtys_at 1 (by decide)) hin hd K
  | false =>
    obtain ⟨cell, c1, c2, c3, c4, c5⟩ := hG.arrC ha (by decide) hm hin
    exact W.zald X.1 X.2.1 c1 c2 c3 c4 c5 rfl rfl hd K
theorem g_bald {a : Nat} {i : Int32} (ha : gC G a = kA 2) (hin : vp_in i (gL G a)) (hd : decode mi.2.1 pc = .ok (.baload, 1)) (kk : GW Γ l mi h MC MS Q (pc + 1) lv (.int (gI G a i.toNatClampNeg) :: st) G bc bs) : GW Γ l mi h MC MS Q pc lv (.int i :: .ref a :: st) G bc bs := by
  intro p e R s m args below meth c H locs cells slots ls X hS hG hls h1 h2
  have K := kk p e R s m args below meth c H locs cells slots ls X hS hG hls h1 h2
  cases hm : gM G a with
  | true =>
    obtain ⟨ws, k0, hP, hk0⟩ := hG.read (by rw [ha]; exact kA_ne0 2) hm
    rw [gent_Ai ha (by decide)] at hk0
    exact va_bald X.1 X.2.1 X.2.2.2.2.2.2.2.2.1.1 hP k0 2 hk0 (gtys_at 2 (by decide)) hin hd K
  | false =>
    obtain ⟨cell, c1, c2, c3, c4, c5⟩ := hG.arrC ha (by decide) hm hin
    exact W.bald X.1 X.2.1 c1 c2 c3 c4 c5 rfl rfl hd K
theorem g_cald {a : Nat} {i : Int32} (ha : gC G a = kA 3) (hin : vp_in i (gL G a)) (hd : decode mi.2.1 pc = .ok (.caload, 1)) (kk : GW Γ l mi h MC MS Q (pc + 1) lv (.int (gI G a i.toNatClampNeg) :: st) G bc bs) : GW Γ l mi h MC MS Q pc lv (.int i :: .ref a :: st) G bc bs := by
  intro p e R s m args below meth c H locs cells slots ls X hS hG hls h1 h2
  have K := kk p e R s m args below meth c H locs cells slots ls X hS hG hls h1 h2
  cases hm : gM G a with
  | true =>
    obtain ⟨ws, k0, hP, hk0⟩ := hG.read (by rw [ha]; exact kA_ne0 3) hm
    rw [gent_Ai ha (by decide)] at hk0
    exact va_cald X.1 X.2.1 X.2.2.2.2.2.2.2.2.1.1 hP k0 3 hk0 (gtys_at 3 (by decide)) hin hd K
  | false =>
    obtain ⟨cell, c1, c2, c3, c4, c5⟩ := hG.arrC ha (by decide) hm hin
    exact W.cald X.1 X.2.1 c1 c2 c3 c4 c5 rfl rfl hd K
theorem g_alen {a : Nat} (t : Nat) (ha : gC G a = kA t) (ht : t < 8) (hd : decode mi.2.1 pc = .ok (.arraylength, 1)) (kk : GW Γ l mi h MC MS Q (pc + 1) lv (.int (nI (gL G a)) :: st) G bc bs) : GW Γ l mi h MC MS Q pc lv (.ref a :: st) G bc bs := by
  intro p e R s m args below meth c H locs cells slots ls X hS hG hls h1 h2
  have K := kk p e R s m args below meth c H locs cells slots ls X hS hG hls h1 h2
  cases hm : gM G a with
  | true =>
    obtain ⟨ws, k0, hP, hk0⟩ := hG.read (by rw [ha]; exact kA_ne0 t) hm
    by_cases h4 : t < 4
    · rw [gent_Ai ha h4] at hk0
      exact va_alen X.1 X.2.1 X.2.2.2.2.2.2.2.2.1.1 hP k0 t hk0 (gtys_at t ht) (v := nI (gL G a)) rfl hd K
    · rw [gent_Ar ha (by omega)] at hk0
      exact va_alen X.1 X.2.1 X.2.2.2.2.2.2.2.2.1.1 hP k0 t hk0 (gtys_at t ht) (v := nI (gL G a)) rfl hd K
  | false =>
    obtain ⟨-, cell, c1, c2, c3, -, c5⟩ := hG.2.2 a (by rw [ha]; exact kA_ne0 t) hm
    obtain ⟨d1, d2, d3⟩ := c5 (by rw [ha]; exact kA_even t)
    exact W.alen (n := nI (gL G a)) X.1 X.2.1 c1 d1 (by rw [d2]; rfl) rfl rfl hd K
theorem g_aald {a : Nat} {i : Int32} (t : Nat) (ha : gC G a = kA t) (h4 : 4 ≤ t) (h8 : t < 8) (hm : gM G a = true) (hin : vp_in i (gL G a)) (hd : decode mi.2.1 pc = .ok (.aaload, 1)) (kk : GW Γ l mi h MC MS Q (pc + 1) lv (va_rf (gR G a i.toNatClampNeg) :: st) G bc bs) : GW Γ l mi h MC MS Q pc lv (.int i :: .ref a :: st) G bc bs := by
  intro p e R s m args below meth c H locs cells slots ls X hS hG hls h1 h2
  have K := kk p e R s m args below meth c H locs cells slots ls X hS hG hls h1 h2
  obtain ⟨ws, k0, hP, hk0⟩ := hG.read (by rw [ha]; exact kA_ne0 t) hm
  rw [gent_Ar ha h4] at hk0
  have ht := gtys_at (Γ := Γ) t h8
  have hy : ∃ C, gtyq t = .object C := by
    rcases (show t = 4 ∨ t = 5 ∨ t = 6 ∨ t = 7 by omega) with rfl | rfl | rfl | rfl <;> exact ⟨_, rfl⟩
  obtain ⟨C, hC⟩ := hy
  rw [hC] at ht
  exact va_aldq X.1 X.2.1 X.2.2.2.2.2.2.2.2.1.1 hP k0 t hk0 ht hin hd K
theorem g_iast {a : Nat} {i x : Int32} (ha : gC G a = kA 0) (hm : gM G a = true) (hin : vp_in i (gL G a)) (hd : decode mi.2.1 pc = .ok (.iastore, 1)) (kk : GW Γ l mi h MC MS Q (pc + 1) lv st (sI G a i.toNatClampNeg (x)) bc bs) : GW Γ l mi h MC MS Q pc lv (.int x :: .int i :: .ref a :: st) G bc bs := by
  intro p e R s m args below meth c H locs cells slots ls X hS hG hls h1 h2
  have K := fun H1 locs1 hS1 hG1 => kk p e R s m args below meth c H1 locs1 cells slots ls X hS1 hG1 hls h1 h2
  obtain ⟨hx, hb, hml, hr, hlk, hnm, hts, hown, hK, hZ, -, -, -, -, hbase⟩ := X
  have hGG := hG
  obtain ⟨hbs, ⟨ws, hP, hD, w1, w2⟩, hcst⟩ := hG
  obtain ⟨k0, hk0⟩ := List.getElem?_of_mem (w1 a (by rw [ha]; exact kA_ne0 0) hm)
  have hk1 := hk0
  rw [gent_Ai ha (by decide)] at hk0
  refine va_iast hx hb hK.1 hP hD hS k0 0 hk0 (gtys_at 0 (by decide)) hin hd fun H1 locs1 hP1 hD1 hS1 => ?_
  refine K H1 locs1 hS1 (gH_put (Nat.le_trans hbase hS1.1) hGG hP hD w1 w2 hk1 hP1 (gS_keep hbase hS hS1) rfl rfl rfl ?_ (fun q hq => ⟨fun j => by rw [gI_sI, if_neg (fun z => hq z.1)], fun j => rfl, fun j => rfl⟩))
  rw [gent_Ai (G := sI G a i.toNatClampNeg _) (t := 0) ha (by decide), upd_sI]
  rfl
theorem g_cast {a : Nat} {i x : Int32} (ha : gC G a = kA 3) (hm : gM G a = true) (hin : vp_in i (gL G a)) (hd : decode mi.2.1 pc = .ok (.castore, 1)) (kk : GW Γ l mi h MC MS Q (pc + 1) lv st (sI G a i.toNatClampNeg (vp_nar .char x)) bc bs) : GW Γ l mi h MC MS Q pc lv (.int x :: .int i :: .ref a :: st) G bc bs := by
  intro p e R s m args below meth c H locs cells slots ls X hS hG hls h1 h2
  have K := fun H1 locs1 hS1 hG1 => kk p e R s m args below meth c H1 locs1 cells slots ls X hS1 hG1 hls h1 h2
  obtain ⟨hx, hb, hml, hr, hlk, hnm, hts, hown, hK, hZ, -, -, -, -, hbase⟩ := X
  have hGG := hG
  obtain ⟨hbs, ⟨ws, hP, hD, w1, w2⟩, hcst⟩ := hG
  obtain ⟨k0, hk0⟩ := List.getElem?_of_mem (w1 a (by rw [ha]; exact kA_ne0 3) hm)
  have hk1 := hk0
  rw [gent_Ai ha (by decide)] at hk0
  refine va_cast hx hb hK.1 hP hD hS k0 3 hk0 (gtys_at 3 (by decide)) hin hd fun H1 locs1 hP1 hD1 hS1 => ?_
  refine K H1 locs1 hS1 (gH_put (Nat.le_trans hbase hS1.1) hGG hP hD w1 w2 hk1 hP1 (gS_keep hbase hS hS1) rfl rfl rfl ?_ (fun q hq => ⟨fun j => by rw [gI_sI, if_neg (fun z => hq z.1)], fun j => rfl, fun j => rfl⟩))
  rw [gent_Ai (G := sI G a i.toNatClampNeg _) (t := 3) ha (by decide), upd_sI]
  rfl
theorem g_zast {a : Nat} {i x : Int32} (ha : gC G a = kA 1) (hm : gM G a = true) (hin : vp_in i (gL G a)) (hd : decode mi.2.1 pc = .ok (.bastore, 1)) (kk : GW Γ l mi h MC MS Q (pc + 1) lv st (sI G a i.toNatClampNeg (vp_nar .boolean x)) bc bs) : GW Γ l mi h MC MS Q pc lv (.int x :: .int i :: .ref a :: st) G bc bs := by
  intro p e R s m args below meth c H locs cells slots ls X hS hG hls h1 h2
  have K := fun H1 locs1 hS1 hG1 => kk p e R s m args below meth c H1 locs1 cells slots ls X hS1 hG1 hls h1 h2
  obtain ⟨hx, hb, hml, hr, hlk, hnm, hts, hown, hK, hZ, -, -, -, -, hbase⟩ := X
  have hGG := hG
  obtain ⟨hbs, ⟨ws, hP, hD, w1, w2⟩, hcst⟩ := hG
  obtain ⟨k0, hk0⟩ := List.getElem?_of_mem (w1 a (by rw [ha]; exact kA_ne0 1) hm)
  have hk1 := hk0
  rw [gent_Ai ha (by decide)] at hk0
  refine va_zast hx hb hK.1 hP hD hS k0 1 hk0 (gtys_at 1 (by decide)) hin hd fun H1 locs1 hP1 hD1 hS1 => ?_
  refine K H1 locs1 hS1 (gH_put (Nat.le_trans hbase hS1.1) hGG hP hD w1 w2 hk1 hP1 (gS_keep hbase hS hS1) rfl rfl rfl ?_ (fun q hq => ⟨fun j => by rw [gI_sI, if_neg (fun z => hq z.1)], fun j => rfl, fun j => rfl⟩))
  rw [gent_Ai (G := sI G a i.toNatClampNeg _) (t := 1) ha (by decide), upd_sI]
  rfl
theorem g_bast {a : Nat} {i x : Int32} (ha : gC G a = kA 2) (hm : gM G a = true) (hin : vp_in i (gL G a)) (hd : decode mi.2.1 pc = .ok (.bastore, 1)) (kk : GW Γ l mi h MC MS Q (pc + 1) lv st (sI G a i.toNatClampNeg (vp_nar .byte x)) bc bs) : GW Γ l mi h MC MS Q pc lv (.int x :: .int i :: .ref a :: st) G bc bs := by
  intro p e R s m args below meth c H locs cells slots ls X hS hG hls h1 h2
  have K := fun H1 locs1 hS1 hG1 => kk p e R s m args below meth c H1 locs1 cells slots ls X hS1 hG1 hls h1 h2
  obtain ⟨hx, hb, hml, hr, hlk, hnm, hts, hown, hK, hZ, -, -, -, -, hbase⟩ := X
  have hGG := hG
  obtain ⟨hbs, ⟨ws, hP, hD, w1, w2⟩, hcst⟩ := hG
  obtain ⟨k0, hk0⟩ := List.getElem?_of_mem (w1 a (by rw [ha]; exact kA_ne0 2) hm)
  have hk1 := hk0
  rw [gent_Ai ha (by decide)] at hk0
  refine va_bast hx hb hK.1 hP hD hS k0 2 hk0 (gtys_at 2 (by decide)) hin hd fun H1 locs1 hP1 hD1 hS1 => ?_
  refine K H1 locs1 hS1 (gH_put (Nat.le_trans hbase hS1.1) hGG hP hD w1 w2 hk1 hP1 (gS_keep hbase hS hS1) rfl rfl rfl ?_ (fun q hq => ⟨fun j => by rw [gI_sI, if_neg (fun z => hq z.1)], fun j => rfl, fun j => rfl⟩))
  rw [gent_Ai (G := sI G a i.toNatClampNeg _) (t := 2) ha (by decide), upd_sI]
  rfl
theorem gP_blind {av : List Value} : FrameBlind (va_Pc av (gP Γ G)) := by
  intro a U g mk q
  obtain ⟨q0, qK, qZ, qG⟩ := q
  exact ⟨q0, gK.same (u := U) (U := U.calling g mk a) rfl qK, gZ.moved (s := U) (U := U.calling g mk a) (Vm.Alike.refl U.vm) (fun _ _ _ => rfl) qZ, gH_moved (s := U) (U := U.calling g mk a) (Vm.Alike.refl U.vm) qG⟩
theorem gP_of {s U : State} {H : Heap} {locs : List Loc} (hK : gK Γ s) (hZ : gZ Γ s s.heap) (hS : va_S (gA Γ) s.heap H locs) (hG : gH Γ s G H) (hU : U.heap = H) (hW : s.WarmedH U.vm) : gP Γ G U :=
  ⟨gK.warm hW hK, gZ.moved hW.alike (fun a h1 h2 => by rw [hU]; exact hS.2.1 a h1 h2) hZ, by rw [hU]; exact gH_moved hW.alike hG⟩
theorem gH.recv {s : State} {H : Heap} {a ci : Nat} {C : String} {T : u_T} {N : Nat} (hK : gK Γ s) (hG : gH Γ s G H) (hc : vwCl[ci]? = some (C, T, N)) (ha : gC G a = kO ci) : ∃ cell : Cell, H[a]? = some cell ∧ cell.vm.isStatics = false ∧ s.vm.findClass C = some cell.cls := by
  cases hm : gM G a with
  | true =>
    obtain ⟨ws, k0, hP, hk0⟩ := hG.read (by rw [ha]; exact kO_ne0 ci) hm
    rw [gent_O ha] at hk0
    exact va_recv hK.1 hP hc hk0
  | false =>
    obtain ⟨-, cell, c1, c2, c3, c4, -⟩ := hG.2.2 a (by rw [ha]; exact kO_ne0 ci) hm
    have hgc : gcl ci = (C, T, N) := by unfold gcl; rw [List.getD_eq_getElem?_getD, hc]; rfl
    have c5 := (c4 (by rw [ha]; exact kO_odd ci)).1
    rw [ha, kO_half, hgc] at c5
    exact ⟨cell, c1, c2, c5⟩
theorem GW.ofRun {mc ms : Nat} {av : Array Value} {rest : List Value} {Q' : Option Value → GH → Prop}
    (hrun : ∀ (p : Program) (e : Env) (R : Room) (s : State) (m : MethodId) (args : Array Value) (below : List Frame) (meth : Method) (c : Code) (H : Heap) (locs : List Loc) (cells slots : Nat) (ls : Array Slot), GX Γ mi h MC MS p R s m args meth c → va_S (gA Γ) s.heap H locs → gH Γ s G H → lv_has ls mi.2.2.1 lv → cells + bc ≤ MC → slots + bs ≤ MS →
      va_Run p l e R s m args below meth c H locs cells slots mc ms (F0 m pc ls st) rest (gQ Γ Q' av) (gA Γ))
    (hmc : mc ≤ bc) (hms : ms ≤ bs) (kk : ∀ v G', Q' v G' → GW Γ l mi h MC MS Q (pc + 3) lv (v.toList ++ rest) G' (bc - mc) (bs - ms)) : GW Γ l mi h MC MS Q pc lv st G bc bs := by
  intro p e R s m args below meth c H locs cells slots ls X hS hG hls h1 h2 T hT XT
  obtain ⟨v, st₀, t, T', L, h0, X', hL, e1, e2, ⟨⟨v', G', hv, hq, hG'⟩, hz, hk⟩, go⟩ := hrun p e R s m args below meth c H locs cells slots ls X hS hG hls h1 h2 T hT XT
  cases hv
  rw [h0] at hz hk
  have hS' : va_S (gA Γ) s.heap T'.heap (locs ++ L) := ⟨Nat.le_trans hS.1 (by rw [e1]; exact hz), fun q g1 g2 => by rw [e1, hk q (Nat.lt_of_lt_of_le g1 hS.1) g2]; exact hS.2.1 q g1 g2, fun q hq => by
      rcases List.mem_append.mp hq with g | g
      · exact hS.2.2 q g
      · exact hL q g⟩
  have hGs : gH Γ s G' T'.heap := by
    rw [e1]
    exact gH_moved (by rw [← e2]; exact X'.warmed.alike.symm) hG'
  obtain ⟨t2, a1, b1⟩ := kk v G' hq p e R s m args below meth c T'.heap (locs ++ L) (cells + mc) (slots + ms) ls X hS' hGs hls (by omega) (by omega) T' rfl X'
  exact ⟨t2, go t2 a1, b1⟩
theorem room_call {y : MI} {h0 mc ms : Nat} {R : Room} (hh : h0 < h) (hL : y.2.2.1 ≤ 45) (h1 : h ≤ R.frames) (h2 : 64 * h ≤ R.locals) : (gRm h0 mc ms).frames + 1 ≤ R.frames ∧ 8 + (y.2.2.1 + 11) + (gRm h0 mc ms).locals ≤ R.locals := by
  unfold gRm
  dsimp only
  omega
/-- invokevirtual of a method of the receiver's own class -/
theorem g_callV {y : MI} {index h0 mc ms ci : Nat} {As rest : List Value} {a : Nat} {C : String} {T : u_T} {N : Nat} {Q' : Option Value → GH → Prop} (hT : Tr Γ l y h0 mc ms (.ref a :: As) G Q') (n : Nat) (hn : As.length = n) (hc : vwCl[ci]? = some (C, T, N)) (hw : GoodIn lw_all (wsV mi.1.cls index C y.1 (ws_ y.1 y.2.1 y.2.2.1 y.2.2.2)))
    (hcl : y.1.cls = C ∧ y.1.cls ≠ "java/lang/invoke/MethodHandle" ∧ y.1.cls ≠ "java/lang/invoke/VarHandle" ∧ (parseMethodDescriptor y.1.desc).map (fun d => d.parameters.length) = some n) (hL : y.2.2.1 ≤ 45) (hh : h0 < h) (ha : gC G a = kO ci)
    (hst : st = As.reverse ++ .ref a :: rest) (hr8 : (rest.map fun v => v.category).sum ≤ 8) (hd : decode mi.2.1 pc = .ok (.invokevirtual index, 3)) (hmc : mc ≤ bc) (hms : ms ≤ bs) (kk : ∀ v G', Q' v G' → GW Γ l mi h MC MS Q (pc + 3) lv (v.toList ++ rest) G' (bc - mc) (bs - ms)) : GW Γ l mi h MC MS Q pc lv st G bc bs := by
  refine GW.ofRun (mc := mc) (ms := ms) (rest := rest) (Q' := Q') (av := (.ref a :: As).toArray) ?_ hmc hms kk
  intro p e R s m args below meth c H locs cells slots ls X hS hG hls h1 h2
  obtain ⟨hx, hb, hml, hr, hlk, hnm, hts, hown, hK, hZ, hf1, hf2, hf3, hf4, hbase⟩ := X
  exact va_runV (As := As) (rest := rest) ⟨hx, hb, hml, hown, hts⟩ hT (cwV n hts hw rfl rfl rfl hcl (room_call hh hL hf1 hf2)) ⟨gP_blind, hG.recv hK hc ha, fun U hU hW => ⟨rfl, gP_of hK hZ hS hG hU hW⟩⟩ rfl hn hls.1 hst (lv_room hr8) hd ⟨by omega, by omega⟩
/-- invokestatic -/
theorem g_callS {y : MI} {index h0 mc ms : Nat} {As rest : List Value} {Q' : Option Value → GH → Prop} (hT : Tr Γ l y h0 mc ms As G Q') (n : Nat) (hn : As.length = n) (hw : GoodIn lw_all (va_wsS mi.1.cls index y.1 (ws_ y.1 y.2.1 y.2.2.1 y.2.2.2)))
    (hcl : y.1.cls ≠ "java/lang/invoke/MethodHandle" ∧ y.1.cls ≠ "java/lang/invoke/VarHandle" ∧ (parseMethodDescriptor y.1.desc).map (fun d => d.parameters.length) = some n) (hL : y.2.2.1 ≤ 45) (hh : h0 < h)
    (hst : st = As.reverse ++ rest) (hr8 : (rest.map fun v => v.category).sum ≤ 8) (hd : decode mi.2.1 pc = .ok (.invokestatic index, 3)) (hmc : mc ≤ bc) (hms : ms ≤ bs) (kk : ∀ v G', Q' v G' → GW Γ l mi h MC MS Q (pc + 3) lv (v.toList ++ rest) G' (bc - mc) (bs - ms)) : GW Γ l mi h MC MS Q pc lv st G bc bs := by
  refine GW.ofRun (mc := mc) (ms := ms) (rest := rest) (Q' := Q') (av := As.toArray) ?_ hmc hms kk
  intro p e R s m args below meth c H locs cells slots ls X hS hG hls h1 h2
  obtain ⟨hx, hb, hml, hr, hlk, hnm, hts, hown, hK, hZ, hf1, hf2, hf3, hf4, hbase⟩ := X
  exact va_runS (As := As) (rest := rest) ⟨hx, hb, hml, hown, hts⟩ hT (va_cwS n hts hw rfl rfl rfl hcl (room_call hh hL hf1 hf2)) ⟨gP_blind, fun U hU hW => ⟨rfl, gP_of hK hZ hS hG hU hW⟩⟩ rfl hn hls.1 hst (lv_room hr8) hd ⟨by omega, by omega⟩
/-- invokespecial of a constructor -/
theorem g_callI {y : MI} {index h0 mc ms : Nat} {As rest : List Value} {a : Nat} {Q' : Option Value → GH → Prop} (hT : Tr Γ l y h0 mc ms (.ref a :: As) G Q') (n : Nat) (hn : As.length = n) (hrt : y.2.2.2 = none) (hw : GoodIn lw_all (ws_ y.1 y.2.1 y.2.2.1 y.2.2.2)) (w1 : Cond.initialized y.1.cls ∈ lw_all) (w2 : Cond.methodLink mi.1.cls index y.1 ∈ lw_all) (w3 : Cond.instanceMethod y.1 ∈ lw_all) (hy1 : y.1.name = "<init>")
    (hcl : y.1.cls ≠ "java/lang/invoke/MethodHandle" ∧ y.1.cls ≠ "java/lang/invoke/VarHandle" ∧ (parseMethodDescriptor y.1.desc).map (fun d => d.parameters.length) = some n) (hL : y.2.2.1 ≤ 45) (hh : h0 < h)
    (hst : st = As.reverse ++ .ref a :: rest) (hr8 : (rest.map fun v => v.category).sum ≤ 8) (hd : decode mi.2.1 pc = .ok (.invokespecial index, 3)) (hmc : mc ≤ bc) (hms : ms ≤ bs) (kk : ∀ v G', Q' v G' → GW Γ l mi h MC MS Q (pc + 3) lv (v.toList ++ rest) G' (bc - mc) (bs - ms)) : GW Γ l mi h MC MS Q pc lv st G bc bs := by
  refine GW.ofRun (mc := mc) (ms := ms) (rest := rest) (Q' := Q') (av := (.ref a :: As).toArray) ?_ hmc hms kk
  intro p e R s m args below meth c H locs cells slots ls X hS hG hls h1 h2
  obtain ⟨hx, hb, hml, hr, hlk, hnm, hts, hown, hK, hZ, hf1, hf2, hf3, hf4, hbase⟩ := X
  unfold Tr at hT
  rw [hrt] at hT hw
  exact va_runI (As := As) (rest := rest) ⟨hx, hb, hml, hown, hts⟩ hT (cwI n hts hw rfl rfl rfl (hts _ w1) (hts _ w2) (hts _ w3) hy1 hcl (room_call hh hL hf1 hf2)) ⟨gP_blind, fun U hU hW => ⟨rfl, gP_of hK hZ hS hG hU hW⟩⟩ rfl hn hls.1 hst (lv_room hr8) hd ⟨by omega, by omega⟩
/-- Object.<init> -/
theorem g_objInit {idx : Nat} {a : Nat} (hl : Cond.methodLink mi.1.cls idx Lib.objectInit ∈ lw_all) (hin : Cond.instanceMethod Lib.objectInit ∈ lw_all) (hco : Cond.code Lib.objectInit ⟨#[0xb1]⟩ 1 none ∈ lw_all) (hd : decode mi.2.1 pc = .ok (.invokespecial idx, 3)) (hh : 0 < h) (hr8 : (st.map fun v => v.category).sum ≤ 8) (kk : GW Γ l mi h MC MS Q (pc + 3) lv st G bc bs) : GW Γ l mi h MC MS Q pc lv (.ref a :: st) G bc bs := by
  intro p e R s m args below meth c H locs cells slots ls X hS hG hls h1 h2
  have K := kk p e R s m args below meth c H locs cells slots ls X hS hG hls h1 h2
  obtain ⟨hx, hb, hml, hr, hlk, hnm, hts, hown, hK, hZ, hf1, hf2, hf3, hf4, hbase⟩ := X
  exact W.objInit hx hb hown (hts _ hl) (hts _ hin) (hts _ hco) rfl (by rw [hml]; exact hls.1) rfl hd (by omega) (by show 2 * 0 + _ + 12 ≤ _; omega) K
theorem gQ_ret {s t : State} {H : Heap} {locs : List Loc} {av : Array Value} {v : Option Value} (hS : va_S (gA Γ) s.heap H locs) (hG : gH Γ s G H) (hq : Q v G) (ht : t.heap = H) (hW : s.WarmedH t.vm) : gQ Γ Q av s (.returned v) t :=
  ⟨⟨v, G, rfl, hq, by rw [ht]; exact gH_moved hW.alike hG⟩, va_S.F hS ht⟩
theorem g_iret {v : Int32} (hrt : mi.2.2.2 = some .int) (hd : decode mi.2.1 pc = .ok (.ireturn, 1)) (k : Q (some (.int v)) G) : GW Γ l mi h MC MS Q pc lv [.int v] G bc bs := by
  intro p e R s m args below meth c H locs cells slots ls X hS hG hls h1 h2
  obtain ⟨hx, hb, hml, hr, hlk, hnm, hts, hown, hK, hZ, hf1, hf2, hf3, hf4, hbase⟩ := X
  refine W.widen (k := MC) (n := MS) (by omega) (by omega) ?_
  exact W.iret (v := v) hx hb (hr.trans hrt) (fun t ht hW => gQ_ret hS hG k ht hW) hS.2.2 hd
theorem g_zret {v : Int32} {ty : FieldType} (hrt : mi.2.2.2 = some ty) (hn : narrow ty (.int v) = .int v) (hd : decode mi.2.1 pc = .ok (.ireturn, 1)) (k : Q (some (.int v)) G) : GW Γ l mi h MC MS Q pc lv [.int v] G bc bs := by
  intro p e R s m args below meth c H locs cells slots ls X hS hG hls h1 h2
  obtain ⟨hx, hb, hml, hr, hlk, hnm, hts, hown, hK, hZ, hf1, hf2, hf3, hf4, hbase⟩ := X
  refine W.widen (k := MC) (n := MS) (by omega) (by omega) ?_
  exact W.zret (v := v) hx hb (hr.trans hrt) hn (fun t ht hW => gQ_ret hS hG k ht hW) hS.2.2 hd
theorem g_vret (hrt : mi.2.2.2 = none) (hd : decode mi.2.1 pc = .ok (.return_, 1)) (k : Q none G) : GW Γ l mi h MC MS Q pc lv [] G bc bs := by
  intro p e R s m args below meth c H locs cells slots ls X hS hG hls h1 h2
  obtain ⟨hx, hb, hml, hr, hlk, hnm, hts, hown, hK, hZ, hf1, hf2, hf3, hf4, hbase⟩ := X
  refine W.widen (k := MC) (n := MS) (by omega) (by omega) ?_
  exact W.vret hx hb (hr.trans hrt) (fun t ht hW => gQ_ret hS hG k ht hW) hS.2.2 hd
theorem g_aret {r : Option Nat} {rt : FieldType} (hrt : mi.2.2.2 = some rt) (hk : (∃ n, rt = .object n) ∨ ∃ t, rt = .array t) (hd : decode mi.2.1 pc = .ok (.areturn, 1)) (k : Q (some (va_rf r)) G) : GW Γ l mi h MC MS Q pc lv [va_rf r] G bc bs := by
  intro p e R s m args below meth c H locs cells slots ls X hS hG hls h1 h2
  obtain ⟨hx, hb, hml, hr, hlk, hnm, hts, hown, hK, hZ, hf1, hf2, hf3, hf4, hbase⟩ := X
  refine W.widen (k := MC) (n := MS) (by omega) (by omega) ?_
  exact W.aret (v := va_rf r) hx hb (hr.trans hrt) hk (by cases r with | none => exact Or.inl rfl | some a => exact Or.inr ⟨a, rfl⟩) (fun t ht hW => gQ_ret hS hG k ht hW) hS.2.2 hd
theorem gH.fresh {s : State} {H : Heap} {q : Nat} {e : va_E} {ws : va_W} (hG : gH Γ s G H) (h1 : ∀ q, gC G q ≠ 0 → gM G q = true → (q, gent Γ G q) ∈ ws) (hD : va_D (gA Γ) (ws ++ [(q, e)])) : gC G q = 0 ∧ gA Γ q := by
  have hA : gA Γ q := hD.2 ws.length (q, e) (by rw [List.getElem?_append_right (Nat.le_refl _), Nat.sub_self]; rfl)
  refine ⟨?_, hA⟩
  apply Classical.byContradiction
  intro hc
  cases hm : gM G q with
  | true =>
    obtain ⟨k, hk⟩ := List.getElem?_of_mem (h1 q hc hm)
    have hl := (List.getElem?_eq_some_iff.mp hk).1
    have := hD.1 k ws.length (q, gent Γ G q) (q, e) (by rw [List.getElem?_append_left hl]; exact hk) (by rw [List.getElem?_append_right (Nat.le_refl _), Nat.sub_self]; rfl) rfl
    omega
  | false => exact (hG.2.2 q hc hm).1 hA
theorem g_new {C : String} {T : u_T} {N index : Nat} {tyN : Nat → FieldType} (ci : Nat) (hc : vwCl[ci]? = some (C, T, N)) (hin : ∀ w ∈ u_ws C T N, w ∈ lw_all) (htyN : ∀ k, k < N → parseFieldDescriptor (T k).2.2.1 = some (tyN k)) (hdf : ∀ k, k < N → defaultValue (tyN k) = gfv (gcty ci k) 0 none 0) (w1 : Cond.classLink mi.1.cls index C ∈ lw_all) (w2 : Cond.instantiable C N ∈ lw_all) (w3 : Cond.initialized C ∈ lw_all) (hb1 : 1 ≤ bc) (hb2 : N ≤ bs) (hd : decode mi.2.1 pc = .ok (.new index, 3))
    (kk : ∀ q, gC G q = 0 → gA Γ q → GW Γ l mi h MC MS Q (pc + 3) lv (va_rf (some q) :: st) (nO G q ci) (bc - 1) (bs - N)) : GW Γ l mi h MC MS Q pc lv st G bc bs := by
  intro p e R s m args below meth c H locs cells slots ls X hS hG hls h1 h2
  have K := fun q z1 z2 H1 hS1 hG1 => kk q z1 z2 p e R s m args below meth c H1 locs (cells + 1) (slots + N) ls X hS1 hG1 hls (by omega) (by omega)
  obtain ⟨hx, hb, hml, hr, hlk, hnm, hts, hown, hK, hZ, hf1, hf2, hf3, hf4, hbase⟩ := X
  have hgc : gcl ci = (C, T, N) := by unfold gcl; rw [List.getD_eq_getElem?_getD, hc]; rfl
  have hGG := hG
  obtain ⟨hbs, ⟨ws, hP, hD, g1, g2⟩, hcst⟩ := hG
  refine va_new (fs := (List.range N).map fun k => gfv (gcty ci k) 0 none 0) hx hb hts hin tyN htyN hown (hts _ w1) (hts _ w2) (hts _ w3) hK.1 hP hD hS (fun q hq => Nat.le_trans hbase hq) hc (fun j hj => ?_) (by omega) (by omega) hd (fun q H1 hP1 hD1 hS1 => ?_)
  · rw [hdf j hj]
    unfold vp_V
    rw [List.getD_eq_getElem?_getD, List.getElem?_map, List.getElem?_range hj]
    rfl
  · obtain ⟨z1, z2⟩ := hGG.fresh g1 hD1
    refine K q z1 z2 H1 hS1 (gH_new (Nat.le_trans hbase hS1.1) hGG g1 g2 hP1 hD1 (gS_keep hbase hS hS1) (by rw [gM_nO, if_pos rfl]) (by rw [gC_nO, if_pos rfl]; exact kO_ne0 ci) ?_ (fun x hx => ⟨by rw [gC_nO, if_neg hx], rfl, by rw [gM_nO, if_neg hx], fun j => by rw [gI_nO, if_neg hx], fun j => by rw [gR_nO, if_neg hx], fun j => by rw [gF_nO, if_neg hx]⟩))
    rw [gent_O (ci := ci) (by rw [gC_nO, if_pos rfl])]
    unfold gfs
    rw [hgc]
    simp only [gI_nO, gR_nO, gF_nO, if_true]
theorem gnd {ty : FieldType} (h1 : ty ≠ .long) (h2 : ty ≠ .double) : defaultValue ty = gfv ty 0 none 0 := by
  cases ty <;> first | rfl | exact absurd rfl h1 | exact absurd rfl h2
theorem g_newa {atype : ArrayType} {n : Int32} (t N : Nat) (ht : t < 4) (hty : newarray.typeOf atype = gtyq t) (w1 : Cond.arrayClass (newarray.typeOf atype) ∈ lw_all) (hn : ¬ n < 0) (hN : n.toNatClampNeg = N) (hby : N * componentBytes (gtyq t) ≤ 536870912) (hb1 : 1 ≤ bc) (hb2 : N ≤ bs) (hd : decode mi.2.1 pc = .ok (.newarray atype, 2))
    (kk : ∀ q, gC G q = 0 → gA Γ q → GW Γ l mi h MC MS Q (pc + 2) lv (va_rf (some q) :: st) (nA G q t N) (bc - 1) (bs - N)) : GW Γ l mi h MC MS Q pc lv (.int n :: st) G bc bs := by
  intro p e R s m args below meth c H locs cells slots ls X hS hG hls h1 h2
  have K := fun q z1 z2 H1 hS1 hG1 => kk q z1 z2 p e R s m args below meth c H1 locs (cells + 1) (slots + N) ls X hS1 hG1 hls (by omega) (by omega)
  obtain ⟨hx, hb, hml, hr, hlk, hnm, hts, hown, hK, hZ, hf1, hf2, hf3, hf4, hbase⟩ := X
  have hGG := hG
  obtain ⟨hbs, ⟨ws, hP, hD, g1, g2⟩, hcst⟩ := hG
  refine va_newa (ty := gtyq t) (a0 := (N, .inl (fun _ => 0))) hx hb (hts _ w1) hty hK.1 hP hD hS (fun q hq => Nat.le_trans hbase hq) (fun cA => ?_) hn hN hby (by omega) (by omega) hd (fun q cA H1 hK1 hP1 hD1 hS1 => ?_)
  · rcases (show t = 0 ∨ t = 1 ∨ t = 2 ∨ t = 3 by omega) with rfl | rfl | rfl | rfl <;> rfl
  · have hcA : cA = Γ.2.2.1 t := by
      have r1 := (hK1.2 8 (cA, gtyq t) (by rw [List.getElem?_append_right (by unfold gtys; simp), show (8 : Nat) - (gtys Γ).length = 0 by unfold gtys; simp]; rfl)).2
      have r2 := (hK.1.2 t _ (gtys_at t (by omega))).2
      rcases (show t = 0 ∨ t = 1 ∨ t = 2 ∨ t = 3 by omega) with rfl | rfl | rfl | rfl <;> exact Option.some.inj (r1.symm.trans r2)
    subst hcA
    obtain ⟨z1, z2⟩ := hGG.fresh g1 hD1
    refine K q z1 z2 H1 hS1 (gH_new (Nat.le_trans hbase hS1.1) hGG g1 g2 hP1 hD1 (gS_keep hbase hS hS1) (by rw [gM_nA, if_pos rfl]) (by rw [gC_nA, if_pos rfl]; exact kA_ne0 t) ?_ (fun x hx => ⟨by rw [gC_nA, if_neg hx], by rw [gL_nA, if_neg hx], by rw [gM_nA, if_neg hx], fun j => by rw [gI_nA, if_neg hx], fun j => by rw [gR_nA, if_neg hx], fun j => by rw [gF_nA, if_neg hx]⟩))
    rw [gent_Ai (t := t) (by rw [gC_nA, if_pos rfl]) ht, gL_nA, if_pos rfl]
    have e0 : gI (nA G q t N) q = fun _ => 0 := by
      funext j
      rw [gI_nA, if_pos rfl]
    rw [e0]
theorem g_getsr {C n d ref : String} {index i : Nat} (hz : (C, n, d, i) ∈ gZr) (hlink : Cond.fieldLink mi.1.cls index ref n d ∈ lw_all) (hsame : C = ref) (hd : decode mi.2.1 pc = .ok (.getstatic index, 3)) (kk : GW Γ l mi h MC MS Q (pc + 3) lv (va_rf (some (Γ.2.2.2 i)) :: st) G bc bs) : GW Γ l mi h MC MS Q pc lv st G bc bs := by
  intro p e R s m args below meth c H locs cells slots ls X hS hG hls h1 h2
  have K := kk p e R s m args below meth c H locs cells slots ls X hS hG hls h1 h2
  obtain ⟨hx, hb, hml, hr, hlk, hnm, hts, hown, hK, hZ, -⟩ := X
  exact va_gets hx hb (hZ.1 _ hz) hS hown (hts _ hlink) (fun x hx => by rw [← hsame]; exact hx) hd K
theorem g_getsi {C n d ref : String} {index : Nat} {v : Int32} (hz : (C, n, d, v) ∈ gZi) (hlink : Cond.fieldLink mi.1.cls index ref n d ∈ lw_all) (hsame : C = ref) (hd : decode mi.2.1 pc = .ok (.getstatic index, 3)) (kk : GW Γ l mi h MC MS Q (pc + 3) lv (.int v :: st) G bc bs) : GW Γ l mi h MC MS Q pc lv st G bc bs := by
  intro p e R s m args below meth c H locs cells slots ls X hS hG hls h1 h2
  have K := kk p e R s m args below meth c H locs cells slots ls X hS hG hls h1 h2
  obtain ⟨hx, hb, hml, hr, hlk, hnm, hts, hown, hK, hZ, -⟩ := X
  exact va_gets hx hb (hZ.2 _ hz) hS hown (hts _ hlink) (fun x hx => by rw [← hsame]; exact hx) hd K
theorem g_copyi {index t : Nat} {a0 a : Nat} {sp dp n : Int32} (ht : t < 4) (hl : Cond.methodLink mi.1.cls index arraycopyName ∈ lw_all) (hnat : Cond.native arraycopyName ∈ lw_all) (hstt : Cond.static arraycopyName ∈ lw_all) (hini : Cond.initialized "java/lang/System" ∈ lw_all) (h0 : gC G a0 = kA t) (hm0 : gM G a0 = true) (ha : gC G a = kA t) (hm : gM G a = true) (n1 : ¬ sp < 0) (n2 : ¬ dp < 0) (n3 : ¬ n < 0) (n4 : sp.toNatClampNeg + n.toNatClampNeg ≤ gL G a0) (n5 : dp.toNatClampNeg + n.toNatClampNeg ≤ gL G a)
    (hfit : ∀ i, i < n.toNatClampNeg → fits (gtyq t) (.int (gI G a0 (sp.toNatClampNeg + i))) = true) (hh : 0 < h) (hr8 : (st.map fun v => v.category).sum ≤ 8) (hd : decode mi.2.1 pc = .ok (.invokestatic index, 3))
    (kk : GW Γ l mi h MC MS Q (pc + 3) lv st (wI G a (va_cpy (gI G a0) (gI G a) sp.toNatClampNeg dp.toNatClampNeg n.toNatClampNeg)) bc bs) : GW Γ l mi h MC MS Q pc lv (.int n :: .int dp :: .ref a :: .int sp :: .ref a0 :: st) G bc bs := by
  intro p e R s m args below meth c H locs cells slots ls X hS hG hls h1 h2
  have K := fun H1 locs1 hS1 hG1 => kk p e R s m args below meth c H1 locs1 cells slots ls X hS1 hG1 hls h1 h2
  obtain ⟨hx, hb, hml, hr, hlk, hnm, hts, hown, hK, hZ, hf1, hf2, hf3, hf4, hbase⟩ := X
  have hGG := hG
  obtain ⟨hbs, ⟨ws, hP, hD, g1, g2⟩, hcst⟩ := hG
  obtain ⟨k0, hk0⟩ := List.getElem?_of_mem (g1 a0 (by rw [h0]; exact kA_ne0 t) hm0)
  obtain ⟨k1, hk1⟩ := List.getElem?_of_mem (g1 a (by rw [ha]; exact kA_ne0 t) hm)
  have hk2 := hk1
  rw [gent_Ai h0 ht] at hk0
  rw [gent_Ai ha ht] at hk1
  refine va_copyi hx hb (by rw [hml]; exact hls.1.symm) hown (hts _ hl) (hts _ hnat) (hts _ hstt) (hts _ hini) hK.1 hP hD hS k0 k1 t t hk0 hk1 (gtys_at t (by omega)) (gtys_at t (by omega)) ?_ n1 n2 n3 n4 n5 hfit (by omega) ?_ hd fun H1 locs1 hP1 hD1 hS1 => ?_
  · rcases (show t = 0 ∨ t = 1 ∨ t = 2 ∨ t = 3 by omega) with rfl | rfl | rfl | rfl <;> rfl
  · have : nativeFrameWords "java/lang/System" "arraycopy" 5 ≤ 40 := by decide +kernel
    omega
  · refine K H1 locs1 hS1 (gH_put (Nat.le_trans hbase hS1.1) hGG hP hD g1 g2 hk2 hP1 (gS_keep hbase hS hS1) rfl rfl rfl ?_ (fun q hq => ⟨fun j => by rw [gI_wI, if_neg hq], fun j => rfl, fun j => rfl⟩))
    rw [gent_Ai (G := wI G a _) (t := t) ha ht]
    have e0 : gI (wI G a (va_cpy (gI G a0) (gI G a) sp.toNatClampNeg dp.toNatClampNeg n.toNatClampNeg)) a = va_cpy (gI G a0) (gI G a) sp.toNatClampNeg dp.toNatClampNeg n.toNatClampNeg := by
      funext j
      rw [gI_wI, if_pos rfl]
    rw [e0]
    rfl
end GROWS
