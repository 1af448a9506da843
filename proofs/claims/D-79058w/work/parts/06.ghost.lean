/-! The ghost heap: what the walks know of the heap, as functions; and the judgement GW over it -/
set_option maxRecDepth 100000
abbrev GH : Type := (Nat → Nat) × (Nat → Nat) × (Nat → Bool) × (Nat → Nat → Int32) × (Nat → Nat → Option Nat) × (Nat → Nat → UInt32)
/-- the kind of a cell: 0 not known, odd an object, even an array -/
def gC (G : GH) : Nat → Nat := G.1
/-- an array's length -/
def gL (G : GH) : Nat → Nat := G.2.1
/-- may be written -/
def gM (G : GH) : Nat → Bool := G.2.2.1
def gI (G : GH) : Nat → Nat → Int32 := G.2.2.2.1
def gR (G : GH) : Nat → Nat → Option Nat := G.2.2.2.2.1
def gF (G : GH) : Nat → Nat → UInt32 := G.2.2.2.2.2
def kO (ci : Nat) : Nat := 2 * ci + 1
def kA (t : Nat) : Nat := 2 * t + 2
def u1 {α : Type} (f : Nat → α) (a : Nat) (v : α) : Nat → α := fun b => if b = a then v else f b
def u2 {α : Type} (f : Nat → Nat → α) (a k : Nat) (v : α) : Nat → Nat → α := fun b j => if b = a ∧ j = k then v else f b j
def sI (G : GH) (a k : Nat) (v : Int32) : GH := (gC G, gL G, gM G, u2 (gI G) a k v, gR G, gF G)
def sR (G : GH) (a k : Nat) (v : Option Nat) : GH := (gC G, gL G, gM G, gI G, u2 (gR G) a k v, gF G)
def sF (G : GH) (a k : Nat) (v : UInt32) : GH := (gC G, gL G, gM G, gI G, gR G, u2 (gF G) a k v)
/-- a whole row of ints -/
def wI (G : GH) (a : Nat) (f : Nat → Int32) : GH := (gC G, gL G, gM G, u1 (gI G) a f, gR G, gF G)
def wR (G : GH) (a : Nat) (f : Nat → Option Nat) : GH := (gC G, gL G, gM G, gI G, u1 (gR G) a f, gF G)
/-- a new object, a new array -/
def nO (G : GH) (q ci : Nat) : GH := (u1 (gC G) q (kO ci), gL G, u1 (gM G) q true, u1 (gI G) q (fun _ => 0), u1 (gR G) q (fun _ => none), u1 (gF G) q (fun _ => 0))
def nA (G : GH) (q t n : Nat) : GH := (u1 (gC G) q (kA t), u1 (gL G) q n, u1 (gM G) q true, u1 (gI G) q (fun _ => 0), u1 (gR G) q (fun _ => none), u1 (gF G) q (fun _ => 0))
/-- the run's fixed things: classes, where new cells begin, array classes, constants' places -/
abbrev GE : Type := va_G × Nat × (Nat → ClassId) × (Nat → Nat)
/-- a method: name, code, locals, answer -/
abbrev MI : Type := MethodName × ByteArray × Nat × Option FieldType
def TPo : u_T := fun _ => ("java/lang/Object", "", "I", false)
def vwCl : List vw_C := [(RX0, TX0, 25), (RX2, TX2, 30), (RX1, TX1, 3), (RX4, TX4, 5), (RX5, TX5, 6), (RX3, TX3, 3), (RX7, TX7, 4), (RX6, TX6, 1), (RX9, TX9, 7), (RJ2, TJ2, 3), (RJ9, TJ9, 1), (RJ11, TJ11, 8), (RJ16, TJ16, 4), (RJ21, TJ21, 11), (RJ4, TJ4, 4), (RJ5, TJ5, 4), ("java/lang/Object", TPo, 0)]
def gcl (ci : Nat) : vw_C := vwCl.getD ci ("", TPo, 0)
def gcty (ci : Nat) : Nat → FieldType := match ci with
  | 0 => tyX0 | 1 => tyX2 | 2 => tyX1 | 3 => tyX4 | 4 => tyX5 | 5 => tyX3 | 6 => tyX7 | 7 => tyX6 | 8 => tyX9 | 9 => tyJ2 | 10 => tyJ9 | 11 => tyJ11 | 12 => tyJ16 | 13 => tyJ21 | 14 => tyJ4 | 15 => tyJ5 | _ => fun _ => .int
def gfv (ty : FieldType) (i : Int32) (r : Option Nat) (f : UInt32) : Value := match ty with
  | .object _ => va_rf r
  | .array _ => va_rf r
  | .float => .float f
  | _ => .int i
def gtyq : Nat → FieldType := fun t => match t with
  | 0 => .int | 1 => .boolean | 2 => .byte | 3 => .char | 4 => .object "java/lang/Object" | 5 => .object "CrewPairer$State" | 6 => .object "java/lang/String" | _ => .object "java/util/HashMap$Node"
def gfs (G : GH) (q ci : Nat) : List Value := (List.range (gcl ci).2.2).map fun k => gfv (gcty ci k) (gI G q k) (gR G q k) (gF G q k)
def gentA (Γ : GE) (G : GH) (q t : Nat) : va_E := if 4 ≤ t then .inl (Γ.2.2.1 t, gL G q, .inr (.inr (.inr (.inr (gR G q))))) else .inl (Γ.2.2.1 t, gL G q, .inl (gI G q))
/-- what stands at a place -/
def gent (Γ : GE) (G : GH) (q : Nat) : va_E := if gC G q % 2 = 1 then .inr (gC G q / 2, gfs G q (gC G q / 2)) else gentA Γ G q (gC G q / 2 - 1)
def gA (Γ : GE) : Nat → Prop := fun q => Γ.2.1 ≤ q
/-- a constant cell: an object with its fields, an array with its elements -/
def gCst (Γ : GE) (s : State) (G : GH) (q : Nat) (H : Heap) : Prop := ∃ cell : Cell, H[q]? = some cell ∧ cell.vm.isStatics = false ∧ cell.vm ≠ .unknown ∧
  (gC G q % 2 = 1 → s.vm.findClass (gcl (gC G q / 2)).1 = some cell.cls ∧ ∀ k, k < (gcl (gC G q / 2)).2.2 → va_OF ((gcl (gC G q / 2)).2.1 k).1 ((gcl (gC G q / 2)).2.1 k).2.1 ((gcl (gC G q / 2)).2.1 k).2.2.1 (gfv (gcty (gC G q / 2) k) (gI G q k) (gR G q k) (gF G q k)) q (gA Γ) s H) ∧
  (gC G q % 2 = 0 → s.isArrayOf cell (gtyq (gC G q / 2 - 1)) ∧ cell.slots.size = gL G q ∧ ∀ j, j < gL G q → cell.slots[j]? = some (if 4 ≤ gC G q / 2 - 1 then va_rf (gR G q j) else .int (gI G q j)))
/-- the heap holds what the ghost heap says -/
def gH (Γ : GE) (s : State) (G : GH) (H : Heap) : Prop := Γ.2.1 ≤ H.size ∧ (∃ ws : va_W, va_P Γ.1 vwCl ws H ∧ va_D (gA Γ) ws ∧ (∀ q, gC G q ≠ 0 → gM G q = true → (q, gent Γ G q) ∈ ws) ∧ ∀ x ∈ ws, gC G x.1 ≠ 0 ∧ gM G x.1 = true) ∧ ∀ q, gC G q ≠ 0 → gM G q = false → ¬ gA Γ q ∧ gCst Γ s G q H
theorem gC_sI (G : GH) (a k : Nat) (v : Int32) : gC (sI G a k v) = gC G := rfl
theorem gL_sI (G : GH) (a k : Nat) (v : Int32) : gL (sI G a k v) = gL G := rfl
theorem gM_sI (G : GH) (a k : Nat) (v : Int32) : gM (sI G a k v) = gM G := rfl
theorem gR_sI (G : GH) (a k : Nat) (v : Int32) : gR (sI G a k v) = gR G := rfl
theorem gF_sI (G : GH) (a k : Nat) (v : Int32) : gF (sI G a k v) = gF G := rfl
theorem gI_sI (G : GH) (a k : Nat) (v : Int32) (b j : Nat) : gI (sI G a k v) b j = if b = a ∧ j = k then v else gI G b j := rfl
theorem gC_sR (G : GH) (a k : Nat) (v : Option Nat) : gC (sR G a k v) = gC G := rfl
theorem gL_sR (G : GH) (a k : Nat) (v : Option Nat) : gL (sR G a k v) = gL G := rfl
theorem gM_sR (G : GH) (a k : Nat) (v : Option Nat) : gM (sR G a k v) = gM G := rfl
theorem gI_sR (G : GH) (a k : Nat) (v : Option Nat) : gI (sR G a k v) = gI G := rfl
theorem gF_sR (G : GH) (a k : Nat) (v : Option Nat) : gF (sR G a k v) = gF G := rfl
theorem gR_sR (G : GH) (a k : Nat) (v : Option Nat) (b j : Nat) : gR (sR G a k v) b j = if b = a ∧ j = k then v else gR G b j := rfl
theorem gC_sF (G : GH) (a k : Nat) (v : UInt32) : gC (sF G a k v) = gC G := rfl
theorem gL_sF (G : GH) (a k : Nat) (v : UInt32) : gL (sF G a k v) = gL G := rfl
theorem gM_sF (G : GH) (a k : Nat) (v : UInt32) : gM (sF G a k v) = gM G := rfl
theorem gI_sF (G : GH) (a k : Nat) (v : UInt32) : gI (sF G a k v) = gI G := rfl
theorem gR_sF (G : GH) (a k : Nat) (v : UInt32) : gR (sF G a k v) = gR G := rfl
theorem gF_sF (G : GH) (a k : Nat) (v : UInt32) (b j : Nat) : gF (sF G a k v) b j = if b = a ∧ j = k then v else gF G b j := rfl
theorem gC_wI (G : GH) (a : Nat) (f : Nat → Int32) : gC (wI G a f) = gC G := rfl
theorem gL_wI (G : GH) (a : Nat) (f : Nat → Int32) : gL (wI G a f) = gL G := rfl
theorem gM_wI (G : GH) (a : Nat) (f : Nat → Int32) : gM (wI G a f) = gM G := rfl
theorem gR_wI (G : GH) (a : Nat) (f : Nat → Int32) : gR (wI G a f) = gR G := rfl
theorem gF_wI (G : GH) (a : Nat) (f : Nat → Int32) : gF (wI G a f) = gF G := rfl
theorem gI_wI (G : GH) (a : Nat) (f : Nat → Int32) (b j : Nat) : gI (wI G a f) b j = if b = a then f j else gI G b j := by
  show u1 (gI G) a f b j = _
  unfold u1
  split <;> rfl
theorem gC_wR (G : GH) (a : Nat) (f : Nat → Option Nat) : gC (wR G a f) = gC G := rfl
theorem gL_wR (G : GH) (a : Nat) (f : Nat → Option Nat) : gL (wR G a f) = gL G := rfl
theorem gM_wR (G : GH) (a : Nat) (f : Nat → Option Nat) : gM (wR G a f) = gM G := rfl
theorem gI_wR (G : GH) (a : Nat) (f : Nat → Option Nat) : gI (wR G a f) = gI G := rfl
theorem gF_wR (G : GH) (a : Nat) (f : Nat → Option Nat) : gF (wR G a f) = gF G := rfl
theorem gR_wR (G : GH) (a : Nat) (f : Nat → Option Nat) (b j : Nat) : gR (wR G a f) b j = if b = a then f j else gR G b j := by
  show u1 (gR G) a f b j = _
  unfold u1
  split <;> rfl
theorem gC_nO (G : GH) (q ci b : Nat) : gC (nO G q ci) b = if b = q then kO ci else gC G b := rfl
theorem gL_nO (G : GH) (q ci : Nat) : gL (nO G q ci) = gL G := rfl
theorem gM_nO (G : GH) (q ci b : Nat) : gM (nO G q ci) b = if b = q then true else gM G b := rfl
theorem gI_nO (G : GH) (q ci b j : Nat) : gI (nO G q ci) b j = if b = q then 0 else gI G b j := by
  show u1 (gI G) q (fun _ => 0) b j = _
  unfold u1
  split <;> rfl
theorem gR_nO (G : GH) (q ci b j : Nat) : gR (nO G q ci) b j = if b = q then none else gR G b j := by
  show u1 (gR G) q (fun _ => none) b j = _
  unfold u1
  split <;> rfl
theorem gF_nO (G : GH) (q ci b j : Nat) : gF (nO G q ci) b j = if b = q then 0 else gF G b j := by
  show u1 (gF G) q (fun _ => 0) b j = _
  unfold u1
  split <;> rfl
theorem gC_nA (G : GH) (q t n b : Nat) : gC (nA G q t n) b = if b = q then kA t else gC G b := rfl
theorem gL_nA (G : GH) (q t n b : Nat) : gL (nA G q t n) b = if b = q then n else gL G b := rfl
theorem gM_nA (G : GH) (q t n b : Nat) : gM (nA G q t n) b = if b = q then true else gM G b := rfl
theorem gI_nA (G : GH) (q t n b j : Nat) : gI (nA G q t n) b j = if b = q then 0 else gI G b j := by
  show u1 (gI G) q (fun _ => 0) b j = _
  unfold u1
  split <;> rfl
theorem gR_nA (G : GH) (q t n b j : Nat) : gR (nA G q t n) b j = if b = q then none else gR G b j := by
  show u1 (gR G) q (fun _ => none) b j = _
  unfold u1
  split <;> rfl
theorem gF_nA (G : GH) (q t n b j : Nat) : gF (nA G q t n) b j = if b = q then 0 else gF G b j := by
  show u1 (gF G) q (fun _ => 0) b j = _
  unfold u1
  split <;> rfl
theorem kO_odd (ci : Nat) : kO ci % 2 = 1 := by unfold kO; omega
theorem kO_half (ci : Nat) : kO ci / 2 = ci := by unfold kO; omega
theorem kO_ne0 (ci : Nat) : kO ci ≠ 0 := by unfold kO; omega
theorem kA_even (t : Nat) : kA t % 2 = 0 := by unfold kA; omega
theorem kA_half (t : Nat) : kA t / 2 - 1 = t := by unfold kA; omega
theorem kA_ne0 (t : Nat) : kA t ≠ 0 := by unfold kA; omega
theorem kA_nodd (t : Nat) : ¬ kA t % 2 = 1 := by unfold kA; omega
theorem gent_O {Γ : GE} {G : GH} {q ci : Nat} (h : gC G q = kO ci) : gent Γ G q = .inr (ci, gfs G q ci) := by
  unfold gent
  rw [h, if_pos (kO_odd ci), kO_half]
theorem gent_A {Γ : GE} {G : GH} {q t : Nat} (h : gC G q = kA t) : gent Γ G q = gentA Γ G q t := by
  unfold gent
  rw [h, if_neg (kA_nodd t), kA_half]
theorem gent_Ai {Γ : GE} {G : GH} {q t : Nat} (h : gC G q = kA t) (ht : t < 4) : gent Γ G q = .inl (Γ.2.2.1 t, gL G q, .inl (gI G q)) := by
  rw [gent_A h]
  unfold gentA
  rw [if_neg (by omega)]
theorem gent_Ar {Γ : GE} {G : GH} {q t : Nat} (h : gC G q = kA t) (ht : 4 ≤ t) : gent Γ G q = .inl (Γ.2.2.1 t, gL G q, .inr (.inr (.inr (.inr (gR G q))))) := by
  rw [gent_A h]
  unfold gentA
  rw [if_pos ht]
theorem gent_eq {Γ : GE} {G G1 : GH} {q : Nat} (hC : gC G1 q = gC G q) (hL : gL G1 q = gL G q) (hI : ∀ k, gI G1 q k = gI G q k) (hR : ∀ k, gR G1 q k = gR G q k) (hF : ∀ k, gF G1 q k = gF G q k) : gent Γ G1 q = gent Γ G q := by
  have e1 : gI G1 q = gI G q := funext hI
  have e2 : gR G1 q = gR G q := funext hR
  have e3 : gF G1 q = gF G q := funext hF
  unfold gent gfs gentA
  rw [hC, hL, e1, e2, e3]
theorem gCst_eq {Γ : GE} {s : State} {G G1 : GH} {q : Nat} {H : Heap} (hC : gC G1 q = gC G q) (hL : gL G1 q = gL G q) (hI : ∀ k, gI G1 q k = gI G q k) (hR : ∀ k, gR G1 q k = gR G q k) (hF : ∀ k, gF G1 q k = gF G q k) (h : gCst Γ s G q H) : gCst Γ s G1 q H := by
  have e1 : gI G1 q = gI G q := funext hI
  have e2 : gR G1 q = gR G q := funext hR
  have e3 : gF G1 q = gF G q := funext hF
  unfold gCst at h ⊢
  rw [hC, hL, e1, e2, e3]
  exact h
theorem gCst_kept {Γ : GE} {s : State} {G : GH} {q : Nat} {H H1 : Heap} (hq : H1[q]? = H[q]?) (h : gCst Γ s G q H) : gCst Γ s G q H1 := by
  obtain ⟨cell, h1, h2, h3, h4, h5⟩ := h
  refine ⟨cell, hq.trans h1, h2, h3, fun z => ⟨(h4 z).1, fun k hk => ?_⟩, h5⟩
  obtain ⟨cf, kk, i, f, ce, a1, a2, a3, a4⟩ := (h4 z).2 k hk
  exact ⟨cf, kk, i, f, ce, a1, a2, hq.trans a3, a4⟩
theorem gCst_moved {Γ : GE} {s U : State} {G : GH} {q : Nat} {H : Heap} (hvm : s.vm.Alike U.vm) (h : gCst Γ s G q H) : gCst Γ U G q H := by
  obtain ⟨cell, h1, h2, h3, h4, h5⟩ := h
  refine ⟨cell, h1, h2, h3, fun z => ⟨by rw [hvm.findClass]; exact (h4 z).1, fun k hk => va_OF.moved hvm ((h4 z).2 k hk)⟩, fun z => ⟨State.isArrayOf_alike hvm (h5 z).1, (h5 z).2⟩⟩
theorem gH_moved {Γ : GE} {s U : State} {G : GH} {H : Heap} (hvm : s.vm.Alike U.vm) (h : gH Γ s G H) : gH Γ U G H :=
  ⟨h.1, h.2.1, fun q h1 h2 => ⟨(h.2.2 q h1 h2).1, gCst_moved hvm (h.2.2 q h1 h2).2⟩⟩
/-- one cell's new content -/
theorem gH_put {Γ : GE} {s : State} {G G1 : GH} {H H1 : Heap} {a k : Nat} {e0 e : va_E} {ws : va_W} (hz : Γ.2.1 ≤ H1.size) (hG : gH Γ s G H) (hP : va_P Γ.1 vwCl ws H) (hD : va_D (gA Γ) ws) (h1 : ∀ q, gC G q ≠ 0 → gM G q = true → (q, gent Γ G q) ∈ ws) (h2 : ∀ x ∈ ws, gC G x.1 ≠ 0 ∧ gM G x.1 = true)
    (hk : ws[k]? = some (a, e0)) (hP1 : va_P Γ.1 vwCl (ws.set k (a, e)) H1) (hkeep : ∀ q, ¬ gA Γ q → H1[q]? = H[q]?)
    (ca : gC G1 = gC G) (la : gL G1 = gL G) (ma : gM G1 = gM G) (he : e = gent Γ G1 a) (ho : ∀ q, q ≠ a → (∀ j, gI G1 q j = gI G q j) ∧ (∀ j, gR G1 q j = gR G q j) ∧ ∀ j, gF G1 q j = gF G q j) : gH Γ s G1 H1 := by
  have hkl : k < ws.length := (List.getElem?_eq_some_iff.mp hk).1
  have hma : gM G a = true := (h2 (a, e0) (List.mem_of_getElem? hk)).2
  refine ⟨hz, ⟨_, hP1, hD.set hk, fun q u v => ?_, fun x hx => ?_⟩, fun q u v => ?_⟩
  · rw [ca] at u
    rw [ma] at v
    by_cases hq : q = a
    · subst hq
      rw [← he]
      exact List.mem_of_getElem? (i := k) (by rw [List.getElem?_set_self hkl])
    · rw [gent_eq (G := G) (by rw [ca]) (by rw [la]) (ho q hq).1 (ho q hq).2.1 (ho q hq).2.2]
      obtain ⟨i, hi⟩ := List.getElem?_of_mem (h1 q u v)
      refine List.mem_of_getElem? (i := i) ?_
      rw [List.getElem?_set_ne (fun z => ?_)]
      · exact hi
      · subst z
        rw [hk] at hi
        cases hi
        exact hq rfl
  · rw [ca, ma]
    obtain ⟨i, hi⟩ := List.getElem?_of_mem hx
    by_cases hik : i = k
    · subst hik
      rw [List.getElem?_set_self hkl] at hi
      cases hi
      exact h2 (a, e0) (List.mem_of_getElem? hk)
    · rw [List.getElem?_set_ne (Ne.symm hik)] at hi
      exact h2 x (List.mem_of_getElem? hi)
  · rw [ca] at u
    rw [ma] at v
    have hq : q ≠ a := fun z => by rw [z, hma] at v; cases v
    obtain ⟨n1, c1⟩ := hG.2.2 q u v
    exact ⟨n1, gCst_kept (hkeep q n1) (gCst_eq (by rw [ca]) (by rw [la]) (ho q hq).1 (ho q hq).2.1 (ho q hq).2.2 c1)⟩
/-- a new cell -/
theorem gH_new {Γ : GE} {s : State} {G G1 : GH} {H H1 : Heap} {a : Nat} {e : va_E} {ws : va_W} (hz : Γ.2.1 ≤ H1.size) (hG : gH Γ s G H) (h1 : ∀ q, gC G q ≠ 0 → gM G q = true → (q, gent Γ G q) ∈ ws) (h2 : ∀ x ∈ ws, gC G x.1 ≠ 0 ∧ gM G x.1 = true)
    (hP1 : va_P Γ.1 vwCl (ws ++ [(a, e)]) H1) (hD1 : va_D (gA Γ) (ws ++ [(a, e)])) (hkeep : ∀ q, ¬ gA Γ q → H1[q]? = H[q]?)
    (hm : gM G1 a = true) (hc : gC G1 a ≠ 0) (he : e = gent Γ G1 a) (ho : ∀ q, q ≠ a → gC G1 q = gC G q ∧ gL G1 q = gL G q ∧ gM G1 q = gM G q ∧ (∀ j, gI G1 q j = gI G q j) ∧ (∀ j, gR G1 q j = gR G q j) ∧ ∀ j, gF G1 q j = gF G q j) : gH Γ s G1 H1 := by
  refine ⟨hz, ⟨_, hP1, hD1, fun q u v => ?_, fun x hx => ?_⟩, fun q u v => ?_⟩
  · by_cases hq : q = a
    · subst hq
      rw [← he]
      exact List.mem_append_right _ (List.mem_singleton.mpr rfl)
    · obtain ⟨o1, o2, o3, o4, o5, o6⟩ := ho q hq
      rw [gent_eq o1 o2 o4 o5 o6]
      exact List.mem_append_left _ (h1 q (by rw [← o1]; exact u) (by rw [← o3]; exact v))
  · rcases List.mem_append.mp hx with hx | hx
    · by_cases hq : x.1 = a
      · rw [hq]
        exact ⟨hc, hm⟩
      · obtain ⟨o1, o2, o3, -⟩ := ho x.1 hq
        rw [o1, o3]
        exact h2 x hx
    · rw [List.mem_singleton.mp hx]
      exact ⟨hc, hm⟩
  · have hq : q ≠ a := fun z => by rw [z, hm] at v; cases v
    obtain ⟨o1, o2, o3, o4, o5, o6⟩ := ho q hq
    obtain ⟨n1, c1⟩ := hG.2.2 q (by rw [← o1]; exact u) (by rw [← o3]; exact v)
    exact ⟨n1, gCst_kept (hkeep q n1) (gCst_eq o1 o2 o4 o5 o6 c1)⟩
