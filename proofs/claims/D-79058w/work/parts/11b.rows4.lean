/-! inherited, overriding and default methods; interfaces; super; switches by value; floats; copies of references; class objects; clone -/
set_option maxRecDepth 100000
section R4ROWS
variable {Γ : GE} {l : Launch} {mi : MI} {h MC MS : Nat} {Q : Option Value → GH → Prop} {pc : Nat} {lv : List (Nat × Value)} {st : List Value} {G : GH} {bc bs : Nat}
/-- what is selected and declared, out of the tables' words or of gK -/
def hasW (Γ : GE) (w : Cond) : Prop := ∀ (s : State) (args : Array Value), gK Γ s → (∀ w ∈ lw_all, w.before args s = true) → w.before args s = true
theorem hasW.all {w : Cond} (h : w ∈ lw_all) : hasW Γ w := fun _ _ _ ht => ht _ h
theorem hasW.kw {w : Cond} (h : w ∈ gKw) : hasW Γ w := fun _ _ hK _ => va_tabs ((Bool.and_eq_true _ _).mp (gKw_good w h)).1 rfl (hK.2.2.2.2.2.2.2.1 _ h)
def hasD (Γ : GE) (x : MethodName) : Prop := ∀ (s : State) (args : Array Value), gK Γ s → (∀ w ∈ lw_all, w.before args s = true) → va_Decl s x
theorem hasD.of {x : MethodName} {b : ByteArray} {n : Nat} {r : Option FieldType} (h1 : Cond.instanceMethod x ∈ lw_all) (h2 : Cond.code x b n r ∈ lw_all) : hasD Γ x := fun _ _ _ ht => va_Decl.of (ht _ h1) (ht _ h2)
theorem hasD.de {x : MethodName} (h : x ∈ gDe) : hasD Γ x := by
  intro s args hK ht
  obtain ⟨r0, r, hn, hrm, hst, hsig⟩ := Cond.declares_spec (hK.2.2.2.2.2.2.2.2.2.1 _ h)
  exact ⟨r0, r, hn, hrm, hst, hsig⟩
/-- invokevirtual of x, where the receiver's class C runs y -/
theorem g_callU {y : MI} {x : MethodName} {owner C : String} {index h0 mc ms ci : Nat} {As rest : List Value} {a : Nat} {T : u_T} {N : Nat} {Q' : Option Value → GH → Prop} (hT : Tr Γ l y h0 mc ms (.ref a :: As) G Q') (n : Nat) (hn : As.length = n) (hc : vwCl[ci]? = some (C, T, N)) (w1 : hasW Γ (Cond.methodLink mi.1.cls index x)) (w2 : hasW Γ (Cond.sameMethod x.cls owner x.name x.desc)) (w3 : hasD Γ ⟨owner, x.name, x.desc⟩) (w4 : hasW Γ (Cond.selects C x y.1)) (w5 : Cond.instanceMethod y.1 ∈ lw_all) (w6 : Cond.initialized y.1.cls ∈ lw_all) (w7 : Cond.code y.1 y.2.1 y.2.2.1 y.2.2.2 ∈ lw_all)
    (hcl : owner ≠ "java/lang/invoke/MethodHandle" ∧ owner ≠ "java/lang/invoke/VarHandle" ∧ (parseMethodDescriptor x.desc).map (fun d => d.parameters.length) = some n) (hL : y.2.2.1 ≤ 45) (hh : h0 < h) (ha : gC G a = kO ci)
    (hst : st = As.reverse ++ .ref a :: rest) (hr8 : (rest.map fun v => v.category).sum ≤ 8) (hd : decode mi.2.1 pc = .ok (.invokevirtual index, 3)) (hmc : mc ≤ bc) (hms : ms ≤ bs) (kk : ∀ v G', Q' v G' → GW Γ l mi h MC MS Q (pc + 3) lv (v.toList ++ rest) G' (bc - mc) (bs - ms)) : GW Γ l mi h MC MS Q pc lv st G bc bs := by
  refine GW.ofRun (mc := mc) (ms := ms) (rest := rest) (Q' := Q') (av := (.ref a :: As).toArray) ?_ hmc hms kk
  intro p e R s m args below meth c H locs cells slots ls X hS hG hls h1 h2
  obtain ⟨hx, hb, hml, hr, hlk, hnm, hts, hown, hK, hZ, hf1, hf2, hf3, hf4, hbase⟩ := X
  have hR := room_call (y := y) (mc := mc) (ms := ms) hh hL hf1 hf2
  refine va_runU (x := x) (y := y.1) (owner := owner) (As := As) (rest := rest) ⟨hx, hb, hml, hown, hts⟩ hT ⟨⟨rfl, rfl, hR.1, hR.2, pay_in hts (lw_meth w7), List.mem_cons_self⟩, hts _ w7, hts _ w6, ⟨hcl.1, hcl.2.1⟩, fun sig hs => ?_, w1 s args hK hts, w2 s args hK hts, w3 s args hK hts, w4 s args hK hts, hts _ w5⟩ ⟨gP_blind, hG.recv hK hc ha, fun U hU hW => ⟨rfl, gP_of hK hZ hS hG hU hW⟩⟩ rfl hn hls.1 hst (lv_room hr8) hd ⟨by omega, by omega⟩
  have h2 := hcl.2.2
  rw [hs] at h2
  exact (Option.some.inj h2).symm
/-- invokevirtual of x, where the receiver's class C runs the default method y of an interface -/
theorem g_callD {y : MI} {x : MethodName} {C : String} {index h0 mc ms ci : Nat} {As rest : List Value} {a : Nat} {T : u_T} {N : Nat} {Q' : Option Value → GH → Prop} (hT : Tr Γ l y h0 mc ms (.ref a :: As) G Q') (n : Nat) (hn : As.length = n) (hc : vwCl[ci]? = some (C, T, N)) (w1 : Cond.methodLink mi.1.cls index x ∈ gKw) (w2 : Cond.sameMethod x.cls y.1.cls x.name x.desc ∈ gKw) (w3 : ⟨y.1.cls, x.name, x.desc⟩ ∈ gDe) (w4 : (C, x, y.1) ∈ gDf) (w5 : Cond.instanceMethod y.1 ∈ lw_all) (w6 : Cond.initialized y.1.cls ∈ lw_all) (w7 : Cond.code y.1 y.2.1 y.2.2.1 y.2.2.2 ∈ lw_all)
    (hcl : y.1.cls ≠ "java/lang/invoke/MethodHandle" ∧ y.1.cls ≠ "java/lang/invoke/VarHandle" ∧ (parseMethodDescriptor x.desc).map (fun d => d.parameters.length) = some n) (hL : y.2.2.1 ≤ 45) (hh : h0 < h) (ha : gC G a = kO ci)
    (hst : st = As.reverse ++ .ref a :: rest) (hr8 : (rest.map fun v => v.category).sum ≤ 8) (hd : decode mi.2.1 pc = .ok (.invokevirtual index, 3)) (hmc : mc ≤ bc) (hms : ms ≤ bs) (kk : ∀ v G', Q' v G' → GW Γ l mi h MC MS Q (pc + 3) lv (v.toList ++ rest) G' (bc - mc) (bs - ms)) : GW Γ l mi h MC MS Q pc lv st G bc bs := by
  refine GW.ofRun (mc := mc) (ms := ms) (rest := rest) (Q' := Q') (av := (.ref a :: As).toArray) ?_ hmc hms kk
  intro p e R s m args below meth c H locs cells slots ls X hS hG hls h1 h2
  obtain ⟨hx, hb, hml, hr, hlk, hnm, hts, hown, hK, hZ, hf1, hf2, hf3, hf4, hbase⟩ := X
  have hR := room_call (y := y) (mc := mc) (ms := ms) hh hL hf1 hf2
  obtain ⟨cell, c1, c2, c3⟩ := hG.recv hK hc ha
  have hini := hts _ w6
  have hB : Back l R p e below s args y.1 3 8 (PreOf R mc ms (va_Pc (.ref a :: As) (gP Γ G))) (PostOf (gQ Γ Q') mc ms (gA Γ)) := back_of (bytes := y.2.1) (maxL := y.2.2.1) (ret := y.2.2.2) hT gP_blind rfl rfl hR.1 hR.2 (pay_in hts (lw_meth w7)) List.mem_cons_self (fun a' U hW => word_at hW (Or.inl (by first | rfl | simp [Cond.onTables, Cond.keeps, Cond.steady])) hini)
  have k8 : ∀ w ∈ gKw, w.before args s = true := fun w hw => va_tabs ((Bool.and_eq_true _ _).mp (gKw_good w hw)).1 rfl (hK.2.2.2.2.2.2.2.1 _ hw)
  intro T hT0 XT
  have hlen : ∀ sig, parseMethodDescriptor x.desc = some sig → As.length = sig.parameters.length := by
    intro sig hs
    have h2 := hcl.2.2
    rw [hs] at h2
    rw [hn]
    exact (Option.some.inj h2).symm
  obtain ⟨v, vm₁, ⟨U', l2, cc2, s2⟩, hW₁, X', ⟨g', mk, t, L, e1, e2, hq, d1, hL', d2, d3⟩, go⟩ := XT.virtualBackUpD hx (own := mi.1.cls) (C := C) (owner := y.1.cls) (x := x) (y := y.1) hown (k8 _ w1) (k8 _ w2) (va_tabs rfl rfl (hK.2.2.2.2.2.2.2.2.2.1 _ w3)) ⟨hcl.1, hcl.2.1⟩ (lid_same (u := s) (U := s) rfl (hK.2.2.2.2.2.2.2.2.2.2.1 _ w4)) (hts _ w5) hB (b := a) (cB := cell.cls) c3 ⟨cell, by rw [hT0]; exact c1, rfl, c2⟩ (g := F0 m pc ls st) rfl (hls.1.trans hml.symm) (Steps.refl _) (argsL := As) (rest := rest) hlen hst (lv_room hr8) (by rw [hb]; exact hd) (fun vm₁ hW₁ => ⟨by show cells + mc ≤ R.cells; omega, by show slots + ms ≤ R.slots; omega, rfl, gP_of hK hZ hS hG hT0 hW₁⟩)
  dsimp only [Pt.U, Pt.locs, Pt.cells, Pt.slots] at X' e1 e2 d1 d2 d3 go
  subst d1; subst d2; subst d3
  exact ⟨v, (T.setVm vm₁).calling g' mk (Value.ref a :: As).toArray, t, U', L, hT0, X', hL', e1, e2, hq, fun target hh => go.trans hh⟩
end R4ROWS
