/-! interfaces; super; switches by value; floats; copies of references; class objects; clone (printed by gen/rows12.py) -/
set_option maxRecDepth 100000
section R5ROWS
variable {Γ : GE} {l : Launch} {mi : MI} {h MC MS : Nat} {Q : Option Value → GH → Prop} {pc : Nat} {lv : List (Nat × Value)} {st : List Value} {G : GH} {bc bs : Nat}
theorem GW.ofRun5 {mc ms : Nat} {av : Array Value} {rest : List Value} {Q' : Option Value → GH → Prop}
    (hrun : ∀ (p : Program) (e : Env) (R : Room) (s : State) (m : MethodId) (args : Array Value) (below : List Frame) (meth : Method) (c : Code) (H : Heap) (locs : List Loc) (cells slots : Nat) (ls : Array Slot), GX Γ mi h MC MS p R s m args meth c → va_S (gA Γ) s.heap H locs → gH Γ s G H → lv_has ls mi.2.2.1 lv → cells + bc ≤ MC → slots + bs ≤ MS →
      va_Run5 p l e R s m args below meth c H locs cells slots mc ms (F0 m pc ls st) rest (gQ Γ Q' av) (gA Γ))
    (hmc : mc ≤ bc) (hms : ms ≤ bs) (kk : ∀ v G', Q' v G' → GW Γ l mi h MC MS Q (pc + 5) lv (v.toList ++ rest) G' (bc - mc) (bs - ms)) : GW Γ l mi h MC MS Q pc lv st G bc bs := by
  intro p e R s m args below meth c H locs cells slots ls X hS hG hls h1 h2 T hT XT
  obtain ⟨v, st₀, t, T', L, h0, X', hL, e1, e2, ⟨⟨v', G', hv, hq, hG'⟩, hz, hk⟩, go⟩ := hrun p e R s m args below meth c H locs cells slots ls X hS hG hls h1 h2 T hT XT
  cases hv
  rw [h0] at hz hk
  have hS' : va_S (gA Γ) s.heap T'.heap (locs ++ L) := ⟨Nat.le_trans hS.1 (by rw [e1]; exact hz), fun q g1 g2 => by rw [e1, hk q (Nat.lt_of_lt_of_le g1 hS.1) g2]; exact hS.2.1 q g1 g2, fun q hq => by
      rcases List.mem_append.mp hq with g | g
      · exact hS.2.2 q g
      · exact hL q g⟩
  have hGs : gH Γ s G' T'.heap := by
    rw [e1]
    exact gH_moved (by rw [← e2]; exact X'.warmed.alike.symm) hG'
  obtain ⟨t2, a1, b1⟩ := kk v G' hq p e R s m args below meth c T'.heap (locs ++ L) (cells + mc) (slots + ms) ls X hS' hGs hls (by omega) (by omega) T' rfl X'
  exact ⟨t2, go t2 a1, b1⟩
/-- invokeinterface of x, where the receiver's class C runs its own y -/
theorem g_callF {y : MI} {x : MethodName} {C : String} {index count h0 mc ms ci : Nat} {As rest : List Value} {a : Nat} {T : u_T} {N : Nat} {Q' : Option Value → GH → Prop} (hT : Tr Γ l y h0 mc ms (.ref a :: As) G Q') (n : Nat) (hn : As.length = n) (hc : vwCl[ci]? = some (C, T, N)) (w1 : Cond.methodLink mi.1.cls index x ∈ lw_all) (w2 : (C, x, y.1) ∈ gFw) (w4 : Cond.selects C x y.1 ∈ lw_all) (w5 : Cond.instanceMethod y.1 ∈ lw_all) (w6 : Cond.initialized y.1.cls ∈ lw_all) (w7 : Cond.code y.1 y.2.1 y.2.2.1 y.2.2.2 ∈ lw_all)
    (hcl : x.cls ≠ "java/lang/invoke/MethodHandle" ∧ x.cls ≠ "java/lang/invoke/VarHandle" ∧ (parseMethodDescriptor x.desc).map (fun d => d.parameters.length) = some n) (hL : y.2.2.1 ≤ 45) (hh : h0 < h) (ha : gC G a = kO ci)
    (hst : st = As.reverse ++ .ref a :: rest) (hr8 : (rest.map fun v => v.category).sum ≤ 8) (hd : decode mi.2.1 pc = .ok (.invokeinterface index count, 5)) (hmc : mc ≤ bc) (hms : ms ≤ bs) (kk : ∀ v G', Q' v G' → GW Γ l mi h MC MS Q (pc + 5) lv (v.toList ++ rest) G' (bc - mc) (bs - ms)) : GW Γ l mi h MC MS Q pc lv st G bc bs := by
  refine GW.ofRun5 (mc := mc) (ms := ms) (rest := rest) (Q' := Q') (av := (.ref a :: As).toArray) ?_ hmc hms kk
  intro p e R s m args below meth c H locs cells slots ls X hS hG hls h1 h2
  obtain ⟨hx, hb, hml, hr, hlk, hnm, hts, hown, hK, hZ, hf1, hf2, hf3, hf4, hbase⟩ := X
  have hR := room_call (y := y) (mc := mc) (ms := ms) hh hL hf1 hf2
  have hw : GoodIn lw_all (va_wsF mi.1.cls index C x y.1 (ws_ y.1 y.2.1 y.2.2.1 y.2.2.2)) := by
    refine lw_app ?_ (lw_meth w7)
    intro w hw
    simp only [List.mem_cons, List.not_mem_nil, or_false] at hw
    rcases hw with e | e | e | e
    · rw [e]; exact w1
    · rw [e]; exact w4
    · rw [e]; exact w5
    · rw [e]; exact w6
  exact va_runF (x := x) (y := y.1) (As := As) (rest := rest) (hK.1.1 ci _ hc).2 ⟨hx, hb, hml, hown, hts⟩ hT (va_cwF n hts hw rfl rfl rfl (hK.2.2.2.2.2.2.1 _ w2) hcl hR) ⟨gP_blind, hG.recv hK hc ha, fun U hU hW => ⟨rfl, gP_of hK hZ hS hG hU hW⟩⟩ rfl hn hls.1 hst (lv_room hr8) hd ⟨by omega, by omega⟩
/-- invokeinterface of x, where the receiver's class C runs the default method y -/
theorem g_callE {y : MI} {x : MethodName} {C : String} {index count h0 mc ms ci : Nat} {As rest : List Value} {a : Nat} {T : u_T} {N : Nat} {Q' : Option Value → GH → Prop} (hT : Tr Γ l y h0 mc ms (.ref a :: As) G Q') (n : Nat) (hn : As.length = n) (hc : vwCl[ci]? = some (C, T, N)) (w1 : Cond.methodLink mi.1.cls index x ∈ lw_all) (w2 : (C, x, y.1) ∈ gFw) (w4 : (C, x, y.1) ∈ gDf) (w5 : Cond.instanceMethod y.1 ∈ lw_all) (w6 : Cond.initialized y.1.cls ∈ lw_all) (w7 : Cond.code y.1 y.2.1 y.2.2.1 y.2.2.2 ∈ lw_all)
    (hcl : x.cls ≠ "java/lang/invoke/MethodHandle" ∧ x.cls ≠ "java/lang/invoke/VarHandle" ∧ (parseMethodDescriptor x.desc).map (fun d => d.parameters.length) = some n) (hL : y.2.2.1 ≤ 45) (hh : h0 < h) (ha : gC G a = kO ci)
    (hst : st = As.reverse ++ .ref a :: rest) (hr8 : (rest.map fun v => v.category).sum ≤ 8) (hd : decode mi.2.1 pc = .ok (.invokeinterface index count, 5)) (hmc : mc ≤ bc) (hms : ms ≤ bs) (kk : ∀ v G', Q' v G' → GW Γ l mi h MC MS Q (pc + 5) lv (v.toList ++ rest) G' (bc - mc) (bs - ms)) : GW Γ l mi h MC MS Q pc lv st G bc bs := by
  refine GW.ofRun5 (mc := mc) (ms := ms) (rest := rest) (Q' := Q') (av := (.ref a :: As).toArray) ?_ hmc hms kk
  intro p e R s m args below meth c H locs cells slots ls X hS hG hls h1 h2
  obtain ⟨hx, hb, hml, hr, hlk, hnm, hts, hown, hK, hZ, hf1, hf2, hf3, hf4, hbase⟩ := X
  have hR := room_call (y := y) (mc := mc) (ms := ms) hh hL hf1 hf2
  obtain ⟨cell, c1, c2, c3⟩ := hG.recv hK hc ha
  have hini := hts _ w6
  have hB : Back l R p e below s args y.1 5 8 (PreOf R mc ms (va_Pc (.ref a :: As) (gP Γ G))) (PostOf (gQ Γ Q') mc ms (gA Γ)) := back_of (bytes := y.2.1) (maxL := y.2.2.1) (ret := y.2.2.2) hT gP_blind rfl rfl hR.1 hR.2 (pay_in hts (lw_meth w7)) List.mem_cons_self (fun a' U hW => word_at hW (Or.inl (by first | rfl | simp [Cond.onTables, Cond.keeps, Cond.steady])) hini)
  obtain ⟨f1, f2, f3, f4, f5⟩ := hK.2.2.2.2.2.2.1 _ w2
  intro T hT0 XT
  have hlen : ∀ sig, parseMethodDescriptor x.desc = some sig → As.length = sig.parameters.length := by
    intro sig hs
    have h2 := hcl.2.2
    rw [hs] at h2
    rw [hn]
    exact (Option.some.inj h2).symm
  obtain ⟨hfc, kB, hkB, -⟩ := (hK.1.1 ci _ hc).2
  have hcc : cell.cls = Γ.1.1 ci := Option.some.inj (c3.symm.trans hfc)
  obtain ⟨v, vm₁, ⟨U', l2, cc2, s2⟩, hW₁, X', ⟨g', mk, t, L, e1, e2, hq, d1, hL', d2, d3⟩, go⟩ := XT.interfaceBackD hx (own := mi.1.cls) (C := C) (xi := x) (y := y.1) hown (hts _ w1) (va_tabs rfl rfl f1) (va_tabs rfl rfl f2) (lid_same (u := s) (U := s) rfl (hK.2.2.2.2.2.2.2.2.2.2.1 _ w4)) (hts _ w5) (va_tabs rfl rfl f3) (va_tabs rfl rfl f5) ⟨hcl.1, hcl.2.1⟩ hB (b := a) (cB := Γ.1.1 ci) hfc hkB ⟨cell, by rw [hT0]; exact c1, hcc, c2⟩ (g := F0 m pc ls st) rfl (hls.1.trans hml.symm) (Steps.refl _) (argsL := As) (rest := rest) hlen hst (lv_room hr8) (by rw [hb]; exact hd) (fun vm₁ hW₁ => ⟨by show cells + mc ≤ R.cells; omega, by show slots + ms ≤ R.slots; omega, rfl, gP_of hK hZ hS hG hT0 hW₁⟩)
  dsimp only [Pt.U, Pt.locs, Pt.cells, Pt.slots] at X' e1 e2 d1 d2 d3 go
  subst d1; subst d2; subst d3
  exact ⟨v, (T.setVm vm₁).calling g' mk (Value.ref a :: As).toArray, t, U', L, hT0, X', hL', e1, e2, hq, fun target hh => go.trans hh⟩
/-- super.m(..) -/
theorem g_callP {y : MI} {index h0 mc ms ci : Nat} {As rest : List Value} {a : Nat} {C : String} {T : u_T} {N : Nat} {Q' : Option Value → GH → Prop} (hT : Tr Γ l y h0 mc ms (.ref a :: As) G Q') (n : Nat) (hn : As.length = n) (hc : vwCl[ci]? = some (C, T, N)) (w1 : Cond.methodLink mi.1.cls index y.1 ∈ lw_all) (w2 : Cond.sameMethod y.1.cls y.1.cls y.1.name y.1.desc ∈ lw_all) (w3 : Cond.superclass mi.1.cls y.1.cls ∈ lw_all) (w5 : Cond.instanceMethod y.1 ∈ lw_all) (w6 : Cond.initialized y.1.cls ∈ lw_all) (w7 : Cond.code y.1 y.2.1 y.2.2.1 y.2.2.2 ∈ lw_all)
    (hno : y.1.name ≠ "<init>") (hcl : (parseMethodDescriptor y.1.desc).map (fun d => d.parameters.length) = some n) (hL : y.2.2.1 ≤ 45) (hh : h0 < h) (ha : gC G a = kO ci)
    (hst : st = As.reverse ++ .ref a :: rest) (hr8 : (rest.map fun v => v.category).sum ≤ 8) (hd : decode mi.2.1 pc = .ok (.invokespecial index, 3)) (hmc : mc ≤ bc) (hms : ms ≤ bs) (kk : ∀ v G', Q' v G' → GW Γ l mi h MC MS Q (pc + 3) lv (v.toList ++ rest) G' (bc - mc) (bs - ms)) : GW Γ l mi h MC MS Q pc lv st G bc bs := by
  refine GW.ofRun (mc := mc) (ms := ms) (rest := rest) (Q' := Q') (av := (.ref a :: As).toArray) ?_ hmc hms kk
  intro p e R s m args below meth c H locs cells slots ls X hS hG hls h1 h2
  obtain ⟨hx, hb, hml, hr, hlk, hnm, hts, hown, hK, hZ, hf1, hf2, hf3, hf4, hbase⟩ := X
  have hR := room_call (y := y) (mc := mc) (ms := ms) hh hL hf1 hf2
  refine va_runSU (y := y.1) (As := As) (rest := rest) (hK.1.1 ci _ hc).2 ⟨hx, hb, hml, hown, hts⟩ hT ⟨⟨rfl, rfl, hR.1, hR.2, pay_in hts (lw_meth w7), List.mem_cons_self⟩, hts _ w1, hts _ w2, hts _ w3, hts _ w5, hts _ w6, hts _ w7, hno, fun sig hs => ?_⟩ ⟨gP_blind, hG.recv hK hc ha, fun U hU hW => ⟨rfl, gP_of hK hZ hS hG hU hW⟩⟩ rfl hn hls.1 hst (lv_room hr8) hd ⟨by omega, by omega⟩
  rw [hs] at hcl
  exact (Option.some.inj hcl).symm
theorem h_lsw {dflt : Int} {ps : Array (Int × Int)} {len : Nat} {x : Int32} {off : Int} (tgt : Nat) (hd : decode mi.2.1 pc = .ok (.lookupswitch dflt ps, len)) (hp : (ps.toList.zip (ps.toList.drop 1)).all (fun (a, next) => a.1 < next.1) = true) (ho : Op.lookupswitch.offset ps.toList dflt x.toInt = off) (ht : (pc : Int) + off = (tgt : Int)) (k : GW Γ l mi h MC MS Q tgt lv st G bc bs) : GW Γ l mi h MC MS Q pc lv (.int x :: st) G bc bs := GW.pure (fun hx hb k => lv_lookup hx hb hd hp ho ht k) k
theorem g_i2f {x : Int32} (hd : decode mi.2.1 pc = .ok (.i2f, 1)) (k : GW Γ l mi h MC MS Q (pc + 1) lv (.float (FP.i2f x) :: st) G bc bs) : GW Γ l mi h MC MS Q pc lv (.int x :: st) G bc bs := GW.pure (fun hx hb k => lv_i2f hx hb hd k) k
theorem g_f2i {x : UInt32} (hd : decode mi.2.1 pc = .ok (.f2i, 1)) (k : GW Γ l mi h MC MS Q (pc + 1) lv (.int (FP.f2i x) :: st) G bc bs) : GW Γ l mi h MC MS Q pc lv (.float x :: st) G bc bs := GW.pure (fun hx hb k => lv_f2i hx hb hd k) k
theorem g_fmul {x y : UInt32} (hd : decode mi.2.1 pc = .ok (.fmul, 1)) (hne : vf_n32 (FP.fmul x y)) (k : GW Γ l mi h MC MS Q (pc + 1) lv (.float (FP.fmul x y) :: st) G bc bs) : GW Γ l mi h MC MS Q pc lv (.float y :: .float x :: st) G bc bs := GW.pure (fun hx hb k => lv_fmul hx hb hd hne k) k
theorem g_fcmp {x y : UInt32} {op : CmpOp} (hd : decode mi.2.1 pc = .ok (.fcmp op, 1)) (k : GW Γ l mi h MC MS Q (pc + 1) lv (.int (Op.cmpValue (FP.fcmp x y) op) :: st) G bc bs) : GW Γ l mi h MC MS Q pc lv (.float y :: .float x :: st) G bc bs := GW.pure (fun hx hb k => lv_fcmp hx hb hd k) k
theorem g_ldcf {index : Nat} {v : UInt32} (hw : Cond.constantFloat mi.1.cls index v ∈ lw_all) (hd : decode mi.2.1 pc = .ok (.ldc index, 2)) (kk : GW Γ l mi h MC MS Q (pc + 2) lv (.float v :: st) G bc bs) : GW Γ l mi h MC MS Q pc lv st G bc bs := by
  intro p e R s m args below meth c H locs cells slots ls X hS hG hls h1 h2
  have K := kk p e R s m args below meth c H locs cells slots ls X hS hG hls h1 h2
  obtain ⟨hx, hb, hml, hr, hlk, hnm, hts, hown, hK, hZ, -⟩ := X
  exact lv_ldcf hx hb hown (hts _ hw) hd K
theorem h_putF {C ref : String} {T : u_T} {N index : Nat} {tyN : Nat → FieldType} {v : UInt32} (ci k : Nat) (hc : vwCl[ci]? = some (C, T, N)) (hin : ∀ w ∈ u_ws C T N, w ∈ lw_all) (htyN : ∀ k, k < N → parseFieldDescriptor (T k).2.2.1 = some (tyN k)) (hnmN : ∀ a, a < N → ∀ b, b < N → a ≠ b → (T a).2.1 ≠ (T b).2.1) (hk : k < N) (hlink : Cond.fieldLink mi.1.cls index ref (T k).2.1 (T k).2.2.1 ∈ lw_all) (hsame : (T k).1 = ref ∨ Cond.sameField ref (T k).1 (T k).2.1 (T k).2.2.1 ∈ lw_all)
    (hfin : (T k).2.2.2 = false ∨ (mi.1.name = "<init>" ∧ (T k).1 = mi.1.cls)) (hty : gcty ci k = .float) (hty2 : tyN k = .float) {r : Option Nat} {a : Nat} (hr : r = some a) (ha : gC G a = kO ci) (hm : gM G a = true) (hd : decode mi.2.1 pc = .ok (.putfield index, 3)) (kk : GW Γ l mi h MC MS Q (pc + 3) lv st (sF G a k v) bc bs) : GW Γ l mi h MC MS Q pc lv (.float v :: va_rf r :: st) G bc bs := by
  subst hr
  refine g_put (G1 := sF G a k v) ci k hc hin htyN hnmN hk hlink hsame hfin ha hm (by rw [hty2]; rfl) (by rw [hty2]; rfl) rfl rfl rfl ?_ (fun j hj => ⟨rfl, rfl, by rw [gF_sF, if_neg (fun z => hj z.2)]⟩) sF_other hd kk
  rw [hty, gF_sF, if_pos ⟨rfl, rfl⟩]
  rfl
theorem h_ldcM {C : String} {index : Nat} (i : Nat) (hw : Cond.classLink mi.1.cls index C ∈ lw_all) (hm : (C, i) ∈ gMi) (hd : decode mi.2.1 pc = .ok (.ldc index, 2)) (kk : GW Γ l mi h MC MS Q (pc + 2) lv (va_rf (some (Γ.2.2.2 i)) :: st) G bc bs) : GW Γ l mi h MC MS Q pc lv st G bc bs := by
  intro p e R s m args below meth c H locs cells slots ls X hS hG hls h1 h2
  have K := kk p e R s m args below meth c H locs cells slots ls X hS hG hls h1 h2
  obtain ⟨hx, hb, hml, hr, hlk, hnm, hts, hown, hK, hZ, -⟩ := X
  exact va_ldcM hx hb hown (hts _ hw) (hK.2.2.2.2.2.2.2.2.2.2.2 _ hm) hd K
/-- System.arraycopy of references, between arrays of ours whose elements fit -/
theorem h_copyq {index : Nat} (t : Nat) {r0 r : Option Nat} {a0 a : Nat} {sp dp n : Int32} (h4 : 4 ≤ t) (h8 : t < 8) (hl : Cond.methodLink mi.1.cls index arraycopyName ∈ lw_all) (hnat : Cond.native arraycopyName ∈ lw_all) (hstt : Cond.static arraycopyName ∈ lw_all) (hini : Cond.initialized "java/lang/System" ∈ lw_all) (hr0 : r0 = some a0) (h0 : gC G a0 = kA t) (hm0 : gM G a0 = true) (hr : r = some a) (ha : gC G a = kA t) (hm : gM G a = true) (n1 : ¬ sp < 0) (n2 : ¬ dp < 0) (n3 : ¬ n < 0) (n4 : sp.toNatClampNeg + n.toNatClampNeg ≤ gL G a0) (n5 : dp.toNatClampNeg + n.toNatClampNeg ≤ gL G a)
    (hel : ∀ i, i < n.toNatClampNeg → okS G t (gR G a0 (sp.toNatClampNeg + i))) (hh : 0 < h) (hr8 : (st.map fun v => v.category).sum ≤ 8) (hd : decode mi.2.1 pc = .ok (.invokestatic index, 3))
    (kk : GW Γ l mi h MC MS Q (pc + 3) lv st (wR G a (va_cpy (gR G a0) (gR G a) sp.toNatClampNeg dp.toNatClampNeg n.toNatClampNeg)) bc bs) : GW Γ l mi h MC MS Q pc lv (.int n :: .int dp :: va_rf r :: .int sp :: va_rf r0 :: st) G bc bs := by
  subst hr0
  subst hr
  intro p e R s m args below meth c H locs cells slots ls X hS hG hls h1 h2
  have K := fun H1 locs1 hS1 hG1 => kk p e R s m args below meth c H1 locs1 cells slots ls X hS1 hG1 hls h1 h2
  obtain ⟨hx, hb, hml, hr, hlk, hnm, hts, hown, hK, hZ, hf1, hf2, hf3, hf4, hbase⟩ := X
  have hGG := hG
  obtain ⟨hbs, ⟨ws, hP, hD, g1, g2⟩, hcst⟩ := hG
  obtain ⟨k0, hk0⟩ := List.getElem?_of_mem (g1 a0 (by rw [h0]; exact kA_ne0 t) hm0)
  obtain ⟨k1, hk1⟩ := List.getElem?_of_mem (g1 a (by rw [ha]; exact kA_ne0 t) hm)
  have hk2 := hk1
  rw [gent_Ar h0 h4] at hk0
  rw [gent_Ar ha h4] at hk1
  have ht := gtys_at (Γ := Γ) t h8
  rw [gtyq_obj h4 h8] at ht
  refine va_copyM hx hb (by rw [hml]; exact hls.1.symm) hown (hts _ hl) (hts _ hnat) (hts _ hstt) (hts _ hini) hK.1 hP hD hS k0 k1 t t hk0 hk1 ht ht n1 n2 n3 n4 n5 (fun i hi y hy => ?_) (by omega) ?_ hd fun H1 locs1 hP1 hD1 hS1 => ?_
  · rcases hel i hi with e | ⟨b, ci, e, hb1, hci, hk⟩
    · rw [e] at hy
      cases hy
    · rw [e] at hy
      cases hy
      obtain ⟨cell, c1, c2, c3⟩ := hGG.recv hK (vwCl_at hci) hb1
      obtain ⟨kC, hkC, -⟩ := Vm.findClass_spec c3
      exact ⟨cell, c1, c2, ⟨kC, hkC⟩, fun comp hcp => gAsg hK hci hk comp _ hcp c3⟩
  · have : nativeFrameWords "java/lang/System" "arraycopy" 5 ≤ 40 := by decide +kernel
    omega
  · refine K H1 locs1 hS1 (gH_put (Nat.le_trans hbase hS1.1) hGG hP hD g1 g2 hk2 hP1 (gS_keep hbase hS hS1) rfl rfl rfl ?_ (fun q hq => ⟨fun j => rfl, fun j => by rw [gR_wR, if_neg hq], fun j => rfl⟩))
    rw [gent_Ar (G := wR G a _) (t := t) ha h4]
    have e0 : gR (wR G a (va_cpy (gR G a0) (gR G a) sp.toNatClampNeg dp.toNatClampNeg n.toNatClampNeg)) a = va_cpy (gR G a0) (gR G a) sp.toNatClampNeg dp.toNatClampNeg n.toNatClampNeg := by
      funext j
      rw [gR_wR, if_pos rfl]
    rw [e0]
    rfl
/-- getClass() of an Object[] of ours -/
theorem h_getCls {index : Nat} {r : Option Nat} {a : Nat} (hl : Cond.methodLink mi.1.cls index ⟨"java/lang/Object", "getClass", "()Ljava/lang/Class;"⟩ ∈ lw_all) (hsel : Cond.selects "[Ljava/lang/Object;" ⟨"java/lang/Object", "getClass", "()Ljava/lang/Class;"⟩ ⟨"java/lang/Object", "getClass", "()Ljava/lang/Class;"⟩ ∈ lw_all) (hinst : Cond.instanceMethod ⟨"java/lang/Object", "getClass", "()Ljava/lang/Class;"⟩ ∈ lw_all) (hnat : Cond.native ⟨"java/lang/Object", "getClass", "()Ljava/lang/Class;"⟩ ∈ lw_all) (hr : r = some a) (ha : gC G a = kA 4) (hm : gM G a = true) (hh : 0 < h) (hr8 : (st.map fun v => v.category).sum ≤ 8) (hd : decode mi.2.1 pc = .ok (.invokevirtual index, 3))
    (kk : GW Γ l mi h MC MS Q (pc + 3) lv (va_rf (some (Γ.2.2.2 12)) :: st) G bc bs) : GW Γ l mi h MC MS Q pc lv (va_rf r :: st) G bc bs := by
  subst hr
  intro p e R s m args below meth c H locs cells slots ls X hS hG hls h1 h2
  have K := kk p e R s m args below meth c H locs cells slots ls X hS hG hls h1 h2
  obtain ⟨hx, hb, hml, hr, hlk, hnm, hts, hown, hK, hZ, hf1, hf2, hf3, hf4, hbase⟩ := X
  obtain ⟨ws, k0, hP, hk0⟩ := hG.read (by rw [ha]; exact kA_ne0 4) hm
  rw [gent_Ar ha (by decide)] at hk0
  have hcell := hP k0 _ hk0
  have hf : s.vm.findClass "[Ljava/lang/Object;" = some (Γ.2.2.1 4) := va_nmO (hK.1.2 4 _ (gtys_at 4 (by decide))).2 rfl
  exact va_getC hx hb (by rw [hml]; exact hls.1.symm) hown (hts _ hl) (va_tabs rfl rfl (hK.2.2.2.2.2.2.2.2.2.1 _ (by decide +kernel))) (hts _ hsel) (hts _ hinst) (hts _ hnat) (hK.2.2.2.2.2.2.2.2.2.2.2 ("[Ljava/lang/Object;", 12) (by decide +kernel)) ⟨_, hcell, rfl, hf⟩ (by omega) (by omega) hd K
theorem h_callUI {y : MI} {x : MethodName} {owner C : String} {index ci : Nat} {T : u_T} {N : Nat} {As rest : List Value} {r : Option Nat} {a : Nat} {K : Int32 → GH → Nat → Nat → Prop} (F : cI Γ l h y (.ref a :: As) G bc bs K) (n : Nat) (hn : As.length = n) (hc : vwCl[ci]? = some (C, T, N)) (w1 : hasW Γ (Cond.methodLink mi.1.cls index x)) (w2 : hasW Γ (Cond.sameMethod x.cls owner x.name x.desc)) (w3 : hasD Γ ⟨owner, x.name, x.desc⟩) (w4 : hasW Γ (Cond.selects C x y.1)) (w5 : Cond.instanceMethod y.1 ∈ lw_all) (w6 : Cond.initialized y.1.cls ∈ lw_all) (w7 : Cond.code y.1 y.2.1 y.2.2.1 y.2.2.2 ∈ lw_all) (hcl : owner ≠ "java/lang/invoke/MethodHandle" ∧ owner ≠ "java/lang/invoke/VarHandle" ∧ (parseMethodDescriptor x.desc).map (fun d => d.parameters.length) = some n) (hL : y.2.2.1 ≤ 45) (hr : r = some a) (ha : gC G a = kO ci)
    (hst : st = As.reverse ++ va_rf r :: rest) (hr8 : (rest.map fun v => v.category).sum ≤ 8) (hd : decode mi.2.1 pc = .ok (.invokevirtual index, 3)) (kk : ∀ q G' bc' bs', K q G' bc' bs' → GW Γ l mi h MC MS Q (pc + 3) lv (.int q :: rest) G' bc' bs') : GW Γ l mi h MC MS Q pc lv st G bc bs := by
  subst hr
  obtain ⟨h0, mc, ms, Q', hT, hh, b1, b2, k⟩ := F
  refine g_callU hT n hn hc w1 w2 w3 w4 w5 w6 w7 hcl hL hh ha hst hr8 hd b1 b2 fun v G' hq => ?_
  obtain ⟨q, rfl, hk⟩ := k v G' hq
  exact kk q G' _ _ hk
theorem h_callUR {y : MI} {x : MethodName} {owner C : String} {index ci : Nat} {T : u_T} {N : Nat} {As rest : List Value} {r : Option Nat} {a : Nat} {K : Option Nat → GH → Nat → Nat → Prop} (F : cR Γ l h y (.ref a :: As) G bc bs K) (n : Nat) (hn : As.length = n) (hc : vwCl[ci]? = some (C, T, N)) (w1 : hasW Γ (Cond.methodLink mi.1.cls index x)) (w2 : hasW Γ (Cond.sameMethod x.cls owner x.name x.desc)) (w3 : hasD Γ ⟨owner, x.name, x.desc⟩) (w4 : hasW Γ (Cond.selects C x y.1)) (w5 : Cond.instanceMethod y.1 ∈ lw_all) (w6 : Cond.initialized y.1.cls ∈ lw_all) (w7 : Cond.code y.1 y.2.1 y.2.2.1 y.2.2.2 ∈ lw_all) (hcl : owner ≠ "java/lang/invoke/MethodHandle" ∧ owner ≠ "java/lang/invoke/VarHandle" ∧ (parseMethodDescriptor x.desc).map (fun d => d.parameters.length) = some n) (hL : y.2.2.1 ≤ 45) (hr : r = some a) (ha : gC G a = kO ci)
    (hst : st = As.reverse ++ va_rf r :: rest) (hr8 : (rest.map fun v => v.category).sum ≤ 8) (hd : decode mi.2.1 pc = .ok (.invokevirtual index, 3)) (kk : ∀ q G' bc' bs', K q G' bc' bs' → GW Γ l mi h MC MS Q (pc + 3) lv (va_rf q :: rest) G' bc' bs') : GW Γ l mi h MC MS Q pc lv st G bc bs := by
  subst hr
  obtain ⟨h0, mc, ms, Q', hT, hh, b1, b2, k⟩ := F
  refine g_callU hT n hn hc w1 w2 w3 w4 w5 w6 w7 hcl hL hh ha hst hr8 hd b1 b2 fun v G' hq => ?_
  obtain ⟨q, rfl, hk⟩ := k v G' hq
  exact kk q G' _ _ hk
theorem h_callUV {y : MI} {x : MethodName} {owner C : String} {index ci : Nat} {T : u_T} {N : Nat} {As rest : List Value} {r : Option Nat} {a : Nat} {K : GH → Nat → Nat → Prop} (F : cV Γ l h y (.ref a :: As) G bc bs K) (n : Nat) (hn : As.length = n) (hc : vwCl[ci]? = some (C, T, N)) (w1 : hasW Γ (Cond.methodLink mi.1.cls index x)) (w2 : hasW Γ (Cond.sameMethod x.cls owner x.name x.desc)) (w3 : hasD Γ ⟨owner, x.name, x.desc⟩) (w4 : hasW Γ (Cond.selects C x y.1)) (w5 : Cond.instanceMethod y.1 ∈ lw_all) (w6 : Cond.initialized y.1.cls ∈ lw_all) (w7 : Cond.code y.1 y.2.1 y.2.2.1 y.2.2.2 ∈ lw_all) (hcl : owner ≠ "java/lang/invoke/MethodHandle" ∧ owner ≠ "java/lang/invoke/VarHandle" ∧ (parseMethodDescriptor x.desc).map (fun d => d.parameters.length) = some n) (hL : y.2.2.1 ≤ 45) (hr : r = some a) (ha : gC G a = kO ci)
    (hst : st = As.reverse ++ va_rf r :: rest) (hr8 : (rest.map fun v => v.category).sum ≤ 8) (hd : decode mi.2.1 pc = .ok (.invokevirtual index, 3)) (kk : ∀ G' bc' bs', K G' bc' bs' → GW Γ l mi h MC MS Q (pc + 3) lv rest G' bc' bs') : GW Γ l mi h MC MS Q pc lv st G bc bs := by
  subst hr
  obtain ⟨h0, mc, ms, Q', hT, hh, b1, b2, k⟩ := F
  refine g_callU hT n hn hc w1 w2 w3 w4 w5 w6 w7 hcl hL hh ha hst hr8 hd b1 b2 fun v G' hq => ?_
  obtain ⟨rfl, hk⟩ := k v G' hq
  exact kk G' _ _ hk
theorem h_callDI {y : MI} {x : MethodName} {C : String} {index ci : Nat} {T : u_T} {N : Nat} {As rest : List Value} {r : Option Nat} {a : Nat} {K : Int32 → GH → Nat → Nat → Prop} (F : cI Γ l h y (.ref a :: As) G bc bs K) (n : Nat) (hn : As.length = n) (hc : vwCl[ci]? = some (C, T, N)) (w1 : Cond.methodLink mi.1.cls index x ∈ gKw) (w2 : Cond.sameMethod x.cls y.1.cls x.name x.desc ∈ gKw) (w3 : ⟨y.1.cls, x.name, x.desc⟩ ∈ gDe) (w4 : (C, x, y.1) ∈ gDf) (w5 : Cond.instanceMethod y.1 ∈ lw_all) (w6 : Cond.initialized y.1.cls ∈ lw_all) (w7 : Cond.code y.1 y.2.1 y.2.2.1 y.2.2.2 ∈ lw_all) (hcl : y.1.cls ≠ "java/lang/invoke/MethodHandle" ∧ y.1.cls ≠ "java/lang/invoke/VarHandle" ∧ (parseMethodDescriptor x.desc).map (fun d => d.parameters.length) = some n) (hL : y.2.2.1 ≤ 45) (hr : r = some a) (ha : gC G a = kO ci)
    (hst : st = As.reverse ++ va_rf r :: rest) (hr8 : (rest.map fun v => v.category).sum ≤ 8) (hd : decode mi.2.1 pc = .ok (.invokevirtual index, 3)) (kk : ∀ q G' bc' bs', K q G' bc' bs' → GW Γ l mi h MC MS Q (pc + 3) lv (.int q :: rest) G' bc' bs') : GW Γ l mi h MC MS Q pc lv st G bc bs := by
  subst hr
  obtain ⟨h0, mc, ms, Q', hT, hh, b1, b2, k⟩ := F
  refine g_callD hT n hn hc w1 w2 w3 w4 w5 w6 w7 hcl hL hh ha hst hr8 hd b1 b2 fun v G' hq => ?_
  obtain ⟨q, rfl, hk⟩ := k v G' hq
  exact kk q G' _ _ hk
theorem h_callDR {y : MI} {x : MethodName} {C : String} {index ci : Nat} {T : u_T} {N : Nat} {As rest : List Value} {r : Option Nat} {a : Nat} {K : Option Nat → GH → Nat → Nat → Prop} (F : cR Γ l h y (.ref a :: As) G bc bs K) (n : Nat) (hn : As.length = n) (hc : vwCl[ci]? = some (C, T, N)) (w1 : Cond.methodLink mi.1.cls index x ∈ gKw) (w2 : Cond.sameMethod x.cls y.1.cls x.name x.desc ∈ gKw) (w3 : ⟨y.1.cls, x.name, x.desc⟩ ∈ gDe) (w4 : (C, x, y.1) ∈ gDf) (w5 : Cond.instanceMethod y.1 ∈ lw_all) (w6 : Cond.initialized y.1.cls ∈ lw_all) (w7 : Cond.code y.1 y.2.1 y.2.2.1 y.2.2.2 ∈ lw_all) (hcl : y.1.cls ≠ "java/lang/invoke/MethodHandle" ∧ y.1.cls ≠ "java/lang/invoke/VarHandle" ∧ (parseMethodDescriptor x.desc).map (fun d => d.parameters.length) = some n) (hL : y.2.2.1 ≤ 45) (hr : r = some a) (ha : gC G a = kO ci)
    (hst : st = As.reverse ++ va_rf r :: rest) (hr8 : (rest.map fun v => v.category).sum ≤ 8) (hd : decode mi.2.1 pc = .ok (.invokevirtual index, 3)) (kk : ∀ q G' bc' bs', K q G' bc' bs' → GW Γ l mi h MC MS Q (pc + 3) lv (va_rf q :: rest) G' bc' bs') : GW Γ l mi h MC MS Q pc lv st G bc bs := by
  subst hr
  obtain ⟨h0, mc, ms, Q', hT, hh, b1, b2, k⟩ := F
  refine g_callD hT n hn hc w1 w2 w3 w4 w5 w6 w7 hcl hL hh ha hst hr8 hd b1 b2 fun v G' hq => ?_
  obtain ⟨q, rfl, hk⟩ := k v G' hq
  exact kk q G' _ _ hk
theorem h_callDV {y : MI} {x : MethodName} {C : String} {index ci : Nat} {T : u_T} {N : Nat} {As rest : List Value} {r : Option Nat} {a : Nat} {K : GH → Nat → Nat → Prop} (F : cV Γ l h y (.ref a :: As) G bc bs K) (n : Nat) (hn : As.length = n) (hc : vwCl[ci]? = some (C, T, N)) (w1 : Cond.methodLink mi.1.cls index x ∈ gKw) (w2 : Cond.sameMethod x.cls y.1.cls x.name x.desc ∈ gKw) (w3 : ⟨y.1.cls, x.name, x.desc⟩ ∈ gDe) (w4 : (C, x, y.1) ∈ gDf) (w5 : Cond.instanceMethod y.1 ∈ lw_all) (w6 : Cond.initialized y.1.cls ∈ lw_all) (w7 : Cond.code y.1 y.2.1 y.2.2.1 y.2.2.2 ∈ lw_all) (hcl : y.1.cls ≠ "java/lang/invoke/MethodHandle" ∧ y.1.cls ≠ "java/lang/invoke/VarHandle" ∧ (parseMethodDescriptor x.desc).map (fun d => d.parameters.length) = some n) (hL : y.2.2.1 ≤ 45) (hr : r = some a) (ha : gC G a = kO ci)
    (hst : st = As.reverse ++ va_rf r :: rest) (hr8 : (rest.map fun v => v.category).sum ≤ 8) (hd : decode mi.2.1 pc = .ok (.invokevirtual index, 3)) (kk : ∀ G' bc' bs', K G' bc' bs' → GW Γ l mi h MC MS Q (pc + 3) lv rest G' bc' bs') : GW Γ l mi h MC MS Q pc lv st G bc bs := by
  subst hr
  obtain ⟨h0, mc, ms, Q', hT, hh, b1, b2, k⟩ := F
  refine g_callD hT n hn hc w1 w2 w3 w4 w5 w6 w7 hcl hL hh ha hst hr8 hd b1 b2 fun v G' hq => ?_
  obtain ⟨rfl, hk⟩ := k v G' hq
  exact kk G' _ _ hk
theorem h_callFI {y : MI} {x : MethodName} {C : String} {index count ci : Nat} {T : u_T} {N : Nat} {As rest : List Value} {r : Option Nat} {a : Nat} {K : Int32 → GH → Nat → Nat → Prop} (F : cI Γ l h y (.ref a :: As) G bc bs K) (n : Nat) (hn : As.length = n) (hc : vwCl[ci]? = some (C, T, N)) (w1 : Cond.methodLink mi.1.cls index x ∈ lw_all) (w2 : (C, x, y.1) ∈ gFw) (w4 : Cond.selects C x y.1 ∈ lw_all) (w5 : Cond.instanceMethod y.1 ∈ lw_all) (w6 : Cond.initialized y.1.cls ∈ lw_all) (w7 : Cond.code y.1 y.2.1 y.2.2.1 y.2.2.2 ∈ lw_all) (hcl : x.cls ≠ "java/lang/invoke/MethodHandle" ∧ x.cls ≠ "java/lang/invoke/VarHandle" ∧ (parseMethodDescriptor x.desc).map (fun d => d.parameters.length) = some n) (hL : y.2.2.1 ≤ 45) (hr : r = some a) (ha : gC G a = kO ci)
    (hst : st = As.reverse ++ va_rf r :: rest) (hr8 : (rest.map fun v => v.category).sum ≤ 8) (hd : decode mi.2.1 pc = .ok (.invokeinterface index count, 5)) (kk : ∀ q G' bc' bs', K q G' bc' bs' → GW Γ l mi h MC MS Q (pc + 5) lv (.int q :: rest) G' bc' bs') : GW Γ l mi h MC MS Q pc lv st G bc bs := by
  subst hr
  obtain ⟨h0, mc, ms, Q', hT, hh, b1, b2, k⟩ := F
  refine g_callF hT n hn hc w1 w2 w4 w5 w6 w7 hcl hL hh ha hst hr8 hd b1 b2 fun v G' hq => ?_
  obtain ⟨q, rfl, hk⟩ := k v G' hq
  exact kk q G' _ _ hk
theorem h_callFR {y : MI} {x : MethodName} {C : String} {index count ci : Nat} {T : u_T} {N : Nat} {As rest : List Value} {r : Option Nat} {a : Nat} {K : Option Nat → GH → Nat → Nat → Prop} (F : cR Γ l h y (.ref a :: As) G bc bs K) (n : Nat) (hn : As.length = n) (hc : vwCl[ci]? = some (C, T, N)) (w1 : Cond.methodLink mi.1.cls index x ∈ lw_all) (w2 : (C, x, y.1) ∈ gFw) (w4 : Cond.selects C x y.1 ∈ lw_all) (w5 : Cond.instanceMethod y.1 ∈ lw_all) (w6 : Cond.initialized y.1.cls ∈ lw_all) (w7 : Cond.code y.1 y.2.1 y.2.2.1 y.2.2.2 ∈ lw_all) (hcl : x.cls ≠ "java/lang/invoke/MethodHandle" ∧ x.cls ≠ "java/lang/invoke/VarHandle" ∧ (parseMethodDescriptor x.desc).map (fun d => d.parameters.length) = some n) (hL : y.2.2.1 ≤ 45) (hr : r = some a) (ha : gC G a = kO ci)
    (hst : st = As.reverse ++ va_rf r :: rest) (hr8 : (rest.map fun v => v.category).sum ≤ 8) (hd : decode mi.2.1 pc = .ok (.invokeinterface index count, 5)) (kk : ∀ q G' bc' bs', K q G' bc' bs' → GW Γ l mi h MC MS Q (pc + 5) lv (va_rf q :: rest) G' bc' bs') : GW Γ l mi h MC MS Q pc lv st G bc bs := by
  subst hr
  obtain ⟨h0, mc, ms, Q', hT, hh, b1, b2, k⟩ := F
  refine g_callF hT n hn hc w1 w2 w4 w5 w6 w7 hcl hL hh ha hst hr8 hd b1 b2 fun v G' hq => ?_
  obtain ⟨q, rfl, hk⟩ := k v G' hq
  exact kk q G' _ _ hk
theorem h_callFV {y : MI} {x : MethodName} {C : String} {index count ci : Nat} {T : u_T} {N : Nat} {As rest : List Value} {r : Option Nat} {a : Nat} {K : GH → Nat → Nat → Prop} (F : cV Γ l h y (.ref a :: As) G bc bs K) (n : Nat) (hn : As.length = n) (hc : vwCl[ci]? = some (C, T, N)) (w1 : Cond.methodLink mi.1.cls index x ∈ lw_all) (w2 : (C, x, y.1) ∈ gFw) (w4 : Cond.selects C x y.1 ∈ lw_all) (w5 : Cond.instanceMethod y.1 ∈ lw_all) (w6 : Cond.initialized y.1.cls ∈ lw_all) (w7 : Cond.code y.1 y.2.1 y.2.2.1 y.2.2.2 ∈ lw_all) (hcl : x.cls ≠ "java/lang/invoke/MethodHandle" ∧ x.cls ≠ "java/lang/invoke/VarHandle" ∧ (parseMethodDescriptor x.desc).map (fun d => d.parameters.length) = some n) (hL : y.2.2.1 ≤ 45) (hr : r = some a) (ha : gC G a = kO ci)
    (hst : st = As.reverse ++ va_rf r :: rest) (hr8 : (rest.map fun v => v.category).sum ≤ 8) (hd : decode mi.2.1 pc = .ok (.invokeinterface index count, 5)) (kk : ∀ G' bc' bs', K G' bc' bs' → GW Γ l mi h MC MS Q (pc + 5) lv rest G' bc' bs') : GW Γ l mi h MC MS Q pc lv st G bc bs := by
  subst hr
  obtain ⟨h0, mc, ms, Q', hT, hh, b1, b2, k⟩ := F
  refine g_callF hT n hn hc w1 w2 w4 w5 w6 w7 hcl hL hh ha hst hr8 hd b1 b2 fun v G' hq => ?_
  obtain ⟨rfl, hk⟩ := k v G' hq
  exact kk G' _ _ hk
theorem h_callEI {y : MI} {x : MethodName} {C : String} {index count ci : Nat} {T : u_T} {N : Nat} {As rest : List Value} {r : Option Nat} {a : Nat} {K : Int32 → GH → Nat → Nat → Prop} (F : cI Γ l h y (.ref a :: As) G bc bs K) (n : Nat) (hn : As.length = n) (hc : vwCl[ci]? = some (C, T, N)) (w1 : Cond.methodLink mi.1.cls index x ∈ lw_all) (w2 : (C, x, y.1) ∈ gFw) (w4 : (C, x, y.1) ∈ gDf) (w5 : Cond.instanceMethod y.1 ∈ lw_all) (w6 : Cond.initialized y.1.cls ∈ lw_all) (w7 : Cond.code y.1 y.2.1 y.2.2.1 y.2.2.2 ∈ lw_all) (hcl : x.cls ≠ "java/lang/invoke/MethodHandle" ∧ x.cls ≠ "java/lang/invoke/VarHandle" ∧ (parseMethodDescriptor x.desc).map (fun d => d.parameters.length) = some n) (hL : y.2.2.1 ≤ 45) (hr : r = some a) (ha : gC G a = kO ci)
    (hst : st = As.reverse ++ va_rf r :: rest) (hr8 : (rest.map fun v => v.category).sum ≤ 8) (hd : decode mi.2.1 pc = .ok (.invokeinterface index count, 5)) (kk : ∀ q G' bc' bs', K q G' bc' bs' → GW Γ l mi h MC MS Q (pc + 5) lv (.int q :: rest) G' bc' bs') : GW Γ l mi h MC MS Q pc lv st G bc bs := by
  subst hr
  obtain ⟨h0, mc, ms, Q', hT, hh, b1, b2, k⟩ := F
  refine g_callE hT n hn hc w1 w2 w4 w5 w6 w7 hcl hL hh ha hst hr8 hd b1 b2 fun v G' hq => ?_
  obtain ⟨q, rfl, hk⟩ := k v G' hq
  exact kk q G' _ _ hk
theorem h_callER {y : MI} {x : MethodName} {C : String} {index count ci : Nat} {T : u_T} {N : Nat} {As rest : List Value} {r : Option Nat} {a : Nat} {K : Option Nat → GH → Nat → Nat → Prop} (F : cR Γ l h y (.ref a :: As) G bc bs K) (n : Nat) (hn : As.length = n) (hc : vwCl[ci]? = some (C, T, N)) (w1 : Cond.methodLink mi.1.cls index x ∈ lw_all) (w2 : (C, x, y.1) ∈ gFw) (w4 : (C, x, y.1) ∈ gDf) (w5 : Cond.instanceMethod y.1 ∈ lw_all) (w6 : Cond.initialized y.1.cls ∈ lw_all) (w7 : Cond.code y.1 y.2.1 y.2.2.1 y.2.2.2 ∈ lw_all) (hcl : x.cls ≠ "java/lang/invoke/MethodHandle" ∧ x.cls ≠ "java/lang/invoke/VarHandle" ∧ (parseMethodDescriptor x.desc).map (fun d => d.parameters.length) = some n) (hL : y.2.2.1 ≤ 45) (hr : r = some a) (ha : gC G a = kO ci)
    (hst : st = As.reverse ++ va_rf r :: rest) (hr8 : (rest.map fun v => v.category).sum ≤ 8) (hd : decode mi.2.1 pc = .ok (.invokeinterface index count, 5)) (kk : ∀ q G' bc' bs', K q G' bc' bs' → GW Γ l mi h MC MS Q (pc + 5) lv (va_rf q :: rest) G' bc' bs') : GW Γ l mi h MC MS Q pc lv st G bc bs := by
  subst hr
  obtain ⟨h0, mc, ms, Q', hT, hh, b1, b2, k⟩ := F
  refine g_callE hT n hn hc w1 w2 w4 w5 w6 w7 hcl hL hh ha hst hr8 hd b1 b2 fun v G' hq => ?_
  obtain ⟨q, rfl, hk⟩ := k v G' hq
  exact kk q G' _ _ hk
theorem h_callEV {y : MI} {x : MethodName} {C : String} {index count ci : Nat} {T : u_T} {N : Nat} {As rest : List Value} {r : Option Nat} {a : Nat} {K : GH → Nat → Nat → Prop} (F : cV Γ l h y (.ref a :: As) G bc bs K) (n : Nat) (hn : As.length = n) (hc : vwCl[ci]? = some (C, T, N)) (w1 : Cond.methodLink mi.1.cls index x ∈ lw_all) (w2 : (C, x, y.1) ∈ gFw) (w4 : (C, x, y.1) ∈ gDf) (w5 : Cond.instanceMethod y.1 ∈ lw_all) (w6 : Cond.initialized y.1.cls ∈ lw_all) (w7 : Cond.code y.1 y.2.1 y.2.2.1 y.2.2.2 ∈ lw_all) (hcl : x.cls ≠ "java/lang/invoke/MethodHandle" ∧ x.cls ≠ "java/lang/invoke/VarHandle" ∧ (parseMethodDescriptor x.desc).map (fun d => d.parameters.length) = some n) (hL : y.2.2.1 ≤ 45) (hr : r = some a) (ha : gC G a = kO ci)
    (hst : st = As.reverse ++ va_rf r :: rest) (hr8 : (rest.map fun v => v.category).sum ≤ 8) (hd : decode mi.2.1 pc = .ok (.invokeinterface index count, 5)) (kk : ∀ G' bc' bs', K G' bc' bs' → GW Γ l mi h MC MS Q (pc + 5) lv rest G' bc' bs') : GW Γ l mi h MC MS Q pc lv st G bc bs := by
  subst hr
  obtain ⟨h0, mc, ms, Q', hT, hh, b1, b2, k⟩ := F
  refine g_callE hT n hn hc w1 w2 w4 w5 w6 w7 hcl hL hh ha hst hr8 hd b1 b2 fun v G' hq => ?_
  obtain ⟨rfl, hk⟩ := k v G' hq
  exact kk G' _ _ hk
theorem h_callPI {y : MI} {C : String} {index ci : Nat} {T : u_T} {N : Nat} {As rest : List Value} {r : Option Nat} {a : Nat} {K : Int32 → GH → Nat → Nat → Prop} (F : cI Γ l h y (.ref a :: As) G bc bs K) (n : Nat) (hn : As.length = n) (hc : vwCl[ci]? = some (C, T, N)) (w1 : Cond.methodLink mi.1.cls index y.1 ∈ lw_all) (w2 : Cond.sameMethod y.1.cls y.1.cls y.1.name y.1.desc ∈ lw_all) (w3 : Cond.superclass mi.1.cls y.1.cls ∈ lw_all) (w5 : Cond.instanceMethod y.1 ∈ lw_all) (w6 : Cond.initialized y.1.cls ∈ lw_all) (w7 : Cond.code y.1 y.2.1 y.2.2.1 y.2.2.2 ∈ lw_all) (hno : y.1.name ≠ "<init>") (hcl : (parseMethodDescriptor y.1.desc).map (fun d => d.parameters.length) = some n) (hL : y.2.2.1 ≤ 45) (hr : r = some a) (ha : gC G a = kO ci)
    (hst : st = As.reverse ++ va_rf r :: rest) (hr8 : (rest.map fun v => v.category).sum ≤ 8) (hd : decode mi.2.1 pc = .ok (.invokespecial index, 3)) (kk : ∀ q G' bc' bs', K q G' bc' bs' → GW Γ l mi h MC MS Q (pc + 3) lv (.int q :: rest) G' bc' bs') : GW Γ l mi h MC MS Q pc lv st G bc bs := by
  subst hr
  obtain ⟨h0, mc, ms, Q', hT, hh, b1, b2, k⟩ := F
  refine g_callP hT n hn hc w1 w2 w3 w5 w6 w7 hno hcl hL hh ha hst hr8 hd b1 b2 fun v G' hq => ?_
  obtain ⟨q, rfl, hk⟩ := k v G' hq
  exact kk q G' _ _ hk
theorem h_callPR {y : MI} {C : String} {index ci : Nat} {T : u_T} {N : Nat} {As rest : List Value} {r : Option Nat} {a : Nat} {K : Option Nat → GH → Nat → Nat → Prop} (F : cR Γ l h y (.ref a :: As) G bc bs K) (n : Nat) (hn : As.length = n) (hc : vwCl[ci]? = some (C, T, N)) (w1 : Cond.methodLink mi.1.cls index y.1 ∈ lw_all) (w2 : Cond.sameMethod y.1.cls y.1.cls y.1.name y.1.desc ∈ lw_all) (w3 : Cond.superclass mi.1.cls y.1.cls ∈ lw_all) (w5 : Cond.instanceMethod y.1 ∈ lw_all) (w6 : Cond.initialized y.1.cls ∈ lw_all) (w7 : Cond.code y.1 y.2.1 y.2.2.1 y.2.2.2 ∈ lw_all) (hno : y.1.name ≠ "<init>") (hcl : (parseMethodDescriptor y.1.desc).map (fun d => d.parameters.length) = some n) (hL : y.2.2.1 ≤ 45) (hr : r = some a) (ha : gC G a = kO ci)
    (hst : st = As.reverse ++ va_rf r :: rest) (hr8 : (rest.map fun v => v.category).sum ≤ 8) (hd : decode mi.2.1 pc = .ok (.invokespecial index, 3)) (kk : ∀ q G' bc' bs', K q G' bc' bs' → GW Γ l mi h MC MS Q (pc + 3) lv (va_rf q :: rest) G' bc' bs') : GW Γ l mi h MC MS Q pc lv st G bc bs := by
  subst hr
  obtain ⟨h0, mc, ms, Q', hT, hh, b1, b2, k⟩ := F
  refine g_callP hT n hn hc w1 w2 w3 w5 w6 w7 hno hcl hL hh ha hst hr8 hd b1 b2 fun v G' hq => ?_
  obtain ⟨q, rfl, hk⟩ := k v G' hq
  exact kk q G' _ _ hk
theorem h_callPV {y : MI} {C : String} {index ci : Nat} {T : u_T} {N : Nat} {As rest : List Value} {r : Option Nat} {a : Nat} {K : GH → Nat → Nat → Prop} (F : cV Γ l h y (.ref a :: As) G bc bs K) (n : Nat) (hn : As.length = n) (hc : vwCl[ci]? = some (C, T, N)) (w1 : Cond.methodLink mi.1.cls index y.1 ∈ lw_all) (w2 : Cond.sameMethod y.1.cls y.1.cls y.1.name y.1.desc ∈ lw_all) (w3 : Cond.superclass mi.1.cls y.1.cls ∈ lw_all) (w5 : Cond.instanceMethod y.1 ∈ lw_all) (w6 : Cond.initialized y.1.cls ∈ lw_all) (w7 : Cond.code y.1 y.2.1 y.2.2.1 y.2.2.2 ∈ lw_all) (hno : y.1.name ≠ "<init>") (hcl : (parseMethodDescriptor y.1.desc).map (fun d => d.parameters.length) = some n) (hL : y.2.2.1 ≤ 45) (hr : r = some a) (ha : gC G a = kO ci)
    (hst : st = As.reverse ++ va_rf r :: rest) (hr8 : (rest.map fun v => v.category).sum ≤ 8) (hd : decode mi.2.1 pc = .ok (.invokespecial index, 3)) (kk : ∀ G' bc' bs', K G' bc' bs' → GW Γ l mi h MC MS Q (pc + 3) lv rest G' bc' bs') : GW Γ l mi h MC MS Q pc lv st G bc bs := by
  subst hr
  obtain ⟨h0, mc, ms, Q', hT, hh, b1, b2, k⟩ := F
  refine g_callP hT n hn hc w1 w2 w3 w5 w6 w7 hno hcl hL hh ha hst hr8 hd b1 b2 fun v G' hq => ?_
  obtain ⟨rfl, hk⟩ := k v G' hq
  exact kk G' _ _ hk
end R5ROWS
