/-! casts, tests, interface calls, inherited and default methods, arrays of references -/
set_option maxRecDepth 100000
/-- the class numbered ci may stand for nm -/
def okK (ci : Nat) (nm : String) : Prop := (gcl ci).1 = nm ∨ ((gcl ci).1, nm) ∈ gNC
def okCast (G : GH) (r : Option Nat) (nm : String) : Prop := r = none ∨ ∃ a ci, r = some a ∧ gC G a = kO ci ∧ ci < 17 ∧ okK ci nm
def okInst (G : GH) (r : Option Nat) (nm : String) (b : Int32) : Prop := (r = none ∧ b = 0) ∨ ∃ a ci, r = some a ∧ gC G a = kO ci ∧ ci < 17 ∧ ((okK ci nm ∧ b = 1) ∨ (((gcl ci).1, nm) ∈ gNN ∧ b = 0))
def gel (t : Nat) : String := match t with
  | 4 => "java/lang/Object" | 5 => "CrewPairer$State" | 6 => "java/lang/String" | _ => "java/util/HashMap$Node"
def okS (G : GH) (t : Nat) (r : Option Nat) : Prop := okCast G r (gel t)
theorem vwCl_at {ci : Nat} (h : ci < 17) : vwCl[ci]? = some (gcl ci) := by
  unfold gcl
  rw [List.getD_eq_getElem?_getD, List.getElem?_eq_getElem (show ci < vwCl.length from h)]
  rfl
section RROWS
variable {Γ : GE} {l : Launch} {mi : MI} {h MC MS : Nat} {Q : Option Value → GH → Prop} {pc : Nat} {lv : List (Nat × Value)} {st : List Value} {G : GH} {bc bs : Nat}
theorem gAsg {s : State} {ci : Nat} {nm : String} (hK : gK Γ s) (hci : ci < 17) (ho : okK ci nm) : ∀ comp c0 : ClassId, s.vm.findClass nm = some comp → s.vm.findClass (gcl ci).1 = some c0 → s.vm.assignable c0 comp = true := by
  intro comp c0 h1 h2
  rcases ho with e | e
  · subst e
    have e2 : comp = c0 := Option.some.inj (h1.symm.trans h2)
    subst e2
    have hcls := (hK.1.1 ci _ (vwCl_at hci)).2
    have e3 : comp = Γ.1.1 ci := Option.some.inj (h1.symm.trans hcls.1)
    subst e3
    exact va_assign hcls
  · obtain ⟨c3, t3, w1, w2, w3⟩ := Cond.castable_spec (hK.2.2.2.1 _ e)
    cases h2.symm.trans w1
    cases h1.symm.trans w2
    exact w3
theorem h_castO {nm : String} {index : Nat} {r : Option Nat} (hw : Cond.classLink mi.1.cls index nm ∈ lw_all) (ho : okCast G r nm) (hd : decode mi.2.1 pc = .ok (.checkcast index, 3)) (kk : GW Γ l mi h MC MS Q (pc + 3) lv (va_rf r :: st) G bc bs) : GW Γ l mi h MC MS Q pc lv (va_rf r :: st) G bc bs := by
  intro p e R s m args below meth c H locs cells slots ls X hS hG hls h1 h2
  have K := kk p e R s m args below meth c H locs cells slots ls X hS hG hls h1 h2
  obtain ⟨hx, hb, hml, hr, hlk, hnm, hts, hown, hK, hZ, -⟩ := X
  rcases ho with rfl | ⟨a, ci, rfl, ha, hci, hk⟩
  · exact lv_castN hx hb hd K
  · have hrc := hG.recv hK (vwCl_at hci) ha
    rcases hk with hk | hk
    · subst hk
      exact va_castS hx hb hown (hts _ hw) (hK.1.1 ci _ (vwCl_at hci)).2 hrc hd K
    · exact va_castY hx hb hown (hts _ hw) (hK.2.2.2.1 _ hk) hrc hd K
theorem h_inst {nm : String} {index : Nat} {r : Option Nat} {b : Int32} (hw : Cond.classLink mi.1.cls index nm ∈ lw_all) (ho : okInst G r nm b) (hd : decode mi.2.1 pc = .ok (.instanceof index, 3)) (kk : GW Γ l mi h MC MS Q (pc + 3) lv (.int b :: st) G bc bs) : GW Γ l mi h MC MS Q pc lv (va_rf r :: st) G bc bs := by
  intro p e R s m args below meth c H locs cells slots ls X hS hG hls h1 h2
  have K := kk p e R s m args below meth c H locs cells slots ls X hS hG hls h1 h2
  obtain ⟨hx, hb, hml, hr, hlk, hnm, hts, hown, hK, hZ, -⟩ := X
  rcases ho with ⟨rfl, rfl⟩ | ⟨a, ci, rfl, ha, hci, hk⟩
  · exact lv_instN hx hb hd K
  · have hrc := hG.recv hK (vwCl_at hci) ha
    rcases hk with ⟨hk | hk, rfl⟩ | ⟨hk, rfl⟩
    · subst hk
      exact va_instS hx hb hown (hts _ hw) (hK.1.1 ci _ (vwCl_at hci)).2 hrc hd K
    · exact va_instY hx hb hown (hts _ hw) (hK.2.2.2.1 _ hk) hrc hd K
    · exact va_instNo hx hb hown (hts _ hw) (hK.2.2.2.2.1 _ hk) hrc hd K
/-- checkcast of an array of ours -/
theorem h_castA {nm : String} {index : Nat} {r : Option Nat} {a : Nat} (t : Nat) (hw : Cond.classLink mi.1.cls index nm ∈ lw_all) (ht : t < 8) (hnm : nm = "[" ++ (gtyq t).toString) (hr : r = some a) (ha : gC G a = kA t) (hm : gM G a = true) (hd : decode mi.2.1 pc = .ok (.checkcast index, 3)) (kk : GW Γ l mi h MC MS Q (pc + 3) lv (va_rf r :: st) G bc bs) : GW Γ l mi h MC MS Q pc lv (va_rf r :: st) G bc bs := by
  subst hr
  intro p e R s m args below meth c H locs cells slots ls X hS hG hls h1 h2
  have K := kk p e R s m args below meth c H locs cells slots ls X hS hG hls h1 h2
  obtain ⟨hx, hb, hml, hr, hlk, hnm', hts, hown, hK, hZ, -⟩ := X
  obtain ⟨ws, k0, hP, hk0⟩ := hG.read (by rw [ha]; exact kA_ne0 t) hm
  have hra := (hK.1.2 t _ (gtys_at t ht)).2
  have hf : s.vm.findClass nm = some (Γ.2.2.1 t) := by
    rw [hnm]
    rcases (show t = 0 ∨ t = 1 ∨ t = 2 ∨ t = 3 ∨ t = 4 ∨ t = 5 ∨ t = 6 ∨ t = 7 by omega) with rfl | rfl | rfl | rfl | rfl | rfl | rfl | rfl
    · exact hra
    · exact hra
    · exact hra
    · exact hra
    · exact hra.choose_spec.choose_spec.2.2.2
    · exact hra.choose_spec.choose_spec.2.2.2
    · exact hra.choose_spec.choose_spec.2.2.2
    · exact hra.choose_spec.choose_spec.2.2.2
  by_cases h4 : t < 4
  · rw [gent_Ai ha h4] at hk0
    exact va_castA hx hb hown (hts _ hw) hP k0 hk0 hf hd K
  · rw [gent_Ar ha (by omega)] at hk0
    exact va_castA hx hb hown (hts _ hw) hP k0 hk0 hf hd K
theorem va_up_sR {a k : Nat} {x : Option Nat} : va_up (gR G a) k x = gR (sR G a k x) a := by
  funext j
  rw [gR_sR]
  unfold va_up
  by_cases hj : j = k
  · rw [if_pos hj, if_pos ⟨rfl, hj⟩]
  · rw [if_neg hj, if_neg (fun z => hj z.2)]
theorem gtyq_obj {t : Nat} (h4 : 4 ≤ t) (h8 : t < 8) : gtyq t = .object (gel t) := by
  rcases (show t = 4 ∨ t = 5 ∨ t = 6 ∨ t = 7 by omega) with rfl | rfl | rfl | rfl <;> rfl
theorem h_aast {r : Option Nat} {a : Nat} {i : Int32} {v : Option Nat} (t : Nat) (hr : r = some a) (ha : gC G a = kA t) (h4 : 4 ≤ t) (h8 : t < 8) (hm : gM G a = true) (hin : vp_in i (gL G a)) (ho : okS G t v) (hd : decode mi.2.1 pc = .ok (.aastore, 1)) (kk : GW Γ l mi h MC MS Q (pc + 1) lv st (sR G a i.toNatClampNeg v) bc bs) : GW Γ l mi h MC MS Q pc lv (va_rf v :: .int i :: va_rf r :: st) G bc bs := by
  subst hr
  intro p e R s m args below meth c H locs cells slots ls X hS hG hls h1 h2
  have K := fun H1 locs1 hS1 hG1 => kk p e R s m args below meth c H1 locs1 cells slots ls X hS1 hG1 hls h1 h2
  obtain ⟨hx, hb, hml, hr, hlk, hnm, hts, hown, hK, hZ, -, -, -, -, hbase⟩ := X
  have hGG := hG
  obtain ⟨hbs, ⟨ws, hP, hD, w1, w2⟩, hcst⟩ := hG
  obtain ⟨k0, hk0⟩ := List.getElem?_of_mem (w1 a (by rw [ha]; exact kA_ne0 t) hm)
  have hk1 := hk0
  rw [gent_Ar ha h4] at hk0
  have ht := gtys_at (Γ := Γ) t h8
  rw [gtyq_obj h4 h8] at ht
  have fin : ∀ (H1 : Heap) (locs1 : List Loc), va_P Γ.1 vwCl (ws.set k0 (a, .inl (Γ.2.2.1 t, gL G a, .inr (.inr (.inr (.inr (va_up (gR G a) i.toNatClampNeg v))))))) H1 → va_S (gA Γ) s.heap H1 locs1 → W p l e R s m args below meth c H1 locs1 cells slots (MQ below (gQ Γ Q) args s MC MS (gA Γ)) (F0 m (pc + 1) ls st) := by
    intro H1 locs1 hP1 hS1
    refine K H1 locs1 hS1 (gH_put (Nat.le_trans hbase hS1.1) hGG hP hD w1 w2 hk1 hP1 (gS_keep hbase hS hS1) rfl rfl rfl ?_ sR_other)
    rw [gent_Ar (G := sR G a i.toNatClampNeg _) (t := t) ha h4, va_up_sR]
    rfl
  rcases ho with rfl | ⟨b, ci, rfl, hb1, hci, hk⟩
  · exact va_astqN hx hb hK.1 hP hD hS k0 t hk0 ht hin hd fun H1 locs1 hP1 _ hS1 => fin H1 locs1 hP1 hS1
  · obtain ⟨cell, c1, c2, c3⟩ := hGG.recv hK (vwCl_at hci) hb1
    obtain ⟨kC, hkC, -⟩ := Vm.findClass_spec c3
    exact va_astqM hx hb hK.1 hP hD hS k0 t hk0 ht ⟨cell, c1, c2, ⟨kC, hkC⟩, fun comp hcp => gAsg hK hci hk comp _ hcp c3⟩ hin hd fun H1 locs1 hP1 _ hS1 => fin H1 locs1 hP1 hS1
theorem h_newq {index : Nat} {n : Int32} (t N : Nat) (h4 : 4 ≤ t) (h8 : t < 8) (hw : Cond.classLink mi.1.cls index (gel t) ∈ lw_all) (hao : gel t ∈ gAO) (hn : ¬ n < 0) (hN : n.toNatClampNeg = N) (hby : N * 4 ≤ 536870912) (hb1 : 1 ≤ bc) (hb2 : N ≤ bs) (hd : decode mi.2.1 pc = .ok (.anewarray index, 3))
    (kk : ∀ q, gC G q = 0 → gA Γ q → GW Γ l mi h MC MS Q (pc + 3) lv (va_rf (some q) :: st) (nA G q t N) (bc - 1) (bs - N)) : GW Γ l mi h MC MS Q pc lv (.int n :: st) G bc bs := by
  intro p e R s m args below meth c H locs cells slots ls X hS hG hls h1 h2
  have K := fun q z1 z2 H1 hS1 hG1 => kk q z1 z2 p e R s m args below meth c H1 locs (cells + 1) (slots + N) ls X hS1 hG1 hls (by omega) (by omega)
  obtain ⟨hx, hb, hml, hr, hlk, hnm, hts, hown, hK, hZ, hf1, hf2, hf3, hf4, hbase⟩ := X
  have hGG := hG
  obtain ⟨hbs, ⟨ws, hP, hD, g1, g2⟩, hcst⟩ := hG
  refine va_newq hx hb hown (hts _ hw) (hK.2.2.2.2.2.1 _ hao) hK.1 hP hD hS (fun q hq => Nat.le_trans hbase hq) hn hN hby (by omega) (by omega) hd (fun q cA H1 hK1 hP1 hD1 hS1 => ?_)
  have hcA : cA = Γ.2.2.1 t := by
    have r1 := (hK1.2 8 (cA, .object (gel t)) (by rw [List.getElem?_append_right (by unfold gtys; simp), show (8 : Nat) - (gtys Γ).length = 0 by unfold gtys; simp]; rfl)).2
    have r2 := (hK.1.2 t _ (gtys_at t h8)).2
    rw [gtyq_obj h4 h8] at r2
    obtain ⟨_, _, -, -, -, r3⟩ := r1
    obtain ⟨_, _, -, -, -, r4⟩ := r2
    exact Option.some.inj (r3.symm.trans r4)
  subst hcA
  obtain ⟨z1, z2⟩ := hGG.fresh g1 hD1
  refine K q z1 z2 H1 hS1 (gH_new (Nat.le_trans hbase hS1.1) hGG g1 g2 hP1 hD1 (gS_keep hbase hS hS1) (by rw [gM_nA, if_pos rfl]) (by rw [gC_nA, if_pos rfl]; exact kA_ne0 t) ?_ (fun x hx => ⟨by rw [gC_nA, if_neg hx], by rw [gL_nA, if_neg hx], by rw [gM_nA, if_neg hx], fun j => by rw [gI_nA, if_neg hx], fun j => by rw [gR_nA, if_neg hx], fun j => by rw [gF_nA, if_neg hx]⟩))
  rw [gent_Ar (t := t) (by rw [gC_nA, if_pos rfl]) h4, gL_nA, if_pos rfl]
  have e0 : gR (nA G q t N) q = fun _ => none := by
    funext j
    rw [gR_nA, if_pos rfl]
  rw [e0]
/-- a nest mate's private field is written -/
theorem h_putIN {C ref host : String} {T : u_T} {N index : Nat} {tyN : Nat → FieldType} {v : Int32} (ci k : Nat) (hc : vwCl[ci]? = some (C, T, N)) (hin : ∀ w ∈ u_ws C T N, w ∈ lw_all) (htyN : ∀ k, k < N → parseFieldDescriptor (T k).2.2.1 = some (tyN k)) (hnmN : ∀ a, a < N → ∀ b, b < N → a ≠ b → (T a).2.1 ≠ (T b).2.1) (hk : k < N) (hlink : (mi.1.cls, index, ref, (T k).2.1, (T k).2.2.1, host) ∈ gNF) (hsame : (T k).1 = ref) (hfin : (T k).2.2.2 = false)
    (hty : tyInt (gcty ci k) = true) {r : Option Nat} {a : Nat} (hr : r = some a) (ha : gC G a = kO ci) (hm : gM G a = true) (hn : narrow (tyN k) (.int v) = .int v) (hfit : fits (tyN k) (.int v) = true) (hd : decode mi.2.1 pc = .ok (.putfield index, 3)) (kk : GW Γ l mi h MC MS Q (pc + 3) lv st (sI G a k v) bc bs) : GW Γ l mi h MC MS Q pc lv (.int v :: va_rf r :: st) G bc bs := by
  subst hr
  intro p e R s m args below meth c H locs cells slots ls X hS hG hls h1 h2
  have K := fun H1 locs1 hS1 hG1 => kk p e R s m args below meth c H1 locs1 cells slots ls X hS1 hG1 hls h1 h2
  obtain ⟨hx, hb, hml, hr, hlk, hnm, hts, hown, hK, hZ, -, -, -, -, hbase⟩ := X
  have hgc : gcl ci = (C, T, N) := by unfold gcl; rw [List.getD_eq_getElem?_getD, hc]; rfl
  have hk' : k < (gcl ci).2.2 := by rw [hgc]; exact hk
  have hGG := hG
  obtain ⟨hbs, ⟨ws, hP, hD, w1, w2⟩, hcst⟩ := hG
  obtain ⟨k0, hk0⟩ := List.getElem?_of_mem (w1 a (by rw [ha]; exact kO_ne0 ci) hm)
  have hk1 := hk0
  rw [gent_O ha] at hk0
  refine va_putN hx hb hts hin tyN htyN hnmN hown hK.1 hP hD hS k0 hk0 hc k hk (va_Nw.use rfl (hK.2.1 _ hlink)) (fun x hx => by rw [← hsame]; exact hx) hfin (htyN k hk) hn hfit (by rw [gfs_len]; exact hk') hd fun H1 locs1 hP1 _ hS1 => ?_
  refine K H1 locs1 hS1 (gH_put (Nat.le_trans hbase hS1.1) hGG hP hD w1 w2 hk1 hP1 (gS_keep hbase hS hS1) rfl rfl rfl ?_ sI_other)
  rw [gent_O (G := sI G a k v) ha, gfs_set (G := G) (G1 := sI G a k v) (a := a) hk' (by rw [gfv_int hty, gI_sI, if_pos ⟨rfl, rfl⟩]) (fun j hj => ⟨by rw [gI_sI, if_neg (fun z => hj z.2)], rfl, rfl⟩)]
/-- a nest mate's private constructor -/
theorem g_callIN {y : MI} {index h0 mc ms : Nat} {host : String} {As rest : List Value} {a : Nat} {Q' : Option Value → GH → Prop} (hT : Tr Γ l y h0 mc ms (.ref a :: As) G Q') (n : Nat) (hn : As.length = n) (hrt : y.2.2.2 = none) (hw : GoodIn lw_all (ws_ y.1 y.2.1 y.2.2.1 y.2.2.2)) (w1 : Cond.initialized y.1.cls ∈ lw_all) (w2 : (mi.1.cls, index, y.1, host) ∈ gNM) (w3 : Cond.instanceMethod y.1 ∈ lw_all) (hy1 : y.1.name = "<init>")
    (hcl : y.1.cls ≠ "java/lang/invoke/MethodHandle" ∧ y.1.cls ≠ "java/lang/invoke/VarHandle" ∧ (parseMethodDescriptor y.1.desc).map (fun d => d.parameters.length) = some n) (hL : y.2.2.1 ≤ 45) (hh : h0 < h)
    (hst : st = As.reverse ++ .ref a :: rest) (hr8 : (rest.map fun v => v.category).sum ≤ 8) (hd : decode mi.2.1 pc = .ok (.invokespecial index, 3)) (hmc : mc ≤ bc) (hms : ms ≤ bs) (kk : ∀ v G', Q' v G' → GW Γ l mi h MC MS Q (pc + 3) lv (v.toList ++ rest) G' (bc - mc) (bs - ms)) : GW Γ l mi h MC MS Q pc lv st G bc bs := by
  refine GW.ofRun (mc := mc) (ms := ms) (rest := rest) (Q' := Q') (av := (.ref a :: As).toArray) ?_ hmc hms kk
  intro p e R s m args below meth c H locs cells slots ls X hS hG hls h1 h2
  obtain ⟨hx, hb, hml, hr, hlk, hnm, hts, hown, hK, hZ, hf1, hf2, hf3, hf4, hbase⟩ := X
  unfold Tr at hT
  rw [hrt] at hT hw
  exact va_runIN (As := As) (rest := rest) ⟨hx, hb, hml, hown, hts⟩ hT ⟨va_cnB n hts hw rfl rfl rfl (hK.2.2.1 _ w2) (hts _ w1) hcl (room_call hh hL hf1 hf2), hy1, hts _ w3⟩ ⟨gP_blind, fun U hU hW => ⟨rfl, gP_of hK hZ hS hG hU hW⟩⟩ rfl hn hls.1 hst (lv_room hr8) hd ⟨by omega, by omega⟩
theorem h_callINV {y : MI} {index : Nat} {host : String} {As rest : List Value} {r : Option Nat} {a : Nat} {K : GH → Nat → Nat → Prop} (F : cV Γ l h y (.ref a :: As) G bc bs K) (n : Nat) (hn : As.length = n) (hrt : y.2.2.2 = none) (hw : GoodIn lw_all (ws_ y.1 y.2.1 y.2.2.1 y.2.2.2)) (w1 : Cond.initialized y.1.cls ∈ lw_all) (w2 : (mi.1.cls, index, y.1, host) ∈ gNM) (w3 : Cond.instanceMethod y.1 ∈ lw_all) (hy1 : y.1.name = "<init>")
    (hcl : y.1.cls ≠ "java/lang/invoke/MethodHandle" ∧ y.1.cls ≠ "java/lang/invoke/VarHandle" ∧ (parseMethodDescriptor y.1.desc).map (fun d => d.parameters.length) = some n) (hL : y.2.2.1 ≤ 45) (hr : r = some a)
    (hst : st = As.reverse ++ va_rf r :: rest) (hr8 : (rest.map fun v => v.category).sum ≤ 8) (hd : decode mi.2.1 pc = .ok (.invokespecial index, 3)) (kk : ∀ G' bc' bs', K G' bc' bs' → GW Γ l mi h MC MS Q (pc + 3) lv rest G' bc' bs') : GW Γ l mi h MC MS Q pc lv st G bc bs := by
  subst hr
  obtain ⟨h0, mc, ms, Q', hT, hh, b1, b2, k⟩ := F
  refine g_callIN hT n hn hrt hw w1 w2 w3 hy1 hcl hL hh hst hr8 hd b1 b2 fun v G' hq => ?_
  obtain ⟨rfl, hk⟩ := k v G' hq
  exact kk G' _ _ hk
end RROWS
