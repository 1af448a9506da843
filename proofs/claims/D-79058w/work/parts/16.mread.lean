/-! M's contracts: reading -/
set_option maxRecDepth 100000
theorem Met.ofWF {l : Launch} {y : MethodName} {ws ws' : List Cond} {rm : Room} {Pc : Array Value → State → Prop} {Qc : Array Value → State → Outcome → State → Prop} {mc ms : Nat} {free : Addr → Prop} {cc : ByteArray} {maxL : Nat} {ret : Option FieldType}
    (hy : plainFor y = true) (hw : ws = Cond.code y cc maxL ret :: ws')
    (body : ∀ p e s m args below meth c s₁, BodyLoose p l y (headSpec ws rm) cc maxL ret e s m args below meth c s₁ → c.maxLocals = maxL → Pc args s →
      W p l e (headSpec ws rm).room s m args below meth c s.heap [] 0 0 (MQ below Qc args s mc ms free) (entryFrame m args maxL)) : Met l y ws rm Pc Qc mc ms free := by
  refine MetFree.of_bodySF (code := cc) (maxLocals := maxL) (ret := ret) hy ?_ ?_
  · intro args s m h hn
    obtain ⟨meth, c, h1, h2, h3, h4, h5, h6, -, -⟩ := Cond.code_spec hn (atoms_spec (ws := ws) h _ (by rw [hw]; exact List.mem_cons_self))
    exact ⟨meth, c, h1, h2, h3, h4, h5, h6⟩
  · intro p e s m args below meth c s₁ B hml hP _
    have hh0 : s₁.heap = s.heap := by rw [B.state]; rfl
    obtain ⟨t, a1, o, b1, b2, b3⟩ := body p e s m args below meth c s₁ B hml hP s₁ hh0 (Stand.of_body B)
    exact ⟨t, o, a1, b1, b2, ⟨b3.1, b3.2⟩⟩
/-- as Tr.intro: a class of which some methods are run by the machine itself, this one not -/
theorem Tr.introF {Γ : GE} {l : Launch} {mi : MI} {h mc ms : Nat} {av : List Value} {G : GH} {Q : Option Value → GH → Prop} (hy : plainFor mi.1 = true) (hn : (lg_sl av).length ≤ mi.2.2.1) (k : GW Γ l mi h mc ms Q 0 (lv_args 0 av) [] G mc ms) : Tr Γ l mi h mc ms av G Q := by
  refine Met.ofWF (cc := mi.2.1) (maxL := mi.2.2.1) (ret := mi.2.2.2) hy rfl ?_
  intro p e s m args below meth c s₁ B hml hv
  obtain ⟨rfl, hK, hZ, hG⟩ := hv
  have hts := atoms_spec (ws := ws_ mi.1 mi.2.1 mi.2.2.1 mi.2.2.2) B.pre
  have hts : ∀ w ∈ lw_all, w.before _ s = true := fun w h => hts w (List.mem_cons_of_mem _ h)
  have hl := lv_entry av (n := mi.2.2.1) hn
  rw [lg_entry_eq]
  exact k p e _ s m _ below meth c s.heap [] 0 0 _ ⟨B.exec, B.bytes, hml, B.returns, B.notSynchronized, (name_of_methodNamed B.named B.method).1, hts, findClass_of_methodNamed B.named, hK, hZ, Nat.le_refl _, Nat.le_refl _, rfl, rfl, hG.1⟩ va_S.rf hG hl (by omega) (by omega)
theorem t_max {Γ : GE} {l : Launch} {G : GH} (a b : Int32) : TrI Γ l mJ7_max 1 0 0 [.int a, .int b] G (fun r G' => r = iMax a b ∧ G' = G) := by
  refine Tr.introF (by decide +kernel) (Nat.le_of_ble_eq_true rfl) ?_
  refine rJ7_max_0 a b ⟨fun h => ⟨_, rfl, ?_, rfl⟩, fun h => ⟨_, rfl, ?_, rfl⟩⟩
  · unfold iMax; rw [if_pos h]
  · unfold iMax; rw [if_neg h]
theorem t_min {Γ : GE} {l : Launch} {G : GH} (a b : Int32) : TrI Γ l mJ7_min 1 0 0 [.int a, .int b] G (fun r G' => r = iMin a b ∧ G' = G) := by
  refine Tr.introF (by decide +kernel) (Nat.le_of_ble_eq_true rfl) ?_
  refine rJ7_min_0 a b ⟨fun h => ⟨_, rfl, ?_, rfl⟩, fun h => ⟨_, rfl, ?_, rfl⟩⟩
  · unfold iMin; rw [if_pos h]
  · unfold iMin; rw [if_neg h]
theorem t_in {Γ : GE} {l : Launch} {G : GH} (v a b : Int32) : TrI Γ l mX2_in 1 0 0 [.int v, .int a, .int b] G (fun r G' => r = bI (pIn v a b) ∧ G' = G) := by
  refine Tr.intro (by decide +kernel) (Nat.le_of_ble_eq_true rfl) ?_
  refine rX2_in_0 v a b ⟨fun h => ⟨_, rfl, ?_, rfl⟩, fun h => ⟨fun h2 => ⟨_, rfl, ?_, rfl⟩, fun h2 => ⟨_, rfl, ?_, rfl⟩⟩⟩
  · simp [bI, pIn, h]
  · simp [bI, pIn, h2]
  · simp [bI, pIn, h, h2]
section MRL
variable {σ : Nat → Int32} {A : AS}
theorem MR.nl (h : MR σ A) : σ 0 = nI (aN A) := h.2.2.1
theorem MR.nc (h : MR σ A) : σ 1 = nI (aC A).length := h.2.2.2.1
theorem MR.ru (h : MR σ A) (r : Nat) (hr : r < 8) : σ (2 + r) = aR A r := h.2.2.2.2.1 r hr
theorem MR.lg (h : MR σ A) (i f : Nat) (hi : i < aN A) (hf : f < 5) : σ (10 + (5 * i + f)) = aL A i f := h.2.2.2.2.2.1 i f hi hf
theorem MR.crew (h : MR σ A) (c : Nat) (hc : c < (aC A).length) : MC σ (130 + 28 * c) (cw A c) := h.2.2.2.2.2.2 c hc
theorem MR.b (h : MR σ A) (c : Nat) (hc : c < (aC A).length) : σ (130 + (28 * c + 0)) = cB (cw A c) := (h.crew c hc).1
theorem MR.s (h : MR σ A) (c : Nat) (hc : c < (aC A).length) : σ (130 + (28 * c + 1)) = cS (cw A c) := by rw [← Nat.add_assoc]; exact (h.crew c hc).2.1
theorem MR.e (h : MR σ A) (c : Nat) (hc : c < (aC A).length) : σ (130 + (28 * c + 2)) = cE (cw A c) := by rw [← Nat.add_assoc]; exact (h.crew c hc).2.2.1
theorem MR.n (h : MR σ A) (c : Nat) (hc : c < (aC A).length) : σ (130 + (28 * c + 3)) = nI (cT (cw A c)).length := by rw [← Nat.add_assoc]; exact (h.crew c hc).2.2.2.1
theorem MR.i (h : MR σ A) (c : Nat) (hc : c < (aC A).length) (i : Nat) (hi : i < (cT (cw A c)).length) : σ (130 + (28 * c + (4 + i))) = nI (2 * rl (cT (cw A c)) i + bN (rf (cT (cw A c)) i)) := by rw [← Nat.add_assoc]; exact (h.crew c hc).2.2.2.2.2 i hi
theorem MR.l24 (h : MR σ A) (c : Nat) (hc : c < (aC A).length) : (cT (cw A c)).length ≤ 24 := (h.crew c hc).2.2.2.2.1
end MRL
theorem bN_lt (b : Bool) : bN b < 2 := by cases b <;> decide
theorem code_div {n : Nat} {b : Bool} (h : n < 2 ^ 20) : nI (2 * n + bN b) / 2 = nI n := by
  have := bN_lt b
  rw [li_ 2, pk_div (by omega) (by decide) (by decide)]
  congr 1
  omega
theorem code_rem {n : Nat} {b : Bool} (h : n < 2 ^ 20) : nI (2 * n + bN b) - nI (2 * n + bN b) / 2 * 2 = bI b := by
  have := bN_lt b
  rw [li_ 2, pk_rem (by omega) (by decide) (by decide), show (2 * n + bN b) % 2 = bN b by omega]
  cases b <;> rfl
theorem bI_e1 {b : Bool} : bI b = 1 ↔ b = true := by cases b <;> simp [bI]
section MC1
variable {Γ : GE} {l : Launch} {G : GH} {x : Nat} {ma : Nat → Nat} {sc : Nat → Int32} {ar : Nat → Nat → Int32} {A : AS} {b : Int32} {r : List It} (hK : MK G x ma) (hs : MR (ar 0) A) (hw : MW sc ar b r) (hv : RV A r)
theorem t_isLeg (hK : MK G x ma) (hs : MR (ar 0) A) (p : Int32) : TrI Γ l mX2_isLeg 2 0 0 [.ref x, .int p] (mW G x ma sc ar) (fun v G' => v = bI (pIn p 0 (nI (aN A) - 1)) ∧ G' = (mW G x ma sc ar)) := by
  refine Tr.intro (by decide +kernel) (Nat.le_of_ble_eq_true rfl) ?_
  refine rX2_isLeg_0 x p ⟨hK.c, ma 0, hK.r 0 (by decide), hK.t 0 0 (by decide) rfl, hK.inb 0 (by decide) 0 rfl (by decide), ?_⟩
  refine cI.det (t_in _ _ _) (by decide) ⟨bI_n _, _, rfl, ?_, rfl⟩
  rw [hK.rd (i := 0) 0 (by decide) 0 rfl (by decide), hs.nl]
theorem t_isCrew (hK : MK G x ma) (hs : MR (ar 0) A) (p : Int32) : TrI Γ l mX2_isCrew 2 0 0 [.ref x, .int p] (mW G x ma sc ar) (fun v G' => v = bI (pIn p 0 (nI (aC A).length - 1)) ∧ G' = (mW G x ma sc ar)) := by
  refine Tr.intro (by decide +kernel) (Nat.le_of_ble_eq_true rfl) ?_
  refine rX2_isCrew_0 x p ⟨hK.c, ma 0, hK.r 0 (by decide), hK.t 0 0 (by decide) rfl, hK.inb 0 (by decide) 1 rfl (by decide), ?_⟩
  refine cI.det (t_in _ _ _) (by decide) ⟨bI_n _, _, rfl, ?_, rfl⟩
  rw [hK.rd (i := 1) 0 (by decide) 1 rfl (by decide), hs.nc]
theorem t_of (hK : MK G x ma) (hs : MR (ar 0) A) (i f : Nat) (hi : i < aN A) (hf : f < 5) : TrI Γ l mX2_of 1 0 0 [.ref x, .int (nI i), .int (nI f)] (mW G x ma sc ar) (fun v G' => v = aL A i f ∧ G' = (mW G x ma sc ar)) := by
  have h24 := hs.1
  refine Tr.intro (by decide +kernel) (Nat.le_of_ble_eq_true rfl) ?_
  have e : (10 + (5 * nI i)) + nI f = nI (10 + (5 * i + f)) := by simp only [li_, nI_add, pk_mul, nI_1, Nat.add_assoc]
  refine rX2_of_0 x _ _ ⟨hK.c, ma 0, hK.r 0 (by decide), hK.t 0 0 (by decide) rfl, hK.inb 0 (by decide) _ e (by show _ < 298; omega), _, rfl, ?_, rfl⟩
  rw [hK.rd 0 (by decide) _ e (by omega), hs.lg i f hi hf]
theorem t_ofCrew (hK : MK G x ma) (c w : Nat) (hc : c < 6) (hw : w < 28) : TrI Γ l mX2_ofCrew 1 0 0 [.ref x, .int (nI c), .int (nI w)] (mW G x ma sc ar) (fun v G' => v = ar 0 (130 + (28 * c + w)) ∧ G' = (mW G x ma sc ar)) := by
  refine Tr.intro (by decide +kernel) (Nat.le_of_ble_eq_true rfl) ?_
  have e : (130 + (28 * nI c)) + nI w = nI (130 + (28 * c + w)) := by simp only [li_, nI_add, pk_mul, nI_1, Nat.add_assoc]
  refine rX2_ofCrew_0 x _ _ ⟨hK.c, ma 0, hK.r 0 (by decide), hK.t 0 0 (by decide) rfl, hK.inb 0 (by decide) _ e (by show _ < 298; omega), _, rfl, ?_, rfl⟩
  rw [hK.rd 0 (by decide) _ e (by omega)]
theorem t_crewAt {Γ : GE} {l : Launch} {G : GH} (c w : Nat) : TrI Γ l mX2_crewAt 1 0 0 [.int (nI c), .int (nI w)] G (fun v G' => v = nI (130 + (28 * c + w)) ∧ G' = G) := by
  refine Tr.intro (by decide +kernel) (Nat.le_of_ble_eq_true rfl) ?_
  refine rX2_crewAt_0 _ _ ⟨_, rfl, ?_, rfl⟩
  simp only [li_, nI_add, pk_mul, nI_1, Nat.add_assoc]
theorem t_lengthOf (hK : MK G x ma) (hs : MR (ar 0) A) (i : Nat) (hi : i < aN A) : TrI Γ l mX2_lengthOf 2 0 0 [.ref x, .int (nI i)] (mW G x ma sc ar) (fun v G' => v = pLen A i ∧ G' = (mW G x ma sc ar)) := by
  refine Tr.intro (by decide +kernel) (Nat.le_of_ble_eq_true rfl) ?_
  refine rX2_lengthOf_0 x _ ⟨hK.c, cI.det (t_of hK hs i 3 hi (by decide)) (by decide) ⟨hK.c, cI.det (t_of hK hs i 2 hi (by decide)) (by decide) ⟨_, rfl, rfl, rfl⟩⟩⟩
theorem MW.leg (hw : MW sc ar b r) (i : Nat) (hi : i < r.length) (hl : rl r i < 2 ^ 20) : ar 7 i / 2 = nI (rl r i) := by rw [hw.2.2.2 i hi, code_div hl]
theorem RV.lt (hs : MR (ar 0) A) (hv : RV A r) (i : Nat) (hi : i < r.length) : rl r i < 2 ^ 20 := by
  have := hv i hi
  have := hs.1
  omega
theorem t_legAt (hK : MK G x ma) (hs : MR (ar 0) A) (hw : MW sc ar b r) (hv : RV A r) (i : Nat) (hi : i < r.length) : TrI Γ l mX2_legAt 1 0 0 [.ref x, .int (nI i)] (mW G x ma sc ar) (fun v G' => v = nI (rl r i) ∧ G' = (mW G x ma sc ar)) := by
  have h48 := hw.2.2.1
  refine Tr.intro (by decide +kernel) (Nat.le_of_ble_eq_true rfl) ?_
  refine rX2_legAt_0 x _ ⟨hK.c, ma 7, hK.r 7 (by decide), hK.t 7 0 (by decide) rfl, hK.inb 7 (by decide) i rfl (by show _ < 48; omega), _, rfl, ?_, rfl⟩
  rw [hK.rd 7 (by decide) i rfl (by omega), hw.leg i hi (RV.lt hs hv i hi)]
theorem t_isFlown (hK : MK G x ma) (hs : MR (ar 0) A) (hw : MW sc ar b r) (hv : RV A r) (i : Nat) (hi : i < r.length) : TrI Γ l mX2_isFlown 1 0 0 [.ref x, .int (nI i)] (mW G x ma sc ar) (fun v G' => v = bI (rf r i) ∧ G' = (mW G x ma sc ar)) := by
  have h48 := hw.2.2.1
  refine Tr.intro (by decide +kernel) (Nat.le_of_ble_eq_true rfl) ?_
  refine rX2_isFlown_0 x _ ⟨hK.c, ma 7, hK.r 7 (by decide), hK.t 7 0 (by decide) rfl, hK.inb 7 (by decide) i rfl (by show _ < 48; omega), ?_⟩
  rw [hK.rd 7 (by decide) i rfl (by omega), hw.2.2.2 i hi, code_rem (RV.lt hs hv i hi), bI_e1]
  refine ⟨fun h => ⟨_, rfl, ?_, rfl⟩, fun h => ⟨_, rfl, ?_, rfl⟩⟩
  · simp [h, bI]
  · simp [h, bI]
theorem t_gapBefore (hK : MK G x ma) (hs : MR (ar 0) A) (hw : MW sc ar b r) (hv : RV A r) (i : Nat) (hi : i < r.length) (h0 : 0 < i) : TrI Γ l mX2_gapBefore 2 0 0 [.ref x, .int (nI i)] (mW G x ma sc ar) (fun v G' => v = pGap A r i ∧ G' = (mW G x ma sc ar)) := by
  refine Tr.intro (by decide +kernel) (Nat.le_of_ble_eq_true rfl) ?_
  refine rX2_gapBefore_0 x _ ⟨hK.c, cI.det (t_legAt hK hs hw hv i hi) (by decide) ⟨hK.c, cI.det (t_of hK hs _ 2 (hv i hi) (by decide)) (by decide) ⟨hK.c, ?_⟩⟩⟩
  have e : nI i - 1 = nI (i - 1) := by rw [li_ 1, pk_sub h0]
  rw [e]
  exact cI.det (t_legAt hK hs hw hv (i - 1) (by omega)) (by decide) ⟨hK.c, cI.det (t_of hK hs _ 3 (hv _ (by omega)) (by decide)) (by decide) ⟨_, rfl, rfl, rfl⟩⟩
theorem t_beginsDuty (hK : MK G x ma) (hs : MR (ar 0) A) (hw : MW sc ar b r) (hv : RV A r) (i : Nat) (hi : i < r.length) : TrI Γ l mX2_beginsDuty 3 0 0 [.ref x, .int (nI i)] (mW G x ma sc ar) (fun v G' => v = bI (pBeg A r i) ∧ G' = (mW G x ma sc ar)) := by
  have h48 := hw.2.2.1
  refine Tr.intro (by decide +kernel) (Nat.le_of_ble_eq_true rfl) ?_
  refine rX2_beginsDuty_0 x _ ⟨fun h => ⟨_, rfl, ?_, rfl⟩, fun h => ⟨hK.c, ?_⟩⟩
  · have : i = 0 := nI_e (by omega) (by decide) h
    simp [pBeg, this, bI]
  · have h0 : 0 < i := by
      apply Nat.pos_of_ne_zero
      intro z
      exact h (by rw [z]; rfl)
    refine cI.det (t_gapBefore hK hs hw hv i hi h0) (by decide) ⟨hK.c, ma 0, hK.r 0 (by decide), hK.t 0 0 (by decide) rfl, hK.inb 0 (by decide) 3 rfl (by decide), ?_⟩
    rw [hK.rd (i := 3) 0 (by decide) 3 rfl (by decide), hs.ru 1 (by decide)]
    refine ⟨fun h2 => ⟨_, rfl, ?_, rfl⟩, fun h2 => ⟨_, rfl, ?_, rfl⟩⟩
    · simp [pBeg, Nat.ne_of_gt h0, h2, bI]
    · simp [pBeg, h2, bI]
theorem t_dutyEnd (hK : MK G x ma) (hs : MR (ar 0) A) (hw : MW sc ar b r) (hv : RV A r) (i : Nat) (hi : i < r.length) : TrI Γ l mX2_dutyEnd 4 0 0 [.ref x, .int (nI i)] (mW G x ma sc ar) (fun v G' => v = nI (pEnd A r i) ∧ G' = (mW G x ma sc ar)) := by
  have h48 := hw.2.2.1
  refine Tr.intro (by decide +kernel) (Nat.le_of_ble_eq_true rfl) ?_
  refine rX2_dutyEnd_0 x _ ?_
  rw [nI_1]
  have key : ∀ n e, e + n = r.length → GW Γ l mX2_dutyEnd 4 0 0 (fun v G' => ∃ q, v = some (.int q) ∧ q = nI (pEndF A r e n) ∧ G' = (mW G x ma sc ar)) 4 [(0, va_rf (some x)), (1, .int (nI i)), (2, .int (nI e))] [] (mW G x ma sc ar) 0 0 := by
    intro n
    induction n with
    | zero =>
      intro e he
      refine rX2_dutyEnd_4 x _ _ ⟨hK.c, ?_⟩
      rw [mW_x hK, hw.1]
      exact br_t (nI_le (by omega) (by omega)) ⟨_, rfl, rfl, rfl⟩
    | succ n ih =>
      intro e he
      refine rX2_dutyEnd_4 x _ _ ⟨hK.c, ?_⟩
      rw [mW_x hK, hw.1]
      refine br_f (nI_ge (by omega) (by omega)) ?_
      refine cI.det (t_beginsDuty hK hs hw hv e (by omega)) (by decide) ?_
      rw [bI_0]
      unfold pEndF
      refine ⟨fun h => ⟨_, rfl, ?_, rfl⟩, fun h => ?_⟩
      · rw [if_pos (by simpa using h)]
      · rw [if_neg (by simp [h]), nI_1]
        exact ih (e + 1) (by omega)
  exact key _ _ (by omega)
theorem t_dutyMinutes (hK : MK G x ma) (hs : MR (ar 0) A) (hw : MW sc ar b r) (hv : RV A r) (i : Nat) (hi : i < r.length) : TrI Γ l mX2_dutyMinutes 5 0 0 [.ref x, .int (nI i)] (mW G x ma sc ar) (fun v G' => v = pDm A r i ∧ G' = (mW G x ma sc ar)) := by
  have h48 := hw.2.2.1
  obtain ⟨g1, g2⟩ := pEnd_le A r i hi
  refine Tr.intro (by decide +kernel) (Nat.le_of_ble_eq_true rfl) ?_
  refine rX2_dutyMinutes_0 x _ ⟨hK.c, cI.det (t_dutyEnd hK hs hw hv i hi) (by decide) ⟨hK.c, ?_⟩⟩
  have e : nI (pEnd A r i) - 1 = nI (pEnd A r i - 1) := by rw [li_ 1, pk_sub (by omega)]
  rw [e]
  exact cI.det (t_legAt hK hs hw hv _ (by omega)) (by decide) ⟨hK.c, cI.det (t_of hK hs _ 3 (hv _ (by omega)) (by decide)) (by decide) ⟨hK.c, cI.det (t_legAt hK hs hw hv i hi) (by decide) ⟨hK.c, cI.det (t_of hK hs _ 2 (hv _ hi) (by decide)) (by decide) ⟨_, rfl, rfl, rfl⟩⟩⟩⟩
theorem t_flownFrom (hK : MK G x ma) (hs : MR (ar 0) A) (hw : MW sc ar b r) (hv : RV A r) (i e : Nat) (hi : i ≤ e) (he : e ≤ r.length) : TrI Γ l mX2_flownFrom 3 0 0 [.ref x, .int (nI i), .int (nI e)] (mW G x ma sc ar) (fun v G' => v = pFl A r i e ∧ G' = (mW G x ma sc ar)) := by
  have h48 := hw.2.2.1
  refine Tr.intro (by decide +kernel) (Nat.le_of_ble_eq_true rfl) ?_
  refine rX2_flownFrom_0 x _ _ ?_
  have key : ∀ n k, i + k + n = e → GW Γ l mX2_flownFrom 3 0 0 (fun v G' => ∃ q, v = some (.int q) ∧ q = pFl A r i e ∧ G' = (mW G x ma sc ar)) 5 [(0, va_rf (some x)), (1, .int (nI i)), (2, .int (nI e)), (3, .int (sumN (pFl1 A r) i k)), (4, .int (nI (i + k)))] [] (mW G x ma sc ar) 0 0 := by
    intro n
    induction n with
    | zero =>
      intro k hk
      refine rX2_flownFrom_5 x _ _ _ _ ?_
      refine br_t (nI_le (by omega) (by omega)) ⟨_, rfl, ?_, rfl⟩
      unfold pFl
      rw [show e - i = k by omega]
    | succ n ih =>
      intro k hk
      refine rX2_flownFrom_5 x _ _ _ _ ?_
      refine br_f (nI_ge (by omega) (by omega)) ⟨hK.c, ?_⟩
      refine cI.det (t_isFlown hK hs hw hv (i + k) (by omega)) (by decide) ?_
      rw [bI_0, nI_1]
      have ih := ih (k + 1) (by omega)
      rw [sumN_succ, show i + (k + 1) = i + k + 1 by omega] at ih
      refine ⟨fun h => ?_, fun h => ⟨hK.c, cI.det (t_legAt hK hs hw hv _ (by omega)) (by decide) ⟨hK.c, cI.det (t_lengthOf hK hs _ (hv _ (by omega))) (by decide) ?_⟩⟩⟩
      · rw [show pFl1 A r (i + k) = 0 by simp [pFl1, h]] at ih
        exact ih
      · rw [show pFl1 A r (i + k) = pLen A (rl r (i + k)) by simp at h; simp [pFl1, h]] at ih
        exact ih
  exact key (e - i) 0 (by omega)
theorem t_flownWithin (hK : MK G x ma) (hs : MR (ar 0) A) (hw : MW sc ar b r) (hv : RV A r) (st ln : Int32) : TrI Γ l mX2_flownWithin 3 0 0 [.ref x, .int st, .int ln] (mW G x ma sc ar) (fun v G' => v = pWi A r st ln ∧ G' = (mW G x ma sc ar)) := by
  have h48 := hw.2.2.1
  refine Tr.intro (by decide +kernel) (Nat.le_of_ble_eq_true rfl) ?_
  refine rX2_flownWithin_0 x _ _ ?_
  have key : ∀ n k, k + n = r.length → GW Γ l mX2_flownWithin 3 0 0 (fun v G' => ∃ q, v = some (.int q) ∧ q = pWi A r st ln ∧ G' = (mW G x ma sc ar)) 5 [(0, va_rf (some x)), (1, .int st), (2, .int ln), (3, .int (sumN (pWi1 A r st ln) 0 k)), (4, .int (nI k))] [] (mW G x ma sc ar) 0 0 := by
    intro n
    induction n with
    | zero =>
      intro k hk
      refine rX2_flownWithin_5 x _ _ _ _ ⟨hK.c, ?_⟩
      rw [mW_x hK, hw.1]
      refine br_t (nI_le (by omega) (by omega)) ⟨_, rfl, ?_, rfl⟩
      unfold pWi
      rw [show r.length = k by omega]
    | succ n ih =>
      intro k hk
      refine rX2_flownWithin_5 x _ _ _ _ ⟨hK.c, ?_⟩
      rw [mW_x hK, hw.1]
      refine br_f (nI_ge (by omega) (by omega)) ?_
      have ih := ih (k + 1) (by omega)
      rw [sumN_succ, Nat.zero_add] at ih
      refine cI.det (t_legAt hK hs hw hv k (by omega)) (by decide) ⟨hK.c, cI.det (t_of hK hs _ 2 (hv _ (by omega)) (by decide)) (by decide) ?_⟩
      refine cI.det (t_max _ _) (by decide) ⟨hK.c, cI.det (t_legAt hK hs hw hv k (by omega)) (by decide) ⟨hK.c, cI.det (t_of hK hs _ 3 (hv _ (by omega)) (by decide)) (by decide) ?_⟩⟩
      refine cI.det (t_min _ _) (by decide) ⟨hK.c, cI.det (t_isFlown hK hs hw hv k (by omega)) (by decide) ?_⟩
      rw [bI_0, nI_1]
      refine ⟨fun h => ?_, fun h => cI.det (t_max _ _) (by decide) ?_⟩
      · rw [show pWi1 A r st ln k = 0 by simp [pWi1, h]] at ih
        exact ih
      · rw [show pWi1 A r st ln k = iMax 0 (iMin (st + ln) (aL A (rl r k) 3) - iMax st (aL A (rl r k) 2)) by simp at h; simp [pWi1, h]] at ih
        exact ih
  exact key r.length 0 (by omega)
theorem t_placeIn (hK : MK G x ma) (hs : MR (ar 0) A) (c i : Nat) (hc : c < (aC A).length) (hi : i < 2 ^ 20) (hv : RV A (cT (cw A c))) : TrI Γ l mX2_placeIn 2 0 0 [.ref x, .int (nI c), .int (nI i)] (mW G x ma sc ar) (fun v G' => v = oI (pPl (cT (cw A c)) i) (-1) ∧ G' = (mW G x ma sc ar)) := by
  have h6 := hs.2.1
  have h24 := hs.l24 c hc
  refine Tr.intro (by decide +kernel) (Nat.le_of_ble_eq_true rfl) ?_
  refine rX2_placeIn_0 x _ _ ?_
  have key : ∀ n k, k + n = (cT (cw A c)).length → GW Γ l mX2_placeIn 2 0 0 (fun v G' => ∃ q, v = some (.int q) ∧ q = oI (pFind (cT (cw A c)) i k n) (-1) ∧ G' = (mW G x ma sc ar)) 2 [(0, va_rf (some x)), (1, .int (nI c)), (2, .int (nI i)), (3, .int (nI k))] [] (mW G x ma sc ar) 0 0 := by
    intro n
    induction n with
    | zero =>
      intro k hk
      refine rX2_placeIn_2 x _ _ _ ⟨hK.c, cI.det (t_ofCrew hK c 3 (by omega) (by decide)) (by decide) ?_⟩
      rw [hs.n c hc]
      exact br_t (nI_le (by omega) (by omega)) ⟨_, rfl, rfl, rfl⟩
    | succ n ih =>
      intro k hk
      refine rX2_placeIn_2 x _ _ _ ⟨hK.c, cI.det (t_ofCrew hK c 3 (by omega) (by decide)) (by decide) ?_⟩
      rw [hs.n c hc]
      have e : 4 + nI k = nI (4 + k) := by simp only [li_, nI_add, pk_mul, nI_1, Nat.add_assoc]
      refine br_f (nI_ge (by omega) (by omega)) ⟨hK.c, ?_⟩
      rw [e]
      refine cI.det (t_ofCrew hK c (4 + k) (by omega) (by omega)) (by decide) ?_
      have hlt := RV.lt hs hv k (by omega)
      rw [hs.i c hc k (by omega), code_div hlt, nI_eq (by omega) (by omega)]
      unfold pFind
      refine ⟨fun h => ?_, fun h => ⟨_, rfl, ?_, rfl⟩⟩
      · rw [if_neg h, nI_1]
        exact ih (k + 1) (by omega)
      · rw [if_pos h]
        rfl
  exact key _ 0 (by omega)
theorem t_flierOf (hK : MK G x ma) (hs : MR (ar 0) A) (hv : ∀ c, c < (aC A).length → RV A (cT (cw A c))) (i : Nat) (hi : i < 2 ^ 20) : TrI Γ l mX2_flierOf 3 0 0 [.ref x, .int (nI i)] (mW G x ma sc ar) (fun v G' => v = oI (pFly A i) (-2) ∧ G' = (mW G x ma sc ar)) := by
  have h6 := hs.2.1
  refine Tr.intro (by decide +kernel) (Nat.le_of_ble_eq_true rfl) ?_
  refine rX2_flierOf_0 x _ ?_
  have key : ∀ n c, c + n = (aC A).length → GW Γ l mX2_flierOf 3 0 0 (fun v G' => ∃ q, v = some (.int q) ∧ q = oI (pFlyF A i c n) (-2) ∧ G' = (mW G x ma sc ar)) 2 [(0, va_rf (some x)), (1, .int (nI i)), (2, .int (nI c))] [] (mW G x ma sc ar) 0 0 := by
    intro n
    induction n with
    | zero =>
      intro c hc
      refine rX2_flierOf_2 x _ _ ⟨hK.c, ma 0, hK.r 0 (by decide), hK.t 0 0 (by decide) rfl, hK.inb 0 (by decide) 1 rfl (by decide), ?_⟩
      rw [hK.rd (i := 1) 0 (by decide) 1 rfl (by decide), hs.nc]
      exact br_t (nI_le (by omega) (by omega)) ⟨_, rfl, rfl, rfl⟩
    | succ n ih =>
      intro c hc
      refine rX2_flierOf_2 x _ _ ⟨hK.c, ma 0, hK.r 0 (by decide), hK.t 0 0 (by decide) rfl, hK.inb 0 (by decide) 1 rfl (by decide), ?_⟩
      rw [hK.rd (i := 1) 0 (by decide) 1 rfl (by decide), hs.nc]
      refine br_f (nI_ge (by omega) (by omega)) ?_
      have hcl : c < (aC A).length := by omega
      have h24 := hs.l24 c hcl
      refine cI.det (t_placeIn hK hs c i hcl hi (hv c hcl)) (by decide) ?_
      unfold pFlyF
      cases hp : pPl (cT (cw A c)) i with
      | none =>
        refine br_t (by decide) ?_
        rw [nI_1]
        exact ih (c + 1) (by omega)
      | some k =>
        have hk := pFind_some _ _ hp
        refine br_f (nI_pos (by omega)) ⟨hK.c, ?_⟩
        have e : 4 + nI k = nI (4 + k) := by simp only [li_, nI_add, pk_mul, nI_1, Nat.add_assoc]
        show cI _ _ _ _ [_, _, .int (4 + nI k)] _ _ _ _
        rw [e]
        refine cI.det (t_ofCrew hK c (4 + k) (by omega) (by omega)) (by decide) ?_
        rw [hs.i c hcl k (by omega), code_rem (RV.lt hs (hv c hcl) k (by omega)), bI_e1]
        refine ⟨fun h => ?_, fun h => ⟨_, rfl, ?_, rfl⟩⟩
        · show GW _ _ _ _ _ _ (fun v G' => ∃ q, v = some (.int q) ∧ q = oI (if rf (cT (cw A c)) k = true then some c else pFlyF A i (c + 1) n) (-2) ∧ G' = (mW G x ma sc ar)) _ _ _ _ _ _
          rw [if_neg h, nI_1]
          exact ih (c + 1) (by omega)
        · show _ = oI (if rf (cT (cw A c)) k = true then some c else pFlyF A i (c + 1) n) (-2)
          rw [if_pos h]
          rfl
  exact key _ 0 (by omega)
end MC1
