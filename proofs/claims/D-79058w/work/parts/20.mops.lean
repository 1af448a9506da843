/-! what the reading operations answer; M's contracts for them -/
set_option maxRecDepth 100000
def ix (p : Int32) : Nat := p.toNatClampNeg
def okC (A : AS) (p : Int32) : Bool := pIn p 0 (nI (aC A).length - 1)
def okL (A : AS) (p : Int32) : Bool := pIn p 0 (nI (aN A) - 1)
theorem pIn_ix {p : Int32} {n : Nat} (hn : n < 2 ^ 30) (h : pIn p 0 (nI n - 1) = true) : ix p < n ∧ p = nI (ix p) := by
  unfold pIn at h
  simp only [Bool.and_eq_true, Bool.not_eq_true', decide_eq_false_iff_not] at h
  obtain ⟨j, hj, rfl⟩ := nI_of h.1
  unfold ix
  rw [nI_clamp hj]
  refine ⟨?_, rfl⟩
  cases n with
  | zero =>
    exfalso
    apply h.2
    rw [Int32.lt_iff_toInt_lt, nI_toInt hj, show (nI 0 - 1).toInt = -1 by decide]
    omega
  | succ n =>
    rw [nI_pred, nI_ltI (by omega) hj] at h
    omega
theorem pIn_nI {p : Int32} {n : Nat} (hn : n < 2 ^ 29) (h : pIn p 0 (nI n) = true) : ix p ≤ n ∧ p = nI (ix p) := by
  obtain ⟨a, b⟩ := pIn_ix (p := p) (n := n + 1) (by omega) (by rw [nI_pred]; exact h)
  exact ⟨by omega, b⟩
/-- the duties' beginnings among the first n items -/
def pStF (A : AS) (r : List It) : Nat → List Nat
  | 0 => []
  | n + 1 => if pBeg A r n then pStF A r n ++ [n] else pStF A r n
def pSt (A : AS) (r : List It) : List Nat := pStF A r r.length
def oLeg (A : AS) (p w : Int32) : Int32 := if okL A p && pIn w 0 5 then (if 5 ≤ w then oI (pFly A (ix p)) (-2) else aL A (ix p) (ix w)) else -1
def oRule (A : AS) (p : Int32) : Int32 := if pIn p 0 7 then aR A (ix p) else -1
def oReason (A : AS) (p q : Int32) (f : Bool) : Int32 := if okC A p && okL A q then nI (pHin A (cB (cw A (ix p))) (cT (cw A (ix p))) (ix q) f).1 else -1
def oPlace (A : AS) (p q : Int32) (f : Bool) : Int32 := if okC A p && okL A q then (let k := pHin A (cB (cw A (ix p))) (cT (cw A (ix p))) (ix q) f; if 1 ≤ k.1 ∧ k.1 ≤ 7 then nI k.2 else -2) else -1
def oCount (A : AS) (p : Int32) : Int32 := if okC A p then nI (cT (cw A (ix p))).length else -1
def oItem (A : AS) (p q w : Int32) : Int32 := if okC A p && pIn w 0 2 then (let r := cT (cw A (ix p)); if pIn q 0 (nI r.length - 1) then (if w = 0 then nI (rl r (ix q)) else if w = 1 then bI (rf r (ix q)) else nI ((pStF A r (ix q + 1)).length - 1)) else -2) else -1
def oDuties (A : AS) (p : Int32) : Int32 := if okC A p then nI (pSt A (cT (cw A (ix p)))).length else -1
def oVioN (A : AS) (p : Int32) : Int32 := if okC A p then nI (pVs A (cB (cw A (ix p))) (cT (cw A (ix p)))).length else -1
def oVio (A : AS) (p q w : Int32) : Int32 := if okC A p && pIn w 0 1 then (if q < 0 then -2 else match (pVs A (cB (cw A (ix p))) (cT (cw A (ix p))))[ix q]? with | none => -2 | some k => if w = 0 then nI k.1 else nI k.2) else -1
def pMin (A : AS) (c : Nat) : Int32 := pFl A (cT (cw A c)) 0 (cT (cw A c)).length
def oMin (A : AS) (p : Int32) : Int32 := if okC A p then pMin A (ix p) else -1
def oWithin (A : AS) (p q w : Int32) : Int32 := if okC A p && (pIn q 0 5999 && pIn w 1 6000) then pWi A (cT (cw A (ix p))) q w else -1
def pHome (A : AS) (b : Int32) (r : List It) : Bool := decide (r.length = 0) || decide (aL A (rl r (r.length - 1)) 1 = b)
def oHome (A : AS) (p : Int32) : Int32 := if okC A p then bI (pHome A (cB (cw A (ix p))) (cT (cw A (ix p)))) else -1
section PHI
theorem pHin_lt {A : AS} {b : Int32} {r : List It} {i : Nat} {f : Bool} (h : r.length < 48) : (pHin A b r i f).1 ≤ 10 ∧ (pHin A b r i f).2 < 48 ∧ (pHin A b r i f = (0, 0) ∨ 1 ≤ (pHin A b r i f).1) := by
  unfold pHin
  split
  · decide
  · split
    · decide
    · split
      · decide
      · cases hh : (pVs A b (pPut A r i f)).head? with
        | none => decide
        | some p =>
          have h1 := (pVs_le A b (pPut A r i f)).2 p (List.mem_of_mem_head? hh)
          rw [pPut_len] at h1
          show p.1 ≤ 10 ∧ p.2 < 48 ∧ _
          refine ⟨by omega, by omega, Or.inr h1.1⟩
theorem hcode_div {p : Nat × Nat} (h : p.1 ≤ 10 ∧ p.2 < 48) : nI (hcode p) / 100 = nI p.1 ∧ nI (hcode p) - nI (hcode p) / 100 * 100 = nI p.2 := by
  unfold hcode
  rw [li_ 100, pk_rem (by omega) (by decide) (by decide), pk_div (by omega) (by decide) (by decide)]
  refine ⟨?_, ?_⟩ <;> congr 1 <;> omega
end PHI
section MC5
variable {Γ : GE} {l : Launch} {G : GH} {x : Nat} {ma : Nat → Nat} {sc : Nat → Int32} {ar : Nat → Nat → Int32} {A : AS} {b : Int32} {r : List It}
theorem c_isCrew (hK : MK G x ma) (hs : MR (ar 0) A) (p : Int32) {h bc bs : Nat} {K : Int32 → GH → Nat → Nat → Prop} (hh : 2 < h) (k : K (bI (okC A p)) (mW G x ma sc ar) bc bs) : cI Γ l h mX2_isCrew [.ref x, .int p] (mW G x ma sc ar) bc bs K := cI.det (t_isCrew hK hs p) hh k
theorem c_isLeg (hK : MK G x ma) (hs : MR (ar 0) A) (p : Int32) {h bc bs : Nat} {K : Int32 → GH → Nat → Nat → Prop} (hh : 2 < h) (k : K (bI (okL A p)) (mW G x ma sc ar) bc bs) : cI Γ l h mX2_isLeg [.ref x, .int p] (mW G x ma sc ar) bc bs K := cI.det (t_isLeg hK hs p) hh k
theorem okC.ix (hs : MR (ar 0) A) {p : Int32} (h : okC A p = true) : ix p < (aC A).length ∧ p = nI (ix p) := pIn_ix (by have := hs.2.1; omega) h
theorem okL.ix (hs : MR (ar 0) A) {p : Int32} (h : okL A p = true) : ix p < aN A ∧ p = nI (ix p) := pIn_ix (by have := hs.1; omega) h
theorem t_legCount (hK : MK G x ma) (hs : MR (ar 0) A) : TrI Γ l mX2_legCount 1 0 0 [.ref x] (mW G x ma sc ar) (fun v G' => v = nI (aN A) ∧ G' = (mW G x ma sc ar)) := by
  refine Tr.intro (by decide +kernel) (Nat.le_of_ble_eq_true rfl) ?_
  refine rX2_legCount_0 x ⟨hK.c, ma 0, hK.r 0 (by decide), hK.t 0 0 (by decide) rfl, hK.inb 0 (by decide) 0 rfl (by decide), _, rfl, ?_, rfl⟩
  rw [hK.rd (i := 0) 0 (by decide) 0 rfl (by decide), hs.nl]
theorem t_crewCount (hK : MK G x ma) (hs : MR (ar 0) A) : TrI Γ l mX2_crewCount 1 0 0 [.ref x] (mW G x ma sc ar) (fun v G' => v = nI (aC A).length ∧ G' = (mW G x ma sc ar)) := by
  refine Tr.intro (by decide +kernel) (Nat.le_of_ble_eq_true rfl) ?_
  refine rX2_crewCount_0 x ⟨hK.c, ma 0, hK.r 0 (by decide), hK.t 0 0 (by decide) rfl, hK.inb 0 (by decide) 1 rfl (by decide), _, rfl, ?_, rfl⟩
  rw [hK.rd (i := 1) 0 (by decide) 1 rfl (by decide), hs.nc]
theorem t_leg (hK : MK G x ma) (hs : MR (ar 0) A) (hva : RVA A) (p w : Int32) : TrI Γ l mX2_leg 4 0 0 [.ref x, .int p, .int w] (mW G x ma sc ar) (fun v G' => v = oLeg A p w ∧ G' = (mW G x ma sc ar)) := by
  have h24 := hs.1
  refine Tr.intro (by decide +kernel) (Nat.le_of_ble_eq_true rfl) ?_
  refine rX2_leg_0 x _ _ ⟨hK.c, c_isLeg hK hs p (by decide) ?_⟩
  rw [bI_0]
  refine ⟨fun h => ⟨_, rfl, by simp [oLeg, h], rfl⟩, fun h => cI.det (t_in _ _ _) (by decide) ?_⟩
  simp only [Bool.not_eq_false] at h
  obtain ⟨g1, g2⟩ := okL.ix hs h
  rw [bI_0]
  refine ⟨fun h2 => ?_, fun h2 => ⟨_, rfl, by simp [oLeg, h2], rfl⟩⟩
  simp only [Bool.not_eq_false] at h2
  obtain ⟨g3, g4⟩ := pIn_nI (n := 5) (by decide) h2
  have e : oLeg A p w = if 5 ≤ w then oI (pFly A (ix p)) (-2) else aL A (ix p) (ix w) := by simp [oLeg, h, h2]
  rw [e]
  refine ⟨fun h3 => ⟨hK.c, ?_⟩, fun h3 => ⟨hK.c, ?_⟩⟩
  · rw [if_pos h3, g2]
    refine cI.det (t_flierOf hK hs hva (ix p) (by omega)) (by decide) ⟨_, rfl, ?_, rfl⟩
    rw [← g2]
  · rw [if_neg h3]
    have h4 : ix w < 5 := by
      rw [g4, show (5 : Int32) = nI 5 from rfl, nI_leI (by decide) (by omega)] at h3
      omega
    have := t_of (Γ := Γ) (l := l) (sc := sc) (ar := ar) hK hs (ix p) (ix w) g1 h4
    rw [← g2, ← g4] at this
    exact cI.det this (by decide) ⟨_, rfl, rfl, rfl⟩
theorem t_rule (hK : MK G x ma) (hs : MR (ar 0) A) (p : Int32) : TrI Γ l mX2_rule 2 0 0 [.ref x, .int p] (mW G x ma sc ar) (fun v G' => v = oRule A p ∧ G' = (mW G x ma sc ar)) := by
  refine Tr.intro (by decide +kernel) (Nat.le_of_ble_eq_true rfl) ?_
  refine rX2_rule_0 x _ (cI.det (t_in _ _ _) (by decide) ?_)
  rw [bI_0]
  refine ⟨fun h => ⟨_, rfl, by simp [oRule, h], rfl⟩, fun h => ?_⟩
  simp only [Bool.not_eq_false] at h
  obtain ⟨g1, g2⟩ := pIn_nI (n := 7) (by decide) h
  have e : 2 + p = nI (2 + ix p) := by
    conv => lhs; rw [g2]
    simp only [li_, nI_add, pk_mul, nI_1, Nat.add_assoc]
  refine ⟨hK.c, ma 0, hK.r 0 (by decide), hK.t 0 0 (by decide) rfl, hK.inb 0 (by decide) _ e (by show _ < 298; omega), _, rfl, ?_, rfl⟩
  rw [hK.rd 0 (by decide) _ e (by omega), hs.ru (ix p) (by omega)]
  simp [oRule, h]
theorem t_reason (hK : MK G x ma) (hs : MR (ar 0) A) (hva : RVA A) (p q : Int32) (f : Bool) : TrI Γ l mX2_reason 10 0 0 [.ref x, .int p, .int q, .int (bI f)] (mW G x ma sc ar) (fun v G' => v = oReason A p q f ∧ ∃ sc' ar', G' = mW G x ma sc' ar' ∧ Fr [8, 9] [7] sc ar sc' ar') := by
  refine Tr.intro (by decide +kernel) (Nat.le_of_ble_eq_true rfl) ?_
  refine rX2_reason_0 x _ _ _ ⟨hK.c, c_isCrew hK hs p (by decide) ?_⟩
  rw [bI_0]
  refine ⟨fun h => ⟨_, rfl, by simp [oReason, h], sc, ar, rfl, Fr.rf⟩, fun h => ⟨hK.c, c_isLeg hK hs q (by decide) ?_⟩⟩
  simp only [Bool.not_eq_false] at h
  obtain ⟨g1, g2⟩ := okC.ix hs h
  have h24 := hs.l24 _ g1
  rw [bI_0]
  refine ⟨fun h2 => ⟨_, rfl, by simp [oReason, h2], sc, ar, rfl, Fr.rf⟩, fun h2 => ⟨hK.c, ?_⟩⟩
  simp only [Bool.not_eq_false] at h2
  obtain ⟨g3, g4⟩ := okL.ix hs h2
  have T := t_hinders (Γ := Γ) (l := l) (sc := sc) (ar := ar) hK hs hva (ix p) (ix q) f g1 g3
  rw [← g2, ← g4] at T
  refine cI.mk0 T (by decide) ?_
  rintro v G1 ⟨rfl, sc1, ar1, rfl, f1, w1⟩
  have hl := pHin_lt (A := A) (b := cB (cw A (ix p))) (i := ix q) (f := f) (show (cT (cw A (ix p))).length < 48 by omega)
  refine ⟨_, rfl, ?_, sc1, ar1, rfl, f1⟩
  rw [(hcode_div ⟨hl.1, hl.2.1⟩).1]
  simp [oReason, h, h2]
theorem t_place (hK : MK G x ma) (hs : MR (ar 0) A) (hva : RVA A) (p q : Int32) (f : Bool) : TrI Γ l mX2_place 10 0 0 [.ref x, .int p, .int q, .int (bI f)] (mW G x ma sc ar) (fun v G' => v = oPlace A p q f ∧ ∃ sc' ar', G' = mW G x ma sc' ar' ∧ Fr [8, 9] [7] sc ar sc' ar') := by
  refine Tr.intro (by decide +kernel) (Nat.le_of_ble_eq_true rfl) ?_
  refine rX2_place_0 x _ _ _ ⟨hK.c, c_isCrew hK hs p (by decide) ?_⟩
  rw [bI_0]
  refine ⟨fun h => ⟨_, rfl, by simp [oPlace, h], sc, ar, rfl, Fr.rf⟩, fun h => ⟨hK.c, c_isLeg hK hs q (by decide) ?_⟩⟩
  simp only [Bool.not_eq_false] at h
  obtain ⟨g1, g2⟩ := okC.ix hs h
  have h24 := hs.l24 _ g1
  rw [bI_0]
  refine ⟨fun h2 => ⟨hK.c, ?_⟩, fun h2 => ⟨_, rfl, by simp [oPlace, h2], sc, ar, rfl, Fr.rf⟩⟩
  simp only [Bool.not_eq_false] at h2
  obtain ⟨g3, g4⟩ := okL.ix hs h2
  have T := t_hinders (Γ := Γ) (l := l) (sc := sc) (ar := ar) hK hs hva (ix p) (ix q) f g1 g3
  rw [← g2, ← g4] at T
  refine cI.mk0 T (by decide) ?_
  rintro v G1 ⟨rfl, sc1, ar1, rfl, f1, w1⟩
  have hl := pHin_lt (A := A) (b := cB (cw A (ix p))) (i := ix q) (f := f) (show (cT (cw A (ix p))).length < 48 by omega)
  rw [(hcode_div ⟨hl.1, hl.2.1⟩).2, (hcode_div ⟨hl.1, hl.2.1⟩).1]
  refine cI.det (t_in _ _ _) (by decide) ?_
  have e : pIn (nI (pHin A (cB (cw A (ix p))) (cT (cw A (ix p))) (ix q) f).1) 1 7 = decide (1 ≤ (pHin A (cB (cw A (ix p))) (cT (cw A (ix p))) (ix q) f).1 ∧ (pHin A (cB (cw A (ix p))) (cT (cw A (ix p))) (ix q) f).1 ≤ 7) := by
    unfold pIn
    rw [li_ 1, li_ 7]
    simp only [nI_ltI (show (pHin A (cB (cw A (ix p))) (cT (cw A (ix p))) (ix q) f).1 < 2 ^ 31 by omega) (show (1 : Nat) < 2 ^ 31 by decide), nI_ltI (show (7 : Nat) < 2 ^ 31 by decide) (show (pHin A (cB (cw A (ix p))) (cT (cw A (ix p))) (ix q) f).1 < 2 ^ 31 by omega), Nat.not_lt, ← decide_not, ← Bool.decide_and]
  rw [e, bI_0, decide_eq_false_iff_not, Decidable.not_not]
  refine ⟨fun h3 => ⟨_, rfl, ?_, sc1, ar1, rfl, f1⟩, fun h3 => ⟨_, rfl, ?_, sc1, ar1, rfl, f1⟩⟩
  · unfold oPlace
    rw [if_pos (by simp [h, h2])]
    show _ = if _ then _ else _
    rw [if_neg h3]
  · unfold oPlace
    rw [if_pos (by simp [h, h2])]
    show _ = if _ then _ else _
    rw [if_pos h3]
theorem t_itemCount (hK : MK G x ma) (hs : MR (ar 0) A) (p : Int32) : TrI Γ l mX2_itemCount 3 0 0 [.ref x, .int p] (mW G x ma sc ar) (fun v G' => v = oCount A p ∧ G' = (mW G x ma sc ar)) := by
  have h6 := hs.2.1
  refine Tr.intro (by decide +kernel) (Nat.le_of_ble_eq_true rfl) ?_
  refine rX2_itemCount_0 x _ ⟨hK.c, c_isCrew hK hs p (by decide) ?_⟩
  rw [bI_0]
  refine ⟨fun h => ⟨_, rfl, by simp [oCount, h], rfl⟩, fun h => ⟨hK.c, ?_⟩⟩
  simp only [Bool.not_eq_false] at h
  obtain ⟨g1, g2⟩ := okC.ix hs h
  have T := t_ofCrew (Γ := Γ) (l := l) (sc := sc) (ar := ar) hK (ix p) 3 (by omega) (by decide)
  rw [← g2] at T
  refine cI.det T (by decide) ⟨_, rfl, ?_, rfl⟩
  rw [hs.n _ g1]
  simp [oCount, h]
theorem t_minutesOf (hK : MK G x ma) (hs : MR (ar 0) A) (hva : RVA A) (c : Nat) (hc : c < (aC A).length) : TrI Γ l mX2_minutesOf 4 0 0 [.ref x, .int (nI c)] (mW G x ma sc ar) (fun v G' => v = pMin A c ∧ ∃ sc' ar', G' = mW G x ma sc' ar' ∧ Fr [8, 9] [7] sc ar sc' ar') := by
  refine Tr.intro (by decide +kernel) (Nat.le_of_ble_eq_true rfl) ?_
  refine rX2_minutesOf_0 x _ ⟨hK.c, cV.mk0 (t_take hK hs c hc) (by decide) ?_⟩
  rintro G1 ⟨sc1, ar1, rfl, f1, w1⟩
  have hs1 : MR (ar1 0) A := hs.fr f1 (by decide)
  refine ⟨hK.c, ?_⟩
  rw [mW_x hK, w1.1]
  exact cI.det (t_flownFrom hK hs1 w1 (hva c hc) 0 _ (Nat.zero_le _) (Nat.le_refl _)) (by decide) ⟨_, rfl, rfl, sc1, ar1, rfl, f1⟩
theorem t_minutes (hK : MK G x ma) (hs : MR (ar 0) A) (hva : RVA A) (p : Int32) : TrI Γ l mX2_minutes 5 0 0 [.ref x, .int p] (mW G x ma sc ar) (fun v G' => v = oMin A p ∧ ∃ sc' ar', G' = mW G x ma sc' ar' ∧ Fr [8, 9] [7] sc ar sc' ar') := by
  refine Tr.intro (by decide +kernel) (Nat.le_of_ble_eq_true rfl) ?_
  refine rX2_minutes_0 x _ ⟨hK.c, c_isCrew hK hs p (by decide) ?_⟩
  rw [bI_0]
  refine ⟨fun h => ⟨_, rfl, by simp [oMin, h], sc, ar, rfl, Fr.rf⟩, fun h => ⟨hK.c, ?_⟩⟩
  simp only [Bool.not_eq_false] at h
  obtain ⟨g1, g2⟩ := okC.ix hs h
  have T := t_minutesOf (Γ := Γ) (l := l) (sc := sc) (ar := ar) hK hs hva (ix p) g1
  rw [← g2] at T
  refine cI.mk0 T (by decide) ?_
  rintro v G1 ⟨rfl, sc1, ar1, rfl, f1⟩
  exact ⟨_, rfl, by simp [oMin, h], sc1, ar1, rfl, f1⟩
theorem t_within (hK : MK G x ma) (hs : MR (ar 0) A) (hva : RVA A) (p q w : Int32) : TrI Γ l mX2_within 4 0 0 [.ref x, .int p, .int q, .int w] (mW G x ma sc ar) (fun v G' => v = oWithin A p q w ∧ ∃ sc' ar', G' = mW G x ma sc' ar' ∧ Fr [8, 9] [7] sc ar sc' ar') := by
  refine Tr.intro (by decide +kernel) (Nat.le_of_ble_eq_true rfl) ?_
  refine rX2_within_0 x _ _ _ ⟨hK.c, c_isCrew hK hs p (by decide) ?_⟩
  rw [bI_0]
  refine ⟨fun h => ⟨_, rfl, by simp [oWithin, h], sc, ar, rfl, Fr.rf⟩, fun h => cI.det (t_in _ _ _) (by decide) ?_⟩
  simp only [Bool.not_eq_false] at h
  obtain ⟨g1, g2⟩ := okC.ix hs h
  rw [bI_0]
  refine ⟨fun h2 => ⟨_, rfl, by simp [oWithin, h2], sc, ar, rfl, Fr.rf⟩, fun h2 => cI.det (t_in _ _ _) (by decide) ?_⟩
  simp only [Bool.not_eq_false] at h2
  rw [bI_0]
  refine ⟨fun h3 => ⟨hK.c, ?_⟩, fun h3 => ⟨_, rfl, by simp [oWithin, h3], sc, ar, rfl, Fr.rf⟩⟩
  simp only [Bool.not_eq_false] at h3
  have T := t_take (Γ := Γ) (l := l) (sc := sc) (ar := ar) hK hs (ix p) g1
  rw [← g2] at T
  refine cV.mk0 T (by decide) ?_
  rintro G1 ⟨sc1, ar1, rfl, f1, w1⟩
  have hs1 : MR (ar1 0) A := hs.fr f1 (by decide)
  exact ⟨hK.c, cI.det (t_flownWithin hK hs1 w1 (hva _ g1) q w) (by decide) ⟨_, rfl, by simp [oWithin, h, h2, h3], sc1, ar1, rfl, f1⟩⟩
theorem t_isHome (hK : MK G x ma) (hs : MR (ar 0) A) (hw : MW sc ar b r) (hv : RV A r) : TrI Γ l mX2_isHome 2 0 0 [.ref x] (mW G x ma sc ar) (fun v G' => v = bI (pHome A b r) ∧ G' = (mW G x ma sc ar)) := by
  have h48 := hw.2.2.1
  refine Tr.intro (by decide +kernel) (Nat.le_of_ble_eq_true rfl) ?_
  refine rX2_isHome_0 x ⟨hK.c, ?_⟩
  rw [mW_x hK, hw.1, li_ 0, nI_eq (by omega) (by decide)]
  refine ⟨fun h => ⟨_, rfl, by simp [pHome, h, bI], rfl⟩, fun h => ?_⟩
  rw [li_ 1, pk_sub (by omega)]
  refine cI.det (t_legAt hK hs hw hv (r.length - 1) (by omega)) (by decide) ⟨hK.c, cI.det (t_of hK hs _ 1 (hv _ (by omega)) (by decide)) (by decide) ⟨hK.c, ?_⟩⟩
  rw [mW_x hK, hw.2.1]
  refine ⟨fun h2 => ⟨_, rfl, by simp [pHome, h, h2, bI]; rfl, rfl⟩, fun h2 => ⟨_, rfl, by simp [pHome, h2, bI]; rfl, rfl⟩⟩
theorem t_home (hK : MK G x ma) (hs : MR (ar 0) A) (hva : RVA A) (p : Int32) : TrI Γ l mX2_home 3 0 0 [.ref x, .int p] (mW G x ma sc ar) (fun v G' => v = oHome A p ∧ ∃ sc' ar', G' = mW G x ma sc' ar' ∧ Fr [8, 9] [7] sc ar sc' ar') := by
  refine Tr.intro (by decide +kernel) (Nat.le_of_ble_eq_true rfl) ?_
  refine rX2_home_0 x _ ⟨hK.c, c_isCrew hK hs p (by decide) ?_⟩
  rw [bI_0]
  refine ⟨fun h => ⟨hK.c, ?_⟩, fun h => ⟨_, rfl, by simp [oHome, h], sc, ar, rfl, Fr.rf⟩⟩
  simp only [Bool.not_eq_false] at h
  obtain ⟨g1, g2⟩ := okC.ix hs h
  have T := t_take (Γ := Γ) (l := l) (sc := sc) (ar := ar) hK hs (ix p) g1
  rw [← g2] at T
  refine cV.mk0 T (by decide) ?_
  rintro G1 ⟨sc1, ar1, rfl, f1, w1⟩
  have hs1 : MR (ar1 0) A := hs.fr f1 (by decide)
  refine ⟨hK.c, cI.det (t_isHome hK hs1 w1 (hva _ g1)) (by decide) ?_⟩
  rw [bI_0]
  refine ⟨fun h2 => ⟨_, rfl, by simp [oHome, h, h2]; rfl, sc1, ar1, rfl, f1⟩, fun h2 => ⟨_, rfl, ?_, sc1, ar1, rfl, f1⟩⟩
  simp only [Bool.not_eq_false] at h2
  simp [oHome, h, h2]
  rfl
end MC5
