/-! M's contracts: duties, violations, pairings, cost -/
set_option maxRecDepth 100000
theorem pStF_succ (A : AS) (r : List It) (n : Nat) : pStF A r (n + 1) = if pBeg A r n then pStF A r n ++ [n] else pStF A r n := rfl
theorem pStF_le (A : AS) (r : List It) : ∀ n, (pStF A r n).length ≤ n ∧ (0 < n → 0 < (pStF A r n).length) := by
  intro n
  induction n with
  | zero => exact ⟨Nat.le_refl _, fun h => h⟩
  | succ n ih =>
    rw [pStF_succ]
    split
    · rw [List.length_append]
      exact ⟨by show _ + 1 ≤ _; omega, fun _ => by show 0 < _ + 1; omega⟩
    · rename_i h
      refine ⟨by omega, fun _ => ih.2 ?_⟩
      apply Nat.pos_of_ne_zero
      intro z
      subst z
      exact h (by simp [pBeg])
/-- the item with which duty d begins: the least one that lies in duty d -/
def pBgF (A : AS) (r : List It) (d : Int32) : Nat → Nat → Option Nat
  | _, 0 => none
  | k, n + 1 => if nI (pStF A r (k + 1)).length - 1 = d then some k else pBgF A r d (k + 1) n
def pBg (A : AS) (r : List It) (d : Int32) : Option Nat := pBgF A r d 0 r.length
def oDuty (A : AS) (p d w : Int32) : Int32 := if okC A p && pIn w 0 3 then (let r := cT (cw A (ix p)); match pBg A r d with
  | none => -2
  | some i => if w = 0 then pDm A r i else if w = 1 then pFl A r i (pEnd A r i) else if w = 2 then nI (pEnd A r i - i) else nI i) else -1
def pPr1 (A : AS) (b : Int32) (r : List It) (k : Nat) : Int32 := bI (decide (aL A (rl r k) 1 = b) && (decide (k + 1 = r.length) || pBeg A r (k + 1)))
def oPair (A : AS) (p : Int32) : Int32 := if okC A p then sumN (pPr1 A (cB (cw A (ix p))) (cT (cw A (ix p)))) 0 (cT (cw A (ix p))).length else -1
def pRd1 (A : AS) (r : List It) (k : Nat) : Int32 := if rf r k then 0 else pLen A (rl r k) * aR A 6
def pNg1 (A : AS) (b : Int32) (r : List It) (k : Nat) : Int32 := if k + 1 < r.length ∧ pBeg A r (k + 1) = true ∧ aL A (rl r k) 1 ≠ b then aR A 7 else 0
def pCost (A : AS) (c : Nat) (w : Int32) : Int32 :=
  let rd := sumN (pRd1 A (cT (cw A c))) 0 (cT (cw A c)).length
  let ng := sumN (pNg1 A (cB (cw A c)) (cT (cw A c))) 0 (cT (cw A c)).length
  if w = 0 then rd else if w = 1 then ng else rd + ng
def oCost (A : AS) (p w : Int32) : Int32 := if (decide (p = -1) || okC A p) && pIn w 0 2 then (if p = -1 then sumN (fun k => pCost A k w) 0 (aC A).length else pCost A (ix p) w) else -1
def pRes (k : Cw) : Bool := !decide (cE k ≤ cS k)
def oReserve (A : AS) (p w : Int32) : Int32 := if okC A p && pIn w 0 1 then (if pRes (cw A (ix p)) then (if w = 0 then cS (cw A (ix p)) else cE (cw A (ix p))) else -2) else -1
/-- the open legs among the first n, in their order -/
def pOpF (A : AS) : Nat → List It
  | 0 => []
  | n + 1 => if pOpen A n then pPut A (pOpF A n) n true else pOpF A n
def pOp (A : AS) : List It := pOpF A (aN A)
def oOpen (A : AS) (p : Int32) : Int32 := if pIn p 0 (nI (pOp A).length - 1) then nI (rl (pOp A) (ix p)) else -2
theorem pOpF_le (A : AS) : ∀ n, (pOpF A n).length ≤ n ∧ ∀ i, i < (pOpF A n).length → rl (pOpF A n) i < n := by
  intro n
  induction n with
  | zero => exact ⟨Nat.le_refl _, fun i h => by cases h⟩
  | succ n ih =>
    show (if pOpen A n then pPut A (pOpF A n) n true else pOpF A n).length ≤ _ ∧ ∀ i, i < (if pOpen A n then pPut A (pOpF A n) n true else pOpF A n).length → rl (if pOpen A n then pPut A (pOpF A n) n true else pOpF A n) i < n + 1
    split
    · rw [pPut_len]
      refine ⟨by omega, fun i hi => ?_⟩
      have hp := pPos_le A (pOpF A n) n
      rw [rl_put]
      split
      · have := ih.2 i (by omega); omega
      · split
        · omega
        · have := ih.2 (i - 1) (by omega); omega
    · exact ⟨by omega, fun i hi => by have := ih.2 i hi; omega⟩
section MC6
variable {Γ : GE} {l : Launch} {G : GH} {x : Nat} {ma : Nat → Nat} {sc : Nat → Int32} {ar : Nat → Nat → Int32} {A : AS} {b : Int32} {r : List It}
theorem t_dutyOf (hK : MK G x ma) (hs : MR (ar 0) A) (hw : MW sc ar b r) (hv : RV A r) (n : Nat) (hn : n ≤ r.length) : TrI Γ l mX2_dutyOf 4 0 0 [.ref x, .int (nI n - 1)] (mW G x ma sc ar) (fun v G' => v = nI (pStF A r n).length - 1 ∧ G' = (mW G x ma sc ar)) := by
  have h48 := hw.2.2.1
  refine Tr.intro (by decide +kernel) (Nat.le_of_ble_eq_true rfl) ?_
  refine rX2_dutyOf_0 x _ ?_
  have tI : (nI n - 1).toInt = (n : Int) - 1 := by
    have := pk_sub_toInt (a := n) (b := 1) (by omega) (by decide)
    exact this
  have key : ∀ m k, k + m = n → GW Γ l mX2_dutyOf 4 0 0 (fun v G' => ∃ q, v = some (.int q) ∧ q = nI (pStF A r n).length - 1 ∧ G' = (mW G x ma sc ar)) 4 [(0, va_rf (some x)), (1, .int (nI n - 1)), (2, .int (nI (pStF A r k).length - 1)), (3, .int (nI k))] [] (mW G x ma sc ar) 0 0 := by
    intro m
    induction m with
    | zero =>
      intro k hk
      refine rX2_dutyOf_4 x _ _ _ (br_t ?_ ⟨_, rfl, ?_, rfl⟩)
      · rw [Int32.lt_iff_toInt_lt, tI, nI_toInt (by omega)]; omega
      · rw [show k = n by omega]
    | succ m ih =>
      intro k hk
      refine rX2_dutyOf_4 x _ _ _ (br_f ?_ ⟨hK.c, cI.det (t_beginsDuty hK hs hw hv k (by omega)) (by decide) ?_⟩)
      · rw [Int32.lt_iff_toInt_lt, tI, nI_toInt (by omega)]; omega
      · have ih := ih (k + 1) (by omega)
        rw [bI_0, nI_1]
        refine ⟨fun h => ?_, fun h => ?_⟩
        · rw [pStF_succ, if_neg (by simp [h])] at ih
          rw [show nI (pStF A r k).length - 1 + 0 = nI (pStF A r k).length - 1 by rw [Int32.add_zero]]
          exact ih
        · rw [pStF_succ, if_pos (by simpa using h), List.length_append] at ih
          rw [show nI (pStF A r k).length - 1 + 1 = nI ((pStF A r k).length + 1) - 1 by rw [nI_pred, Int32.sub_add_cancel]]
          exact ih
  exact key n 0 (by omega)
theorem t_item (hK : MK G x ma) (hs : MR (ar 0) A) (hva : RVA A) (p q w : Int32) : TrI Γ l mX2_item 5 0 0 [.ref x, .int p, .int q, .int w] (mW G x ma sc ar) (fun v G' => v = oItem A p q w ∧ ∃ sc' ar', G' = mW G x ma sc' ar' ∧ Fr [8, 9] [7] sc ar sc' ar') := by
  refine Tr.intro (by decide +kernel) (Nat.le_of_ble_eq_true rfl) ?_
  refine rX2_item_0 x _ _ _ ⟨hK.c, c_isCrew hK hs p (by decide) ?_⟩
  rw [bI_0]
  refine ⟨fun h => ⟨_, rfl, by simp [oItem, h], sc, ar, rfl, Fr.rf⟩, fun h => cI.det (t_in _ _ _) (by decide) ?_⟩
  simp only [Bool.not_eq_false] at h
  obtain ⟨g1, g2⟩ := okC.ix hs h
  have h24 := hs.l24 _ g1
  rw [bI_0]
  refine ⟨fun h2 => ⟨hK.c, ?_⟩, fun h2 => ⟨_, rfl, by simp [oItem, h2], sc, ar, rfl, Fr.rf⟩⟩
  simp only [Bool.not_eq_false] at h2
  have T := t_take (Γ := Γ) (l := l) (sc := sc) (ar := ar) hK hs (ix p) g1
  rw [← g2] at T
  refine cV.mk0 T (by decide) ?_
  rintro G1 ⟨sc1, ar1, rfl, f1, w1⟩
  have hs1 : MR (ar1 0) A := hs.fr f1 (by decide)
  have hv1 := hva _ g1
  refine ⟨hK.c, ?_⟩
  rw [mW_x hK, w1.1]
  refine cI.det (t_in _ _ _) (by decide) ?_
  have e : oItem A p q w = if pIn q 0 (nI (cT (cw A (ix p))).length - 1) then (if w = 0 then nI (rl (cT (cw A (ix p))) (ix q)) else if w = 1 then bI (rf (cT (cw A (ix p))) (ix q)) else nI ((pStF A (cT (cw A (ix p))) (ix q + 1)).length - 1)) else -2 := by simp [oItem, h, h2]
  rw [bI_0]
  refine ⟨fun h3 => ?_, fun h3 => ⟨_, rfl, by rw [e, h3]; rfl, sc1, ar1, rfl, f1⟩⟩
  simp only [Bool.not_eq_false] at h3
  obtain ⟨g3, g4⟩ := pIn_ix (by omega) h3
  rw [if_pos h3] at e
  refine ⟨fun h4 => ⟨fun h5 => ⟨hK.c, ?_⟩, fun h5 => ⟨hK.c, ma 7, hK.r 7 (by decide), hK.t 7 0 (by decide) rfl, hK.inb 7 (by decide) _ g4 (by show _ < 48; omega), _, rfl, ?_, sc1, ar1, rfl, f1⟩⟩, fun h4 => ⟨hK.c, ?_⟩⟩
  · have T := t_dutyOf (Γ := Γ) (l := l) hK hs1 w1 hv1 (ix q + 1) (by omega)
    rw [nI_pred, ← g4] at T
    refine cI.det T (by decide) ⟨_, rfl, ?_, sc1, ar1, rfl, f1⟩
    have := (pStF_le A (cT (cw A (ix p))) (ix q + 1)).2 (by omega)
    rw [e, if_neg h4, if_neg h5, li_ 1, pk_sub this]
  · rw [hK.rd 7 (by decide) _ g4 (by omega), w1.2.2.2 _ g3, code_rem (RV.lt hs1 hv1 _ g3), e, if_neg h4, if_pos h5]
  · have T := t_legAt (Γ := Γ) (l := l) hK hs1 w1 hv1 (ix q) g3
    rw [← g4] at T
    refine cI.det T (by decide) ⟨_, rfl, ?_, sc1, ar1, rfl, f1⟩
    rw [e, if_pos h4]
theorem t_dutyCount (hK : MK G x ma) (hs : MR (ar 0) A) (hva : RVA A) (p : Int32) : TrI Γ l mX2_dutyCount 5 0 0 [.ref x, .int p] (mW G x ma sc ar) (fun v G' => v = oDuties A p ∧ ∃ sc' ar', G' = mW G x ma sc' ar' ∧ Fr [8, 9] [7] sc ar sc' ar') := by
  refine Tr.intro (by decide +kernel) (Nat.le_of_ble_eq_true rfl) ?_
  refine rX2_dutyCount_0 x _ ⟨hK.c, c_isCrew hK hs p (by decide) ?_⟩
  rw [bI_0]
  refine ⟨fun h => ⟨hK.c, ?_⟩, fun h => ⟨_, rfl, by simp [oDuties, h], sc, ar, rfl, Fr.rf⟩⟩
  simp only [Bool.not_eq_false] at h
  obtain ⟨g1, g2⟩ := okC.ix hs h
  have T := t_take (Γ := Γ) (l := l) (sc := sc) (ar := ar) hK hs (ix p) g1
  rw [← g2] at T
  refine cV.mk0 T (by decide) ?_
  rintro G1 ⟨sc1, ar1, rfl, f1, w1⟩
  have hs1 : MR (ar1 0) A := hs.fr f1 (by decide)
  refine ⟨hK.c, ?_⟩
  rw [mW_x hK, w1.1]
  refine cI.det (t_dutyOf hK hs1 w1 (hva _ g1) _ (Nat.le_refl _)) (by decide) ⟨_, rfl, ?_, sc1, ar1, rfl, f1⟩
  rw [Int32.sub_add_cancel]
  simp [oDuties, h, pSt]
theorem pBgF_lt {A : AS} {r : List It} {d : Int32} {j : Nat} : ∀ n k, pBgF A r d k n = some j → k ≤ j ∧ j < k + n := by
  intro n
  induction n with
  | zero => intro k h; cases h
  | succ n ih =>
    intro k h
    unfold pBgF at h
    split at h
    · cases h; omega
    · have := ih (k + 1) h; omega
theorem t_duty (hK : MK G x ma) (hs : MR (ar 0) A) (hva : RVA A) (p d w : Int32) : TrI Γ l mX2_duty 6 0 0 [.ref x, .int p, .int d, .int w] (mW G x ma sc ar) (fun v G' => v = oDuty A p d w ∧ ∃ sc' ar', G' = mW G x ma sc' ar' ∧ Fr [8, 9] [7] sc ar sc' ar') := by
  refine Tr.intro (by decide +kernel) (Nat.le_of_ble_eq_true rfl) ?_
  refine rX2_duty_0 x _ _ _ ⟨hK.c, c_isCrew hK hs p (by decide) ?_⟩
  rw [bI_0]
  refine ⟨fun h => ⟨_, rfl, by simp [oDuty, h], sc, ar, rfl, Fr.rf⟩, fun h => cI.det (t_in _ _ _) (by decide) ?_⟩
  simp only [Bool.not_eq_false] at h
  obtain ⟨g1, g2⟩ := okC.ix hs h
  have h24 := hs.l24 _ g1
  rw [bI_0]
  refine ⟨fun h2 => ⟨hK.c, ?_⟩, fun h2 => ⟨_, rfl, by simp [oDuty, h2], sc, ar, rfl, Fr.rf⟩⟩
  simp only [Bool.not_eq_false] at h2
  have T := t_take (Γ := Γ) (l := l) (sc := sc) (ar := ar) hK hs (ix p) g1
  rw [← g2] at T
  refine cV.mk0 T (by decide) ?_
  rintro G1 ⟨sc1, ar1, rfl, f1, w1⟩
  have hs1 : MR (ar1 0) A := hs.fr f1 (by decide)
  have hv1 := hva _ g1
  refine ⟨hK.c, ?_⟩
  rw [mW_x hK, w1.1]
  have key : ∀ k n, k + n = (cT (cw A (ix p))).length → GW Γ l mX2_duty 6 0 0 (fun v G' => ∃ q, v = some (.int q) ∧ q = oDuty A p d w ∧ ∃ sc' ar', G' = mW G x ma sc' ar' ∧ Fr [8, 9] [7] sc ar sc' ar') 35 [(0, va_rf (some x)), (1, .int p), (2, .int d), (3, .int w), (4, .int (oI (pBgF A (cT (cw A (ix p))) d k n) (-1))), (5, .int (nI k - 1))] [] (mW G x ma sc1 ar1) 0 0 := by
    intro k
    induction k with
    | zero =>
      intro n hn
      refine rX2_duty_35 x _ _ _ _ _ (br_t (by decide) ?_)
      have e : oDuty A p d w = match pBg A (cT (cw A (ix p))) d with
        | none => -2
        | some i => if w = 0 then pDm A (cT (cw A (ix p))) i else if w = 1 then pFl A (cT (cw A (ix p))) i (pEnd A (cT (cw A (ix p))) i) else if w = 2 then nI (pEnd A (cT (cw A (ix p))) i - i) else nI i := by
        unfold oDuty
        rw [if_pos (by simp [h, h2])]
      unfold pBg at e
      rw [show (cT (cw A (ix p))).length = n by omega] at e
      cases hb : pBgF A (cT (cw A (ix p))) d 0 n with
      | none =>
        rw [hb] at e
        exact br_f (by decide) ⟨_, rfl, by rw [e], sc1, ar1, rfl, f1⟩
      | some i =>
        rw [hb] at e
        have hi := pBgF_lt _ _ hb
        obtain ⟨q1, q2⟩ := pEnd_le A (cT (cw A (ix p))) i (by omega)
        refine br_t (nI_pos' (by omega)) ⟨hK.c, cI.det (t_dutyEnd hK hs1 w1 hv1 i (by omega)) (by decide) ⟨fun h3 => ⟨fun h4 => ⟨fun h5 => ⟨_, rfl, ?_, sc1, ar1, rfl, f1⟩, fun h5 => ⟨_, rfl, ?_, sc1, ar1, rfl, f1⟩⟩, fun h4 => ⟨hK.c, cI.det (t_flownFrom hK hs1 w1 hv1 i _ (by omega) q1) (by decide) ⟨_, rfl, ?_, sc1, ar1, rfl, f1⟩⟩⟩, fun h3 => ⟨hK.c, cI.det (t_dutyMinutes hK hs1 w1 hv1 i (by omega)) (by decide) ⟨_, rfl, ?_, sc1, ar1, rfl, f1⟩⟩⟩⟩
        · rw [e]; simp only [if_neg h3, if_neg h4, if_neg h5]; rfl
        · rw [e]; simp only [if_neg h3, if_neg h4, if_pos h5]; exact pk_sub (by omega)
        · rw [e]; simp only [if_neg h3, if_pos h4]
        · rw [e]; simp only [if_pos h3]
    | succ k ih =>
      intro n hn
      have ih := ih (n + 1) (by omega)
      rw [nI_pred]
      refine rX2_duty_35 x _ _ _ _ _ (br_f (nI_pos (by omega)) ⟨hK.c, ?_⟩)
      have T := t_dutyOf (Γ := Γ) (l := l) hK hs1 w1 hv1 (k + 1) (by omega)
      rw [nI_pred] at T
      refine cI.det T (by decide) ?_
      rw [← Int32.sub_eq_add_neg]
      unfold pBgF at ih
      refine ⟨fun h3 => ?_, fun h3 => ?_⟩
      · rw [if_neg h3] at ih
        exact ih
      · rw [if_pos h3] at ih
        exact ih
  exact key (cT (cw A (ix p))).length 0 (by omega)
theorem t_violationCount (hK : MK G x ma) (hs : MR (ar 0) A) (hva : RVA A) (p : Int32) : TrI Γ l mX2_violationCount 9 0 0 [.ref x, .int p] (mW G x ma sc ar) (fun v G' => v = oVioN A p ∧ ∃ sc' ar', G' = mW G x ma sc' ar' ∧ Fr [8, 9] [7] sc ar sc' ar') := by
  refine Tr.intro (by decide +kernel) (Nat.le_of_ble_eq_true rfl) ?_
  refine rX2_violationCount_0 x _ ⟨hK.c, c_isCrew hK hs p (by decide) ?_⟩
  rw [bI_0]
  refine ⟨fun h => ⟨hK.c, ?_⟩, fun h => ⟨_, rfl, by simp [oVioN, h], sc, ar, rfl, Fr.rf⟩⟩
  simp only [Bool.not_eq_false] at h
  obtain ⟨g1, g2⟩ := okC.ix hs h
  have T := t_take (Γ := Γ) (l := l) (sc := sc) (ar := ar) hK hs (ix p) g1
  rw [← g2] at T
  refine cV.mk0 T (by decide) ?_
  rintro G1 ⟨sc1, ar1, rfl, f1, w1⟩
  have hs1 : MR (ar1 0) A := hs.fr f1 (by decide)
  exact ⟨hK.c, cI.det (t_violations hK hs1 w1 (hva _ g1)) (by decide) ⟨_, rfl, by simp [oVioN, h], sc1, ar1, rfl, f1⟩⟩
theorem t_violation (hK : MK G x ma) (hs : MR (ar 0) A) (hva : RVA A) (p q w : Int32) : TrI Γ l mX2_violation 8 0 0 [.ref x, .int p, .int q, .int w] (mW G x ma sc ar) (fun v G' => v = oVio A p q w ∧ ∃ sc' ar', G' = mW G x ma sc' ar' ∧ Fr [8, 9] [7] sc ar sc' ar') := by
  refine Tr.intro (by decide +kernel) (Nat.le_of_ble_eq_true rfl) ?_
  refine rX2_violation_0 x _ _ _ ⟨hK.c, c_isCrew hK hs p (by decide) ?_⟩
  rw [bI_0]
  refine ⟨fun h => ⟨_, rfl, by simp [oVio, h], sc, ar, rfl, Fr.rf⟩, fun h => cI.det (t_in _ _ _) (by decide) ?_⟩
  simp only [Bool.not_eq_false] at h
  obtain ⟨g1, g2⟩ := okC.ix hs h
  have h24 := hs.l24 _ g1
  rw [bI_0]
  refine ⟨fun h2 => ⟨hK.c, ?_⟩, fun h2 => ⟨_, rfl, by simp [oVio, h2], sc, ar, rfl, Fr.rf⟩⟩
  simp only [Bool.not_eq_false] at h2
  have T := t_take (Γ := Γ) (l := l) (sc := sc) (ar := ar) hK hs (ix p) g1
  rw [← g2] at T
  refine cV.mk0 T (by decide) ?_
  rintro G1 ⟨sc1, ar1, rfl, f1, w1⟩
  have hs1 : MR (ar1 0) A := hs.fr f1 (by decide)
  have e : oVio A p q w = if q < 0 then -2 else match (pVs A (cB (cw A (ix p))) (cT (cw A (ix p))))[ix q]? with | none => -2 | some k => if w = 0 then nI k.1 else nI k.2 := by
    unfold oVio
    rw [if_pos (by simp [h, h2])]
    rfl
  have fin : ∀ o : Option (Nat × Nat), (∀ k, o = some k → 1 ≤ k.1 ∧ k.1 ≤ 10 ∧ k.2 < 48) → oVio A p q w = (match o with | none => -2 | some k => if w = 0 then nI k.1 else nI k.2) → GW Γ l mX2_violation 8 0 0 (fun v G' => ∃ q_1, v = some (.int q_1) ∧ q_1 = oVio A p q w ∧ ∃ sc' ar', G' = mW G x ma sc' ar' ∧ Fr [8, 9] [7] sc ar sc' ar') 37 [(0, va_rf (some x)), (1, .int p), (2, .int q), (3, .int w)] [.int (nI (vcode o))] (mW G x ma sc1 ar1) 0 0 := by
    intro o ho he
    refine rX2_violation_37 x _ _ _ _ ?_
    cases o with
    | none => exact ⟨fun h3 => absurd rfl h3, fun _ => ⟨_, rfl, by rw [he], sc1, ar1, rfl, f1⟩⟩
    | some k =>
      have hk := ho k rfl
      have D := hcode_div (p := k) ⟨hk.2.1, hk.2.2⟩
      have e2 : vcode (some k) = hcode k := rfl
      rw [e2, D.2, D.1]
      have hne : ¬ nI (hcode k) = 0 := nI_ne0 (by unfold hcode; omega) (by unfold hcode; omega)
      exact ⟨fun _ => ⟨fun h3 => ⟨_, rfl, by rw [he]; simp only [if_neg h3], sc1, ar1, rfl, f1⟩, fun h3 => ⟨_, rfl, by rw [he]; simp only [if_pos h3], sc1, ar1, rfl, f1⟩⟩, fun z => absurd z hne⟩
  refine ⟨fun h3 => ⟨hK.c, ?_⟩, fun h3 => ?_⟩
  · have h4 : ¬ q < 0 := by
      rw [Int32.lt_iff_toInt_lt]
      rw [Int32.le_iff_toInt_le] at h3
      omega
    obtain ⟨j, hj, hq⟩ := nI_of h4
    have hjx : ix q = j := by unfold ix; rw [hq, nI_clamp hj]
    rw [if_neg h4, hjx] at e
    have T := t_violationAt (Γ := Γ) (l := l) (b := cB (cw A (ix p))) hK hs1 w1 (hva _ g1)
    have T := T j hj
    rw [← hq] at T
    refine cI.det T (by decide) (fin _ (fun k hk => ?_) e)
    have := (pVs_le A (cB (cw A (ix p))) (cT (cw A (ix p)))).2 k (List.mem_of_getElem? hk)
    omega
  · have h4 : q < 0 := by
      rw [Int32.lt_iff_toInt_lt]
      rw [Int32.le_iff_toInt_le] at h3
      exact Int.not_le.mp h3
    exact fin none (fun k hk => by cases hk) (by rw [e, if_pos h4])
end MC6
