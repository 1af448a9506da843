/-! M's contracts: pairings, cost, open legs, reserves -/
set_option maxRecDepth 100000
theorem sumN_congr {f g : Nat → Int32} {a : Nat} : ∀ n, (∀ k, a ≤ k → k < a + n → f k = g k) → sumN f a n = sumN g a n := by
  intro n
  induction n with
  | zero => intro _; rfl
  | succ n ih =>
    intro h
    rw [sumN_succ, sumN_succ, ih (fun k h1 h2 => h k h1 (by omega)), h (a + n) (by omega) (by omega)]
theorem sumN_zero {f : Nat → Int32} {a : Nat} : ∀ n, (∀ k, a ≤ k → k < a + n → f k = 0) → sumN f a n = 0 := by
  intro n
  induction n with
  | zero => intro _; rfl
  | succ n ih =>
    intro h
    rw [sumN_succ, ih (fun k h1 h2 => h k h1 (by omega)), h (a + n) (by omega) (by omega), Int32.add_zero]
theorem sumN_one {f : Nat → Int32} {j : Nat} (hf : ∀ k, k ≠ j → f k = 0) : ∀ n, j < n → sumN f 0 n = f j := by
  intro n
  induction n with
  | zero => intro h; omega
  | succ n ih =>
    intro h
    rw [sumN_succ, Nat.zero_add]
    by_cases hn : n = j
    · subst hn
      rw [sumN_zero n (fun k _ h2 => hf k (by omega)), Int32.zero_add]
    · rw [ih (by omega), hf n hn, Int32.add_zero]
/-- may a crew be called for a leg -/
def pCan (A : AS) (c i : Nat) : Bool := pRes (cw A c) && (!decide (aL A i 2 < cS (cw A c) + 120) && (!decide (cE (cw A c) < aL A i 3) && decide (pHin A (cB (cw A c)) (cT (cw A c)) i true = (0, 0))))
def pCSt (A : AS) (c : Nat) (o : Option (Nat × Int32)) : Option (Nat × Int32) := match o with
  | none => some (c, pMin A c)
  | some q => if q.2 ≤ pMin A c then some q else some (c, pMin A c)
def pCallF (A : AS) (i : Nat) : Nat → Nat → Option (Nat × Int32) → Option (Nat × Int32)
  | _, 0, o => o
  | c, n + 1, o => pCallF A i (c + 1) n (if pCan A c i then pCSt A c o else o)
def pCall (A : AS) (i : Nat) : Option (Nat × Int32) := pCallF A i 0 (aC A).length none
def cN (o : Option (Nat × Int32)) : Int32 := match o with
  | none => -2
  | some q => nI q.1
def oCalled (A : AS) (p : Int32) : Int32 := if okL A p then (if pOpen A (ix p) then cN (pCall A (ix p)) else -2) else -1
def oRepaired (m : List Rm) (p w : Int32) : Int32 := if pIn w 0 3 then (if pIn p 0 (nI m.length - 1) then (match m[ix p]? with
  | none => -2
  | some q => if w = 0 then nI q.1 else if w = 1 then nI q.2.1 else if w = 2 then bI q.2.2.1 else q.2.2.2) else -2) else -1
section MC7
variable {Γ : GE} {l : Launch} {G : GH} {x : Nat} {ma : Nat → Nat} {sc : Nat → Int32} {ar : Nat → Nat → Int32} {A : AS} {b : Int32} {r : List It}
theorem t_pairings (hK : MK G x ma) (hs : MR (ar 0) A) (hva : RVA A) (p : Int32) : TrI Γ l mX2_pairings 4 0 0 [.ref x, .int p] (mW G x ma sc ar) (fun v G' => v = oPair A p ∧ ∃ sc' ar', G' = mW G x ma sc' ar' ∧ Fr [8, 9] [7] sc ar sc' ar') := by
  refine Tr.intro (by decide +kernel) (Nat.le_of_ble_eq_true rfl) ?_
  refine rX2_pairings_0 x _ ⟨hK.c, c_isCrew hK hs p (by decide) ?_⟩
  rw [bI_0]
  refine ⟨fun h => ⟨hK.c, ?_⟩, fun h => ⟨_, rfl, by simp [oPair, h], sc, ar, rfl, Fr.rf⟩⟩
  simp only [Bool.not_eq_false] at h
  obtain ⟨g1, g2⟩ := okC.ix hs h
  have h24 := hs.l24 _ g1
  have T := t_take (Γ := Γ) (l := l) (sc := sc) (ar := ar) hK hs (ix p) g1
  rw [← g2] at T
  refine cV.mk0 T (by decide) ?_
  rintro G1 ⟨sc1, ar1, rfl, f1, w1⟩
  have hs1 : MR (ar1 0) A := hs.fr f1 (by decide)
  have hv1 := hva _ g1
  generalize hr : cT (cw A (ix p)) = r at *
  generalize hb : cB (cw A (ix p)) = b at *
  have key : ∀ n k, k + n = r.length → GW Γ l mX2_pairings 4 0 0 (fun v G' => ∃ q, v = some (.int q) ∧ q = oPair A p ∧ ∃ sc' ar', G' = mW G x ma sc' ar' ∧ Fr [8, 9] [7] sc ar sc' ar') 19 [(0, va_rf (some x)), (1, .int p), (2, .int (sumN (pPr1 A b r) 0 k)), (3, .int (nI k))] [] (mW G x ma sc1 ar1) 0 0 := by
    intro n
    induction n with
    | zero =>
      intro k hk
      refine rX2_pairings_19 x _ _ _ ⟨hK.c, ?_⟩
      rw [mW_x hK, w1.1]
      refine br_t (nI_le (by omega) (by omega)) ⟨_, rfl, ?_, sc1, ar1, rfl, f1⟩
      unfold oPair
      rw [if_pos h, hr, hb, show r.length = k by omega]
    | succ n ih =>
      intro k hk
      refine rX2_pairings_19 x _ _ _ ⟨hK.c, ?_⟩
      rw [mW_x hK, w1.1]
      refine br_f (nI_ge (by omega) (by omega)) (cI.det (t_legAt hK hs1 w1 hv1 k (by omega)) (by decide) ⟨hK.c, cI.det (t_of hK hs1 _ 1 (hv1 _ (by omega)) (by decide)) (by decide) ⟨hK.c, ?_⟩⟩)
      rw [mW_x hK, mW_x hK, w1.1, w1.2.1, nI_1, nI_eq (by omega) (by omega)]
      have ih := ih (k + 1) (by omega)
      rw [sumN_succ, Nat.zero_add] at ih
      refine ⟨fun h1 => ?_, fun h1 => ⟨fun h2 => ?_, fun h2 => cI.det (t_beginsDuty hK hs1 w1 hv1 (k + 1) (by omega)) (by decide) ?_⟩⟩
      · rw [show pPr1 A b r k = 0 by simp [pPr1, h1, bI]] at ih
        exact ih
      · rw [show pPr1 A b r k = 1 by simp [pPr1, h1, h2, bI]] at ih
        exact ih
      · rw [bI_0]
        refine ⟨fun h3 => ?_, fun h3 => ?_⟩
        · rw [show pPr1 A b r k = 0 by simp [pPr1, h2, h3, bI]] at ih
          exact ih
        · rw [show pPr1 A b r k = 1 by simp only [Bool.not_eq_false] at h3; simp [pPr1, h1, h3, bI]] at ih
          exact ih
  exact key r.length 0 (by omega)
theorem t_costOf (hK : MK G x ma) (hs : MR (ar 0) A) (hva : RVA A) (c : Nat) (hc : c < (aC A).length) (w : Int32) : TrI Γ l mX2_costOf 4 0 0 [.ref x, .int (nI c), .int w] (mW G x ma sc ar) (fun v G' => v = pCost A c w ∧ ∃ sc' ar', G' = mW G x ma sc' ar' ∧ Fr [8, 9] [7] sc ar sc' ar') := by
  have h24 := hs.l24 _ hc
  refine Tr.intro (by decide +kernel) (Nat.le_of_ble_eq_true rfl) ?_
  refine rX2_costOf_0 x _ _ ⟨hK.c, cV.mk0 (t_take hK hs c hc) (by decide) ?_⟩
  rintro G1 ⟨sc1, ar1, rfl, f1, w1⟩
  have hs1 : MR (ar1 0) A := hs.fr f1 (by decide)
  have hv1 := hva _ hc
  have e : pCost A c w = if w = 0 then sumN (pRd1 A (cT (cw A c))) 0 (cT (cw A c)).length else if w = 1 then sumN (pNg1 A (cB (cw A c)) (cT (cw A c))) 0 (cT (cw A c)).length else sumN (pRd1 A (cT (cw A c))) 0 (cT (cw A c)).length + sumN (pNg1 A (cB (cw A c)) (cT (cw A c))) 0 (cT (cw A c)).length := rfl
  generalize cT (cw A c) = r at *
  generalize cB (cw A c) = b at *
  have key : ∀ n k, k + n = r.length → GW Γ l mX2_costOf 4 0 0 (fun v G' => ∃ q, v = some (.int q) ∧ q = pCost A c w ∧ ∃ sc' ar', G' = mW G x ma sc' ar' ∧ Fr [8, 9] [7] sc ar sc' ar') 13 [(0, va_rf (some x)), (1, .int (nI c)), (2, .int w), (3, .int (sumN (pRd1 A r) 0 k)), (4, .int (sumN (pNg1 A b r) 0 k)), (5, .int (nI k))] [] (mW G x ma sc1 ar1) 0 0 := by
    intro n
    induction n with
    | zero =>
      intro k hk
      refine rX2_costOf_13 x _ _ _ _ _ ⟨hK.c, ?_⟩
      rw [mW_x hK, w1.1]
      rw [show r.length = k by omega] at e
      refine br_t (nI_le (by omega) (by omega)) ⟨fun h1 => ⟨fun h2 => ⟨_, rfl, by rw [e, if_neg h1, if_neg h2], sc1, ar1, rfl, f1⟩, fun h2 => ⟨_, rfl, by rw [e, if_neg h1, if_pos h2], sc1, ar1, rfl, f1⟩⟩, fun h1 => ⟨_, rfl, by rw [e, if_pos h1], sc1, ar1, rfl, f1⟩⟩
    | succ n ih =>
      intro k hk
      have ih := ih (k + 1) (by omega)
      rw [sumN_succ, sumN_succ, Nat.zero_add] at ih
      have rest : GW Γ l mX2_costOf 4 0 0 (fun v G' => ∃ q, v = some (.int q) ∧ q = pCost A c w ∧ ∃ sc' ar', G' = mW G x ma sc' ar' ∧ Fr [8, 9] [7] sc ar sc' ar') 54 [(0, va_rf (some x)), (1, .int (nI c)), (2, .int w), (3, .int (sumN (pRd1 A r) 0 k)), (4, .int (sumN (pNg1 A b r) 0 k)), (5, .int (nI k))] [.int (pRd1 A r k), .int (sumN (pRd1 A r) 0 k)] (mW G x ma sc1 ar1) 0 0 := by
        refine rX2_costOf_54 x _ _ _ _ _ _ _ ⟨hK.c, ?_⟩
        rw [mW_x hK, w1.1, nI_1, nI_leI (by omega) (by omega)]
        refine ⟨fun h1 => ?_, fun h1 => cI.det (t_beginsDuty hK hs1 w1 hv1 (k + 1) (by omega)) (by decide) ?_⟩
        · rw [show pNg1 A b r k = 0 by unfold pNg1; rw [if_neg (fun z => absurd z.1 (by omega))]] at ih
          exact ih
        · rw [bI_0]
          refine ⟨fun h2 => ?_, fun h2 => ⟨hK.c, cI.det (t_legAt hK hs1 w1 hv1 k (by omega)) (by decide) ⟨hK.c, cI.det (t_of hK hs1 _ 1 (hv1 _ (by omega)) (by decide)) (by decide) ⟨hK.c, ?_⟩⟩⟩⟩
          · rw [show pNg1 A b r k = 0 by unfold pNg1; rw [if_neg (fun z => by rw [h2] at z; exact absurd z.2.1 (by decide))]] at ih
            exact ih
          · simp only [Bool.not_eq_false] at h2
            rw [mW_x hK, w1.2.1]
            refine ⟨fun h3 => ?_, fun h3 => ⟨ma 0, hK.r 0 (by decide), hK.t 0 0 (by decide) rfl, hK.inb 0 (by decide) 9 rfl (by decide), ?_⟩⟩
            · rw [show pNg1 A b r k = 0 by unfold pNg1; rw [if_neg (fun z => z.2.2 h3)]] at ih
              exact ih
            · rw [hK.rd (i := 9) 0 (by decide) 9 rfl (by decide), hs1.ru 7 (by decide)]
              rw [show pNg1 A b r k = aR A 7 by unfold pNg1; rw [if_pos ⟨by omega, h2, h3⟩]] at ih
              exact ih
      refine rX2_costOf_13 x _ _ _ _ _ ⟨hK.c, ?_⟩
      rw [mW_x hK, w1.1]
      refine br_f (nI_ge (by omega) (by omega)) (cI.det (t_isFlown hK hs1 w1 hv1 k (by omega)) (by decide) ?_)
      rw [bI_0]
      refine ⟨fun h1 => ⟨hK.c, cI.det (t_legAt hK hs1 w1 hv1 k (by omega)) (by decide) ⟨hK.c, cI.det (t_lengthOf hK hs1 _ (hv1 _ (by omega))) (by decide) ⟨hK.c, ma 0, hK.r 0 (by decide), hK.t 0 0 (by decide) rfl, hK.inb 0 (by decide) 8 rfl (by decide), ?_⟩⟩⟩, fun h1 => ?_⟩
      · rw [hK.rd (i := 8) 0 (by decide) 8 rfl (by decide), hs1.ru 6 (by decide)]
        rw [show pRd1 A r k = pLen A (rl r k) * aR A 6 by simp [pRd1, h1]] at rest
        exact rest
      · rw [show pRd1 A r k = 0 by simp only [Bool.not_eq_false] at h1; simp [pRd1, h1]] at rest
        exact rest
  exact key r.length 0 (by omega)
theorem t_cost (hK : MK G x ma) (hs : MR (ar 0) A) (hva : RVA A) (p w : Int32) : TrI Γ l mX2_cost 5 0 0 [.ref x, .int p, .int w] (mW G x ma sc ar) (fun v G' => v = oCost A p w ∧ ∃ sc' ar', G' = mW G x ma sc' ar' ∧ Fr [8, 9] [7] sc ar sc' ar') := by
  have h6 := hs.2.1
  refine Tr.intro (by decide +kernel) (Nat.le_of_ble_eq_true rfl) ?_
  have main : (p = -1 ∨ okC A p = true) → pIn w 0 2 = true → GW Γ l mX2_cost 5 0 0 (fun v G' => ∃ q, v = some (.int q) ∧ q = oCost A p w ∧ ∃ sc' ar', G' = mW G x ma sc' ar' ∧ Fr [8, 9] [7] sc ar sc' ar') 29 [(0, va_rf (some x)), (1, .int p), (2, .int w), (3, .int 0), (4, .int 0)] [] (mW G x ma sc ar) 0 0 := by
    intro hp hw2
    have e : oCost A p w = sumN (fun k => if p = -1 ∨ p = nI k then pCost A k w else 0) 0 (aC A).length := by
      unfold oCost
      rw [if_pos (by rcases hp with rfl | hp <;> simp [*])]
      by_cases h1 : p = -1
      · rw [if_pos h1]
        exact sumN_congr _ (fun k _ _ => by rw [if_pos (Or.inl h1)])
      · rw [if_neg h1]
        rcases hp with hp | hp
        · exact absurd hp h1
        · obtain ⟨g1, g2⟩ := okC.ix hs hp
          have e2 : sumN (fun k => if p = -1 ∨ p = nI k then pCost A k w else 0) 0 (aC A).length = sumN (fun k => if k = ix p then pCost A k w else 0) 0 (aC A).length := by
            refine sumN_congr _ (fun k _ hk => ?_)
            by_cases hkp : k = ix p
            · rw [if_pos (Or.inr (by rw [hkp]; exact g2)), if_pos hkp]
            · rw [if_neg hkp, if_neg]
              rintro (z | z)
              · exact h1 z
              · rw [g2] at z
                exact hkp (nI_e (by omega) (by omega) z).symm
          rw [e2, sumN_one (j := ix p) (fun k hk => by rw [if_neg hk]) _ g1, if_pos rfl]
    have key : ∀ n k sc1 ar1, k + n = (aC A).length → Fr [8, 9] [7] sc ar sc1 ar1 → GW Γ l mX2_cost 5 0 0 (fun v G' => ∃ q, v = some (.int q) ∧ q = oCost A p w ∧ ∃ sc' ar', G' = mW G x ma sc' ar' ∧ Fr [8, 9] [7] sc ar sc' ar') 29 [(0, va_rf (some x)), (1, .int p), (2, .int w), (3, .int (sumN (fun k => if p = -1 ∨ p = nI k then pCost A k w else 0) 0 k)), (4, .int (nI k))] [] (mW G x ma sc1 ar1) 0 0 := by
      intro n
      induction n with
      | zero =>
        intro k sc1 ar1 hk f1
        have hs1 : MR (ar1 0) A := hs.fr f1 (by decide)
        refine rX2_cost_29 x _ _ _ _ ⟨hK.c, ma 0, hK.r 0 (by decide), hK.t 0 0 (by decide) rfl, hK.inb 0 (by decide) 1 rfl (by decide), ?_⟩
        rw [hK.rd (i := 1) 0 (by decide) 1 rfl (by decide), hs1.nc]
        refine br_t (nI_le (by omega) (by omega)) ⟨_, rfl, by rw [e, show (aC A).length = k by omega], sc1, ar1, rfl, f1⟩
      | succ n ih =>
        intro k sc1 ar1 hk f1
        have hs1 : MR (ar1 0) A := hs.fr f1 (by decide)
        refine rX2_cost_29 x _ _ _ _ ⟨hK.c, ma 0, hK.r 0 (by decide), hK.t 0 0 (by decide) rfl, hK.inb 0 (by decide) 1 rfl (by decide), ?_⟩
        rw [hK.rd (i := 1) 0 (by decide) 1 rfl (by decide), hs1.nc, nI_1]
        have ih := fun sc2 ar2 => ih (k + 1) sc2 ar2 (by omega)
        simp only [sumN_succ, Nat.zero_add] at ih
        have C : (p = -1 ∨ p = nI k) → cI Γ l 5 mX2_costOf [.ref x, .int (nI k), .int w] (mW G x ma sc1 ar1) 0 0 (fun r6 Gr6 br6 sr6 => GW Γ l mX2_cost 5 0 0 (fun v G' => ∃ q, v = some (.int q) ∧ q = oCost A p w ∧ ∃ sc' ar', G' = mW G x ma sc' ar' ∧ Fr [8, 9] [7] sc ar sc' ar') 29 [(0, va_rf (some x)), (1, .int p), (2, .int w), (3, .int (sumN (fun k => if p = -1 ∨ p = nI k then pCost A k w else 0) 0 k + r6)), (4, .int (nI (k + 1)))] [] Gr6 br6 sr6) := by
          intro hc
          refine cI.mk0 (t_costOf hK hs1 hva k (by omega) w) (by decide) ?_
          rintro v G2 ⟨rfl, sc2, ar2, rfl, f2⟩
          have ih := ih sc2 ar2 (f1.tr f2)
          rw [if_pos hc] at ih
          exact ih
        refine br_f (nI_ge (by omega) (by omega)) ⟨fun h1 => C (Or.inl h1), fun h1 => ⟨fun h2 => ?_, fun h2 => C (Or.inr h2)⟩⟩
        have ih := ih sc1 ar1 f1
        rw [if_neg (fun z => z.elim h1 h2)] at ih
        exact ih
    exact key (aC A).length 0 sc ar (by omega) Fr.rf
  refine rX2_cost_0 x _ _ ⟨fun h1 => cI.det (t_in _ _ _) (by decide) ?_, fun h1 => ⟨hK.c, c_isCrew hK hs p (by decide) ?_⟩⟩
  · rw [bI_0]
    refine ⟨fun h2 => main (Or.inl h1) (by simpa using h2), fun h2 => ⟨_, rfl, by simp [oCost, h2], sc, ar, rfl, Fr.rf⟩⟩
  · rw [bI_0]
    refine ⟨fun h2 => ⟨_, rfl, by simp [oCost, h1, h2], sc, ar, rfl, Fr.rf⟩, fun h2 => cI.det (t_in _ _ _) (by decide) ?_⟩
    rw [bI_0]
    exact ⟨fun h3 => main (Or.inr (by simpa using h2)) (by simpa using h3), fun h3 => ⟨_, rfl, by simp [oCost, h3], sc, ar, rfl, Fr.rf⟩⟩
theorem t_isReserve (hK : MK G x ma) (hs : MR (ar 0) A) (c : Nat) (hc : c < (aC A).length) : TrI Γ l mX2_isReserve 2 0 0 [.ref x, .int (nI c)] (mW G x ma sc ar) (fun v G' => v = bI (pRes (cw A c)) ∧ G' = (mW G x ma sc ar)) := by
  have h6 := hs.2.1
  refine Tr.intro (by decide +kernel) (Nat.le_of_ble_eq_true rfl) ?_
  refine rX2_isReserve_0 x _ ⟨hK.c, cI.det (t_ofCrew hK c 1 (by omega) (by decide)) (by decide) ⟨hK.c, cI.det (t_ofCrew hK c 2 (by omega) (by decide)) (by decide) ?_⟩⟩
  rw [hs.s c hc, hs.e c hc]
  exact ⟨fun h => ⟨_, rfl, by simp [pRes, h, bI], rfl⟩, fun h => ⟨_, rfl, by simp [pRes, h, bI], rfl⟩⟩
theorem t_reserve (hK : MK G x ma) (hs : MR (ar 0) A) (p w : Int32) : TrI Γ l mX2_reserve 3 0 0 [.ref x, .int p, .int w] (mW G x ma sc ar) (fun v G' => v = oReserve A p w ∧ G' = (mW G x ma sc ar)) := by
  have h6 := hs.2.1
  refine Tr.intro (by decide +kernel) (Nat.le_of_ble_eq_true rfl) ?_
  refine rX2_reserve_0 x _ _ ⟨hK.c, c_isCrew hK hs p (by decide) ?_⟩
  rw [bI_0]
  refine ⟨fun h => ⟨_, rfl, by simp [oReserve, h], rfl⟩, fun h => cI.det (t_in _ _ _) (by decide) ?_⟩
  simp only [Bool.not_eq_false] at h
  obtain ⟨g1, g2⟩ := okC.ix hs h
  rw [bI_0]
  refine ⟨fun h2 => ⟨hK.c, ?_⟩, fun h2 => ⟨_, rfl, by simp [oReserve, h2], rfl⟩⟩
  simp only [Bool.not_eq_false] at h2
  obtain ⟨g3, g4⟩ := pIn_nI (n := 1) (by decide) h2
  have T := t_isReserve (Γ := Γ) (l := l) (sc := sc) hK hs (ix p) g1
  rw [← g2] at T
  refine cI.det T (by decide) ?_
  rw [bI_0]
  refine ⟨fun h3 => ⟨_, rfl, by simp [oReserve, h, h2, h3], rfl⟩, fun h3 => ⟨hK.c, ?_⟩⟩
  simp only [Bool.not_eq_false] at h3
  have e : 1 + w = nI (1 + ix w) := by
    conv => lhs; rw [g4]
    simp only [li_, nI_add, pk_mul, nI_1, Nat.add_assoc]
  have T := t_ofCrew (Γ := Γ) (l := l) (sc := sc) (ar := ar) hK (ix p) (1 + ix w) (by omega) (by omega)
  rw [← g2, ← e] at T
  refine cI.det T (by decide) ⟨_, rfl, ?_, rfl⟩
  have e2 : oReserve A p w = if w = 0 then cS (cw A (ix p)) else cE (cw A (ix p)) := by simp [oReserve, h, h2, h3]
  rw [e2]
  rcases (show ix w = 0 ∨ ix w = 1 by omega) with z | z
  · rw [z, hs.s _ g1, if_pos (by rw [g4, z]; rfl)]
  · rw [z, hs.e _ g1, if_neg (by rw [g4, z]; decide)]
theorem t_isOpen (hK : MK G x ma) (hs : MR (ar 0) A) (hva : RVA A) (i : Nat) (hi : i < aN A) : TrI Γ l mX2_isOpen 4 0 0 [.ref x, .int (nI i)] (mW G x ma sc ar) (fun v G' => v = bI (pOpen A i) ∧ G' = (mW G x ma sc ar)) := by
  have h24 := hs.1
  have h6 := hs.2.1
  refine Tr.intro (by decide +kernel) (Nat.le_of_ble_eq_true rfl) ?_
  refine rX2_isOpen_0 x _ ⟨hK.c, cI.det (t_of hK hs i 4 hi (by decide)) (by decide) ⟨fun h => ⟨_, rfl, by simp [pOpen, h, bI], rfl⟩, fun h => ⟨hK.c, cI.det (t_flierOf hK hs hva i (by omega)) (by decide) ?_⟩⟩⟩
  cases hf : pFly A i with
  | none => exact ⟨fun z => absurd z (by decide), fun _ => ⟨_, rfl, by simp [pOpen, h, hf, bI], rfl⟩⟩
  | some c =>
    have := pFly_lt hf
    exact ⟨fun z => ⟨_, rfl, by simp [pOpen, hf, bI], rfl⟩, fun z => absurd (nI_pos' (by omega)) z⟩
end MC7
