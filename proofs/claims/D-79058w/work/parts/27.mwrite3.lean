/-! M's contracts: addLeg, cancel, delay, pair -/
set_option maxRecDepth 100000
/-- as pPut of the legs that are passed, with the offers -/
def aTake (A : AS) (i : Nat) (o : Option Of) : AS := match o with
  | none => A
  | some q => aPut (if q.2.1 < 0 then A else aPut A q.1 (ix q.2.1) false) q.1 i true
def pPairF (r : List It) : Nat → Nat → AS → Nat → AS × Nat
  | _, 0, A, k => (A, k)
  | i, n + 1, A, k => pPairF r (i + 1) n (aTake A (rl r i) (pOff A (rl r i))) (k + bN (pOff A (rl r i)).isSome)
def xPair (S : SS) : Int32 × SS := let q := pPairF (pOp (sA S)) 0 (pOp (sA S)).length (sA S) 0; (nI q.2, sSet (sChg S) q.1)
/-- what stays when crews' rows change -/
def Same (A B : AS) : Prop := aN B = aN A ∧ aL B = aL A ∧ aR B = aR A ∧ (aC B).length = (aC A).length
theorem Same.rf {A : AS} : Same A A := ⟨rfl, rfl, rfl, rfl⟩
theorem Same.tr {A B C : AS} (h : Same A B) (g : Same B C) : Same A C := ⟨g.1.trans h.1, g.2.1.trans h.2.1, g.2.2.1.trans h.2.2.1, g.2.2.2.trans h.2.2.2⟩
theorem Same.set {A : AS} {c : Nat} {k : Cw} : Same A (aSetC A c k) := ⟨rfl, rfl, rfl, aC_set⟩
theorem pCan_none {i c n k : Nat} {A : AS} (h : pPl (cT (cw A c)) i = none) : pCanF i c (n + 1) A k = pCanF i (c + 1) n A k := by
  conv => lhs; unfold pCanF
  rw [h]
theorem pCan_some {i c n k j : Nat} {A : AS} (h : pPl (cT (cw A c)) i = some j) : pCanF i c (n + 1) A k = pCanF i (c + 1) n (aOut A c j) (k + 1) := by
  conv => lhs; unfold pCanF
  rw [h]
section MC12
variable {Γ : GE} {l : Launch} {G : GH} {x : Nat} {ma : Nat → Nat} {sc : Nat → Int32} {ar : Nat → Nat → Int32} {A : AS} {b : Int32} {r : List It} {S : SS}
theorem t_addLeg (hK : MK G x ma) (hT : MT sc ar S) (a b d e : Int32) : TrI Γ l mX2_addLeg 3 0 0 [.ref x, .int a, .int b, .int d, .int e] (mW G x ma sc ar) (fun v G' => v = (xAddLeg S a b d e).1 ∧ ∃ sc' ar', G' = mW G x ma sc' ar' ∧ MT sc' ar' (xAddLeg S a b d e).2) := by
  have hs := hT.1
  have h24 := hs.1
  refine Tr.intro (by decide +kernel) (Nat.le_of_ble_eq_true rfl) ?_
  have bad : (pIn a 0 5 && (pIn b 0 5 && (!decide (a = b) && pIn d 0 5999))) = false → GW Γ l mX2_addLeg 3 0 0 (fun v G' => ∃ q, v = some (.int q) ∧ q = (xAddLeg S a b d e).1 ∧ ∃ sc' ar', G' = mW G x ma sc' ar' ∧ MT sc' ar' (xAddLeg S a b d e).2) 39 [(0, va_rf (some x)), (1, .int a), (2, .int b), (3, .int d), (4, .int e)] [.int 0] (mW G x ma sc ar) 0 0 := by
    intro h
    have X : xAddLeg S a b d e = (-1, S) := by unfold xAddLeg; rw [if_neg (by rw [h]; simp)]
    rw [X]
    exact rX2_addLeg_39 x _ _ _ _ _ (br_t rfl ⟨_, rfl, rfl, sc, ar, rfl, hT⟩)
  refine rX2_addLeg_0 x _ _ _ _ (cI.det (t_in _ _ _) (by decide) ?_)
  rw [bI_0]
  refine ⟨fun h => bad (by simp [h]), fun h => cI.det (t_in _ _ _) (by decide) ?_⟩
  rw [bI_0]
  refine ⟨fun h2 => bad (by simp [h2]), fun h2 => ⟨fun h3 => bad (by simp [h3]), fun h3 => cI.det (t_in _ _ _) (by decide) ?_⟩⟩
  rw [bI_0]
  refine ⟨fun h4 => bad (by simp [h4]), fun h4 => ?_⟩
  simp only [Bool.not_eq_false] at h h2 h4
  have ok : (pIn a 0 5 && (pIn b 0 5 && (!decide (a = b) && pIn d 0 5999))) = true := by simp [h, h2, h3, h4]
  refine rX2_addLeg_39 x _ _ _ _ _ (br_f (by decide) (cI.det (t_min _ _) (by decide) (cI.det (t_in _ _ _) (by decide) ?_)))
  rw [bI_0]
  refine ⟨fun h5 => ⟨hK.c, cI.det (t_isThere hK hs _ _ _ _) (by decide) ?_⟩, fun h5 => ⟨_, rfl, by unfold xAddLeg; rw [if_neg (by rw [h5]; simp)], sc, ar, rfl, by unfold xAddLeg; rw [if_neg (by rw [h5]; simp)]; exact hT⟩⟩
  simp only [Bool.not_eq_false] at h5
  have X : xAddLeg S a b d e = if pThere (sA S) (-1) a b d then (-4, S) else if aN (sA S) = 24 then (-3, S) else (nI (aN (sA S)), sSet (sChg S) (aAddL (sA S) (legF a b d e))) := by unfold xAddLeg; rw [if_pos (by rw [ok, h5]; rfl)]
  rw [bI_0, X]
  refine ⟨fun h6 => ⟨hK.c, ma 0, hK.r 0 (by decide), hK.t 0 0 (by decide) rfl, hK.inb 0 (by decide) 0 rfl (by decide), ?_⟩, fun h6 => ?_⟩
  · rw [hK.rd (i := 0) 0 (by decide) 0 rfl (by decide), hs.nl, li_ 24, nI_eq (by omega) (by decide), if_neg (by rw [h6]; simp)]
    refine ⟨fun h7 => cV.mk0 (t_change hK hT) (by decide) ?_, fun h7 => ⟨_, rfl, by rw [if_pos h7], sc, ar, rfl, by rw [if_pos h7]; exact hT⟩⟩
    rw [if_neg h7]
    rintro G1 ⟨sc1, ar1, rfl, f1, m1⟩
    have hs1 := m1.1
    rw [sChg_A] at hs1
    refine ⟨hK.c, ma 0, hK.r 0 (by decide), hK.t 0 0 (by decide) rfl, hK.inb 0 (by decide) 0 rfl (by decide), hK.w 0 (by decide), ?_⟩
    rw [hK.rd (i := 0) 0 (by decide) 0 rfl (by decide), hs1.nl]
    generalize hn : aN (sA S) = n at *
    have i0 : (10 + (5 * nI n)) + 0 = nI (10 + (5 * n + 0)) := by simp only [li_, nI_add, pk_mul, nI_1, Nat.add_assoc]
    have i1 : (10 + (5 * nI n)) + 1 = nI (10 + (5 * n + 1)) := by simp only [li_, nI_add, pk_mul, nI_1, Nat.add_assoc]
    have i2 : (10 + (5 * nI n)) + 2 = nI (10 + (5 * n + 2)) := by simp only [li_, nI_add, pk_mul, nI_1, Nat.add_assoc]
    have i3 : (10 + (5 * nI n)) + 3 = nI (10 + (5 * n + 3)) := by simp only [li_, nI_add, pk_mul, nI_1, Nat.add_assoc]
    have i4 : (10 + (5 * nI n)) + 4 = nI (10 + (5 * n + 4)) := by simp only [li_, nI_add, pk_mul, nI_1, Nat.add_assoc]
    rw [i0, i1, i2, i3, i4, nI_clamp (n := 10 + (5 * n + 0)) (by omega), nI_clamp (n := 10 + (5 * n + 1)) (by omega), nI_clamp (n := 10 + (5 * n + 2)) (by omega), nI_clamp (n := 10 + (5 * n + 3)) (by omega), nI_clamp (n := 10 + (5 * n + 4)) (by omega)]
    refine ⟨hK.inb 0 (by decide) _ rfl (by show _ < 298; omega), ?_⟩
    rw [hK.sa 0 (by decide)]
    refine ⟨ma 0, hK.r 0 (by decide), hK.t 0 0 (by decide) rfl, hK.w 0 (by decide), hK.inb 0 (by decide) _ rfl (by show _ < 298; omega), ?_⟩
    rw [hK.sa 0 (by decide)]
    refine ⟨ma 0, hK.r 0 (by decide), hK.t 0 0 (by decide) rfl, hK.w 0 (by decide), hK.inb 0 (by decide) _ rfl (by show _ < 298; omega), ?_⟩
    rw [hK.sa 0 (by decide)]
    refine ⟨ma 0, hK.r 0 (by decide), hK.t 0 0 (by decide) rfl, hK.w 0 (by decide), hK.inb 0 (by decide) _ rfl (by show _ < 298; omega), ?_⟩
    rw [hK.sa 0 (by decide)]
    refine ⟨ma 0, hK.r 0 (by decide), hK.t 0 0 (by decide) rfl, hK.w 0 (by decide), hK.inb 0 (by decide) _ rfl (by show _ < 298; omega), ?_⟩
    rw [hK.sa 0 (by decide)]
    refine ⟨ma 0, hK.r 0 (by decide), hK.t 0 0 (by decide) rfl, hK.inb 0 (by decide) 0 rfl (by decide), hK.w 0 (by decide), hK.inb 0 (by decide) 0 rfl (by decide), ?_⟩
    obtain ⟨f, hf, hfe⟩ : ∃ f, MR f (sA S) ∧ (∀ j, j < 5 → f (10 + (5 * n + j)) = legF a b d e j) ∧ f = u1 (u1 (u1 (u1 (u1 (ar1 0) (10 + (5 * n + 0)) a) (10 + (5 * n + 1)) b) (10 + (5 * n + 2)) d) (10 + (5 * n + 3)) e) (10 + (5 * n + 4)) 0 := by
      refine ⟨_, (((((hs1.freeL _ (by rw [hn]; omega) (by omega) a).freeL _ (by rw [hn]; omega) (by omega) b).freeL _ (by rw [hn]; omega) (by omega) d).freeL _ (by rw [hn]; omega) (by omega) e).freeL _ (by rw [hn]; omega) (by omega) 0), fun j hj => ?_, rfl⟩
      unfold u1
      rcases (show j = 0 ∨ j = 1 ∨ j = 2 ∨ j = 3 ∨ j = 4 by omega) with rfl | rfl | rfl | rfl | rfl <;> simp [legF]
    have hA : MR (u1 f 0 (nI (n + 1))) (aAddL (sA S) (legF a b d e)) := by
      have := hf.addL (g := legF a b d e) (by omega) (by rw [hn]; exact hfe.1)
      rw [hn] at this
      exact this
    have hgo : mW G x ma sc1 (u1 (u1 (u1 (u1 (u1 ar1 0 (u1 (ar1 0) (10 + (5 * n + 0)) a)) 0 (u1 (u1 ar1 0 (u1 (ar1 0) (10 + (5 * n + 0)) a) 0) (10 + (5 * n + 1)) b)) 0 (u1 (u1 (u1 ar1 0 (u1 (ar1 0) (10 + (5 * n + 0)) a)) 0 (u1 (u1 ar1 0 (u1 (ar1 0) (10 + (5 * n + 0)) a) 0) (10 + (5 * n + 1)) b) 0) (10 + (5 * n + 2)) d)) 0 (u1 (u1 (u1 (u1 ar1 0 (u1 (ar1 0) (10 + (5 * n + 0)) a)) 0 (u1 (u1 ar1 0 (u1 (ar1 0) (10 + (5 * n + 0)) a) 0) (10 + (5 * n + 1)) b)) 0 (u1 (u1 (u1 ar1 0 (u1 (ar1 0) (10 + (5 * n + 0)) a)) 0 (u1 (u1 ar1 0 (u1 (ar1 0) (10 + (5 * n + 0)) a) 0) (10 + (5 * n + 1)) b) 0) (10 + (5 * n + 2)) d) 0) (10 + (5 * n + 3)) e)) 0 (u1 (u1 (u1 (u1 (u1 ar1 0 (u1 (ar1 0) (10 + (5 * n + 0)) a)) 0 (u1 (u1 ar1 0 (u1 (ar1 0) (10 + (5 * n + 0)) a) 0) (10 + (5 * n + 1)) b)) 0 (u1 (u1 (u1 ar1 0 (u1 (ar1 0) (10 + (5 * n + 0)) a)) 0 (u1 (u1 ar1 0 (u1 (ar1 0) (10 + (5 * n + 0)) a) 0) (10 + (5 * n + 1)) b) 0) (10 + (5 * n + 2)) d)) 0 (u1 (u1 (u1 (u1 ar1 0 (u1 (ar1 0) (10 + (5 * n + 0)) a)) 0 (u1 (u1 ar1 0 (u1 (ar1 0) (10 + (5 * n + 0)) a) 0) (10 + (5 * n + 1)) b)) 0 (u1 (u1 (u1 ar1 0 (u1 (ar1 0) (10 + (5 * n + 0)) a)) 0 (u1 (u1 ar1 0 (u1 (ar1 0) (10 + (5 * n + 0)) a) 0) (10 + (5 * n + 1)) b) 0) (10 + (5 * n + 2)) d) 0) (10 + (5 * n + 3)) e) 0) (10 + (5 * n + 4)) 0)) = mW G x ma sc1 (u1 ar1 0 f) := by
      congr 1
      rw [hfe.2]
      funext j
      unfold u1
      by_cases hj : j = 0 <;> simp [hj]
    rw [hgo]
    have g0 : gI (mW G x ma sc1 (u1 ar1 0 f)) (ma 0) (0 : Int32).toNatClampNeg = nI n := by
      rw [hK.rd (i := 0) 0 (by decide) 0 rfl (by decide)]
      exact hf.nl.trans (by rw [hn])
    rw [g0, nI_1, hK.sa 0 (by decide)]
    refine ⟨ma 0, hK.r 0 (by decide), hK.t 0 0 (by decide) rfl, hK.inb 0 (by decide) 0 rfl (by decide), _, rfl, ?_, _, _, rfl, ?_⟩
    · rw [hK.rd (i := 0) 0 (by decide) 0 rfl (by decide)]
      show nI (n + 1) - 1 = nI n
      exact nI_pred n
    · exact ⟨hA, m1.2.1, m1.2.2.1, m1.2.2.2.1, m1.2.2.2.2.1, m1.2.2.2.2.2⟩
  · simp only [Bool.not_eq_false] at h6
    rw [if_pos h6]
    exact ⟨_, rfl, rfl, sc, ar, rfl, hT⟩
theorem t_cancel (hK : MK G x ma) (hT : MT sc ar S) (hva : RVA (sA S)) (p : Int32) : TrI Γ l mX2_cancel 4 0 0 [.ref x, .int p] (mW G x ma sc ar) (fun v G' => v = (xCancel S p).1 ∧ ∃ sc' ar', G' = mW G x ma sc' ar' ∧ MT sc' ar' (xCancel S p).2) := by
  have hs := hT.1
  have h24n := hs.1
  have h6n := hs.2.1
  refine Tr.intro (by decide +kernel) (Nat.le_of_ble_eq_true rfl) ?_
  refine rX2_cancel_0 x _ ⟨hK.c, c_isLeg hK hs p (by decide) ?_⟩
  rw [bI_0]
  refine ⟨fun h => ⟨hK.c, ?_⟩, fun h => ⟨_, rfl, by simp [xCancel, h], sc, ar, rfl, by simp [xCancel, h]; exact hT⟩⟩
  simp only [Bool.not_eq_false] at h
  obtain ⟨g1, g2⟩ := okL.ix hs h
  have T := t_of (Γ := Γ) (l := l) (sc := sc) hK hs (ix p) 4 g1 (by decide)
  rw [← g2] at T
  refine cI.det T (by decide) ⟨fun h2 => ⟨hK.c, cV.mk0 (t_change hK hT) (by decide) ?_⟩, fun h2 => ⟨_, rfl, by simp [xCancel, h, h2], sc, ar, rfl, by simp [xCancel, h, h2]; exact hT⟩⟩
  rintro G1 ⟨sc1, ar1, rfl, f1, m1⟩
  have hs1 := m1.1
  rw [sChg_A] at hs1
  have e4 : (10 + (5 * p)) + 4 = nI (10 + (5 * ix p + 4)) := by
    conv => lhs; rw [g2]
    simp only [li_, nI_add, pk_mul, nI_1, Nat.add_assoc]
  have X : xCancel S p = (nI (pCanF (ix p) 0 (aC (sA S)).length (aSetL (sA S) (ix p) 4 1) 0).2, sSet (sChg S) (pCanF (ix p) 0 (aC (sA S)).length (aSetL (sA S) (ix p) 4 1) 0).1) := by unfold xCancel; rw [if_pos h, if_neg h2]
  rw [X]
  refine ⟨hK.c, ma 0, hK.r 0 (by decide), hK.t 0 0 (by decide) rfl, hK.w 0 (by decide), hK.inb 0 (by decide) _ e4 (by show _ < 298; omega), ?_⟩
  rw [e4, nI_clamp (by omega), hK.sa 0 (by decide)]
  have key : ∀ n c sc2 ar2 (A : AS) (k : Nat), c + n = (aC (sA S)).length → MT sc2 ar2 (sSet (sChg S) A) → Same (sA S) (aSetL (sA S) (ix p) 4 1) ∨ True → (aC A).length = (aC (sA S)).length → aN A = aN (sA S) → RVA A → k ≤ c → pCanF (ix p) c n A k = pCanF (ix p) 0 (aC (sA S)).length (aSetL (sA S) (ix p) 4 1) 0 → GW Γ l mX2_cancel 4 0 0 (fun v G' => ∃ q, v = some (.int q) ∧ q = nI (pCanF (ix p) 0 (aC (sA S)).length (aSetL (sA S) (ix p) 4 1) 0).2 ∧ ∃ sc' ar', G' = mW G x ma sc' ar' ∧ MT sc' ar' (sSet (sChg S) (pCanF (ix p) 0 (aC (sA S)).length (aSetL (sA S) (ix p) 4 1) 0).1)) 45 [(0, va_rf (some x)), (1, .int p), (2, .int (nI k)), (3, .int (nI c))] [] (mW G x ma sc2 ar2) 0 0 := by
    intro n
    induction n with
    | zero =>
      intro c sc2 ar2 A k hc m2 _ hl hnn hv hkc he
      have hs2 : MR (ar2 0) A := m2.1
      refine rX2_cancel_45 x _ _ _ ⟨hK.c, ma 0, hK.r 0 (by decide), hK.t 0 0 (by decide) rfl, hK.inb 0 (by decide) 1 rfl (by decide), ?_⟩
      rw [hK.rd (i := 1) 0 (by decide) 1 rfl (by decide), hs2.nc]
      exact br_t (nI_le (by omega) (by omega)) ⟨_, rfl, by rw [← he]; rfl, sc2, ar2, rfl, by rw [← he]; exact m2⟩
    | succ n ih =>
      intro c sc2 ar2 A k hc m2 _ hl hnn hv hkc he
      have hs2 : MR (ar2 0) A := m2.1
      have hcl : c < (aC A).length := by omega
      have h24c := hs2.l24 c hcl
      refine rX2_cancel_45 x _ _ _ ⟨hK.c, ma 0, hK.r 0 (by decide), hK.t 0 0 (by decide) rfl, hK.inb 0 (by decide) 1 rfl (by decide), ?_⟩
      rw [hK.rd (i := 1) 0 (by decide) 1 rfl (by decide), hs2.nc]
      have T := t_placeIn (Γ := Γ) (l := l) (sc := sc2) hK hs2 c (ix p) hcl (by omega) (hv c hcl)
      rw [← g2] at T
      refine br_f (nI_ge (by omega) (by omega)) (cI.det T (by decide) ?_)
      cases hp : pPl (cT (cw A c)) (ix p) with
      | none =>
        rw [pCan_none hp] at he
        refine br_t (by decide) ?_
        rw [nI_1]
        exact ih (c + 1) sc2 ar2 A k (by omega) m2 (Or.inr trivial) hl hnn hv (by omega) he
      | some j =>
        rw [pCan_some hp] at he
        have hj := pFind_some _ _ hp
        refine br_f (nI_pos (by omega)) ⟨hK.c, cV.mk0 (t_take hK hs2 c hcl) (by decide) ?_⟩
        rintro G3 ⟨sc3, ar3, rfl, f3, w3⟩
        refine ⟨hK.c, cV.mk0 (t_takeOut hK w3 j (by omega)) (by decide) ?_⟩
        rintro G4 ⟨sc4, ar4, rfl, f4, w4⟩
        have hs4 : MR (ar4 0) A := (hs2.fr f3 (by decide)).fr f4 (by decide)
        refine ⟨hK.c, cV.mk0 (t_give hK hs4 w4 (by rw [List.length_eraseIdx, if_pos (by omega)]; omega) c hcl) (by decide) ?_⟩
        rintro G5 ⟨sc5, ar5, rfl, f5, w5, m5⟩
        rw [nI_1, nI_1]
        have hT5 : MT sc5 ar5 (sSet (sChg S) (aOut A c j)) := m2.fr0 (((f3.wide (by decide) (by decide)).tr (f4.wide (by decide) (by decide))).tr (f5.wide (by decide) (by decide))) m5
        exact ih (c + 1) sc5 ar5 (aOut A c j) (k + 1) (by omega) hT5 (Or.inr trivial) (by unfold aOut; rw [aC_set]; exact hl) hnn (hv.set hcl ((hv c hcl).ers (by omega))) (by omega) he
  exact key (aC (sA S)).length 0 sc1 _ (aSetL (sA S) (ix p) 4 1) 0 (by omega) (m1.set (hs1.setL (ix p) 4 g1 (by decide) 1)) (Or.inr trivial) rfl rfl hva (Nat.le_refl _) rfl
end MC12
