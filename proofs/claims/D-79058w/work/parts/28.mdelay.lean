/-! rows without repetition; M's contracts: delay, pair -/
set_option maxRecDepth 100000
theorem inj_le : ∀ (n m : Nat) (f : Nat → Nat), (∀ i, i < n → f i < m) → (∀ i j, i < n → j < n → f i = f j → i = j) → n ≤ m := by
  intro n
  induction n with
  | zero => intro m f _ _; exact Nat.zero_le _
  | succ n ih =>
    intro m f h1 h2
    have hv := h1 n (Nat.lt_succ_self n)
    have := ih (m - 1) (fun i => if f n < f i then f i - 1 else f i) (fun i hi => ?_) (fun i j hi hj e => ?_)
    · omega
    · have a := h1 i (by omega)
      show (if f n < f i then f i - 1 else f i) < m - 1
      split
      · omega
      · have : f i ≠ f n := fun z => by have := h2 i n (by omega) (by omega) z; omega
        omega
    · have a : f i ≠ f n := fun z => by have := h2 i n (by omega) (by omega) z; omega
      have b : f j ≠ f n := fun z => by have := h2 j n (by omega) (by omega) z; omega
      have e : (if f n < f i then f i - 1 else f i) = (if f n < f j then f j - 1 else f j) := e
      refine h2 i j (by omega) (by omega) ?_
      split at e <;> split at e <;> omega
def RD (r : List It) : Prop := ∀ i j, i < r.length → j < r.length → rl r i = rl r j → i = j
def WR (A : AS) : Prop := aN A ≤ 24 ∧ RVA A ∧ ∀ c, c < (aC A).length → RD (cT (cw A c))
theorem pPl_none {r : List It} {i : Nat} : pPl r i = none ↔ ∀ j, j < r.length → rl r j ≠ i := by
  refine ⟨fun h j hj => pFind_none _ _ h j (Nat.zero_le _) (by omega), fun h => pFind_no _ _ (fun j _ hj => h j (by omega))⟩
theorem RD.len {A : AS} {r : List It} (hd : RD r) (hv : RV A r) {i : Nat} (hi : i < aN A) (h : pPl r i = none) : r.length < aN A := by
  rw [pPl_none] at h
  have := inj_le (r.length + 1) (aN A) (fun j => if j < r.length then rl r j else i) (fun j hj => ?_) (fun j k hj hk e => ?_)
  · omega
  · show (if j < r.length then rl r j else i) < aN A
    split
    · exact hv j (by assumption)
    · exact hi
  · have e : (if j < r.length then rl r j else i) = (if k < r.length then rl r k else i) := e
    split at e <;> split at e
    · exact hd j k (by assumption) (by assumption) e
    · exact absurd e (h j (by assumption))
    · exact absurd e.symm (h k (by assumption))
    · omega
theorem WR.rlen {A : AS} (h : WR A) : RLen A := fun c i hc hi hn => by
  have := (h.2.2 c hc).len (h.2.1 c hc) hi hn
  have := h.1
  omega
theorem rl_put_or {A : AS} {r : List It} {i : Nat} {f : Bool} (j : Nat) (hj : j < r.length + 1) : (j = pPos A r i ∧ rl (pPut A r i f) j = i) ∨ ∃ k, k < r.length ∧ (j ≠ pPos A r i) ∧ rl (pPut A r i f) j = rl r k ∧ k = if j < pPos A r i then j else j - 1 := by
  have hp := pPos_le A r i
  rw [rl_put]
  by_cases h1 : j < pPos A r i
  · exact Or.inr ⟨j, by omega, by omega, by rw [if_pos h1], by rw [if_pos h1]⟩
  · by_cases h2 : j = pPos A r i
    · exact Or.inl ⟨h2, by rw [if_neg h1, if_pos h2]⟩
    · exact Or.inr ⟨j - 1, by omega, h2, by rw [if_neg h1, if_neg h2], by rw [if_neg h1]⟩
theorem RD.put {A : AS} {r : List It} {i : Nat} {f : Bool} (hd : RD r) (hn : pPl r i = none) : RD (pPut A r i f) := by
  rw [pPl_none] at hn
  intro j k hj hk e
  rw [pPut_len] at hj hk
  rcases rl_put_or (A := A) (r := r) (i := i) (f := f) j hj with ⟨a1, a2⟩ | ⟨p, a1, a2, a3, a4⟩ <;> rcases rl_put_or (A := A) (r := r) (i := i) (f := f) k hk with ⟨b1, b2⟩ | ⟨q, b1, b2, b3, b4⟩
  · omega
  · rw [a2, b3] at e
    exact absurd e.symm (hn q b1)
  · rw [a3, b2] at e
    exact absurd e (hn p a1)
  · rw [a3, b3] at e
    have := hd p q a1 b1 e
    split at a4 <;> split at b4 <;> omega
theorem pPl_put {A : AS} {r : List It} {i k : Nat} {f : Bool} (hk : k ≠ i) (hn : pPl r k = none) : pPl (pPut A r i f) k = none := by
  rw [pPl_none] at hn ⊢
  intro j hj
  rw [pPut_len] at hj
  rcases rl_put_or (A := A) (r := r) (i := i) (f := f) j hj with ⟨a1, a2⟩ | ⟨p, a1, a2, a3, a4⟩
  · rw [a2]; exact Ne.symm hk
  · rw [a3]; exact hn p a1
theorem RD.ers {r : List It} {k : Nat} (hd : RD r) (hk : k < r.length) : RD (r.eraseIdx k) := by
  intro i j hi hj e
  rw [List.length_eraseIdx, if_pos hk] at hi hj
  rw [rl_ers, rl_ers] at e
  split at e <;> split at e
  · exact hd i j (by omega) (by omega) e
  · have := hd i (j + 1) (by omega) (by omega) e; omega
  · have := hd (i + 1) j (by omega) (by omega) e; omega
  · have := hd (i + 1) (j + 1) (by omega) (by omega) e; omega
theorem WR.set {A : AS} (h : WR A) {c : Nat} (hc : c < (aC A).length) {k : Cw} (h1 : RV A (cT k)) (h2 : RD (cT k)) : WR (aSetC A c k) := by
  refine ⟨h.1, h.2.1.set hc h1, fun d hd => ?_⟩
  rw [aC_set] at hd
  rw [cw_set hc]
  split
  · exact h2
  · exact h.2.2 d hd
theorem WR.put {A : AS} (h : WR A) {c i : Nat} {f : Bool} (hc : c < (aC A).length) (hi : i < aN A) (hn : pPl (cT (cw A c)) i = none) : WR (aPut A c i f) :=
  h.set hc ((h.2.1 c hc).put hi) ((h.2.2 c hc).put hn)
theorem pHin_none {A : AS} {b : Int32} {r : List It} {i : Nat} {f : Bool} (h : pHin A b r i f = (0, 0)) : pPl r i = none ∧ ¬ aL A i 4 = 1 ∧ (f = true → pFly A i = none) := by
  unfold pHin at h
  split at h
  · exact absurd h (by decide)
  · split at h
    · exact absurd h (by decide)
    · split at h
      · exact absurd h (by decide)
      · rename_i h1 h2 h3
        refine ⟨?_, h1, fun hf => ?_⟩
        · cases hp : pPl r i with
          | none => rfl
          | some k => rw [hp] at h2; exact absurd rfl h2
        · cases hp : pFly A i with
          | none => rfl
          | some k => rw [hp, hf] at h3; exact absurd rfl h3
/-- what an offer that was found says -/
def OfOK (A : AS) (i : Nat) (o : Option Of) : Prop := ∀ q, o = some q → q.1 < (aC A).length ∧ ((q.2.1 = -2 ∧ pHin A (cB (cw A q.1)) (cT (cw A q.1)) i true = (0, 0)) ∨ ∃ j, j < aN A ∧ q.2.1 = nI j ∧ pWay A q.1 j i = true)
theorem OfOK.see {A : AS} {i c : Nat} {o : Option Of} {k p m : Int32} (h : OfOK A i o) (hc : c < (aC A).length) (hk : (k = -2 ∧ pHin A (cB (cw A c)) (cT (cw A c)) i true = (0, 0)) ∨ ∃ j, j < aN A ∧ k = nI j ∧ pWay A c j i = true) : OfOK A i (pSee o c k p m) := by
  intro q hq
  unfold pSee at hq
  cases o with
  | none => cases hq; exact ⟨hc, hk⟩
  | some r =>
    dsimp only at hq
    split at hq
    · cases hq; exact ⟨hc, hk⟩
    · exact h q hq
theorem pOfF_ok {A : AS} {c i : Nat} (hc : c < (aC A).length) : ∀ n j o, j + n ≤ aN A → OfOK A i o → OfOK A i (pOfF A c i j n o) := by
  intro n
  induction n with
  | zero => intro j o _ h; exact h
  | succ n ih =>
    intro j o hj h
    show OfOK A i (pOfF A c i (j + 1) n (if pWay A c j i then pSee o c (nI j) (pLen A j * aR A 6) (pMin A c) else o))
    refine ih _ _ (by omega) ?_
    split
    · exact h.see hc (Or.inr ⟨j, by omega, rfl, by assumption⟩)
    · exact h
theorem pOffF_ok {A : AS} {i : Nat} : ∀ n c o, c + n ≤ (aC A).length → OfOK A i o → OfOK A i (pOffF A i c n o) := by
  intro n
  induction n with
  | zero => intro c o _ h; exact h
  | succ n ih =>
    intro c o hc h
    show OfOK A i (pOffF A i (c + 1) n (pOfC A c i o))
    refine ih _ _ (by omega) ?_
    unfold pOfC
    split
    · exact h
    · refine pOfF_ok (by omega) _ _ _ (by omega) ?_
      split
      · exact h.see (by omega) (Or.inl ⟨rfl, by assumption⟩)
      · exact h
theorem pOff_ok {A : AS} {i : Nat} : OfOK A i (pOff A i) := pOffF_ok _ _ _ (by omega) (fun q hq => by cases hq)
theorem nI_nneg {j : Nat} (h : j < 2 ^ 31) : ¬ nI j < 0 := nI_pos h
theorem ix_nI {j : Nat} (h : j < 2 ^ 31) : ix (nI j) = j := nI_clamp h
/-- taking an offer keeps what rows are -/
theorem aTake_ok {A : AS} (h : WR A) (i : Nat) (hi : i < aN A) : WR (aTake A i (pOff A i)) ∧ Same A (aTake A i (pOff A i)) := by
  have h24 := h.1
  cases ho : pOff A i with
  | none => exact ⟨h, Same.rf⟩
  | some q =>
    obtain ⟨q1, q2⟩ := pOff_ok (A := A) (i := i) q ho
    show WR (aPut (if q.2.1 < 0 then A else aPut A q.1 (ix q.2.1) false) q.1 i true) ∧ Same A (aPut (if q.2.1 < 0 then A else aPut A q.1 (ix q.2.1) false) q.1 i true)
    rcases q2 with ⟨e, hh⟩ | ⟨j, hj, e, hh⟩
    · rw [e, if_pos (by decide)]
      exact ⟨h.put q1 hi (pHin_none hh).1, Same.set⟩
    · rw [e, if_neg (nI_nneg (by omega)), ix_nI (by omega)]
      unfold pWay at hh
      simp only [Bool.and_eq_true, decide_eq_true_eq] at hh
      have h1 := (pHin_none hh.2.1).1
      have h2 := (pHin_none hh.2.2).1
      have w1 : WR (aPut A q.1 j false) := h.put q1 hj h1
      have l1 : (aC (aPut A q.1 j false)).length = (aC A).length := aC_set
      have c1 : cT (cw (aPut A q.1 j false) q.1) = pPut A (cT (cw A q.1)) j false := by unfold aPut; rw [cw_set q1, if_pos rfl]; rfl
      exact ⟨w1.put (by omega) hi (by rw [c1]; exact h2), Same.set.tr Same.set⟩
section MC13
variable {Γ : GE} {l : Launch} {G : GH} {x : Nat} {ma : Nat → Nat} {sc : Nat → Int32} {ar : Nat → Nat → Int32} {A : AS} {b : Int32} {r : List It} {S : SS}
theorem t_delay (hK : MK G x ma) (hT : MT sc ar S) (hva : RVA (sA S)) (p m : Int32) : TrI Γ l mX2_delay 8 0 0 [.ref x, .int p, .int m] (mW G x ma sc ar) (fun v G' => v = (xDelay S p m).1 ∧ ∃ sc' ar', G' = mW G x ma sc' ar' ∧ MT sc' ar' (xDelay S p m).2) := by
  have hs := hT.1
  have h24n := hs.1
  have h6n := hs.2.1
  refine Tr.intro (by decide +kernel) (Nat.le_of_ble_eq_true rfl) ?_
  refine rX2_delay_0 x _ _ ⟨hK.c, c_isLeg hK hs p (by decide) ?_⟩
  rw [bI_0]
  refine ⟨fun h => ⟨_, rfl, by simp [xDelay, h], sc, ar, rfl, by simp [xDelay, h]; exact hT⟩, fun h => cI.det (t_in _ _ _) (by decide) ?_⟩
  simp only [Bool.not_eq_false] at h
  obtain ⟨g1, g2⟩ := okL.ix hs h
  rw [bI_0]
  refine ⟨fun h2 => ⟨hK.c, ?_⟩, fun h2 => ⟨_, rfl, by simp [xDelay, h2], sc, ar, rfl, by simp [xDelay, h2]; exact hT⟩⟩
  simp only [Bool.not_eq_false] at h2
  have T0 := t_of (Γ := Γ) (l := l) (sc := sc) hK hs (ix p) 0 g1 (by decide)
  have T1 := t_of (Γ := Γ) (l := l) (sc := sc) hK hs (ix p) 1 g1 (by decide)
  have T2 := t_of (Γ := Γ) (l := l) (sc := sc) hK hs (ix p) 2 g1 (by decide)
  have T3 := t_of (Γ := Γ) (l := l) (sc := sc) hK hs (ix p) 3 g1 (by decide)
  rw [← g2] at T0 T1 T2 T3
  have X : xDelay S p m = if aL (sA S) (ix p) 2 + m < 0 ∨ ¬ aL (sA S) (ix p) 3 + m < 6000 then (-5, S) else if pThere (sA S) p (aL (sA S) (ix p) 0) (aL (sA S) (ix p) 1) (aL (sA S) (ix p) 2 + m) then (-4, S) else (nI (pDelF 0 (aC (sA S)).length (aSetL (aSetL (sA S) (ix p) 2 (aL (sA S) (ix p) 2 + m)) (ix p) 3 (aL (sA S) (ix p) 3 + m)) 0).2, sSet (sChg S) (pDelF 0 (aC (sA S)).length (aSetL (aSetL (sA S) (ix p) 2 (aL (sA S) (ix p) 2 + m)) (ix p) 3 (aL (sA S) (ix p) 3 + m)) 0).1) := by
    unfold xDelay
    rw [if_pos (by simp [h, h2])]
  rw [X]
  refine cI.det T2 (by decide) ⟨fun h3 => ⟨_, rfl, by rw [if_pos (Or.inl h3)], sc, ar, rfl, by rw [if_pos (Or.inl h3)]; exact hT⟩, fun h3 => ⟨hK.c, cI.det T3 (by decide) ⟨fun h4 => ?_, fun h4 => ⟨_, rfl, by rw [if_pos (Or.inr h4)], sc, ar, rfl, by rw [if_pos (Or.inr h4)]; exact hT⟩⟩⟩⟩
  rw [if_neg (fun z => z.elim h3 (fun z => z h4))]
  refine ⟨hK.c, cI.det T0 (by decide) ⟨hK.c, cI.det T1 (by decide) ⟨hK.c, cI.det (t_isThere hK hs _ _ _ _) (by decide) ?_⟩⟩⟩
  rw [bI_0]
  refine ⟨fun h5 => ⟨hK.c, cV.mk0 (t_change hK hT) (by decide) ?_⟩, fun h5 => ?_⟩
  · rw [if_neg (by rw [h5]; simp)]
    rintro G1 ⟨sc1, ar1, rfl, f1, m1⟩
    have hs1 := m1.1
    rw [sChg_A] at hs1
    have e2 : (10 + (5 * p)) + 2 = nI (10 + (5 * ix p + 2)) := by
      conv => lhs; rw [g2]
      simp only [li_, nI_add, pk_mul, nI_1, Nat.add_assoc]
    have e3 : (10 + (5 * p)) + 3 = nI (10 + (5 * ix p + 3)) := by
      conv => lhs; rw [g2]
      simp only [li_, nI_add, pk_mul, nI_1, Nat.add_assoc]
    refine ⟨hK.c, ma 0, hK.r 0 (by decide), hK.t 0 0 (by decide) rfl, hK.inb 0 (by decide) _ e2 (by show _ < 298; omega), hK.w 0 (by decide), hK.inb 0 (by decide) _ e2 (by show _ < 298; omega), ?_⟩
    rw [hK.rd 0 (by decide) _ e2 (by omega), hs1.lg (ix p) 2 g1 (by decide), e2, nI_clamp (by omega), hK.sa 0 (by decide)]
    refine ⟨ma 0, hK.r 0 (by decide), hK.t 0 0 (by decide) rfl, hK.inb 0 (by decide) _ e3 (by show _ < 298; omega), hK.w 0 (by decide), hK.inb 0 (by decide) _ e3 (by show _ < 298; omega), ?_⟩
    have hs2 : MR (u1 (ar1 0) (10 + (5 * ix p + 2)) (aL (sA S) (ix p) 2 + m)) (aSetL (sA S) (ix p) 2 (aL (sA S) (ix p) 2 + m)) := hs1.setL (ix p) 2 g1 (by decide) _
    have r3 : u1 ar1 0 (u1 (ar1 0) (10 + (5 * ix p + 2)) (aL (sA S) (ix p) 2 + m)) 0 (10 + (5 * ix p + 3)) = aL (sA S) (ix p) 3 := by
      show u1 (ar1 0) (10 + (5 * ix p + 2)) (aL (sA S) (ix p) 2 + m) (10 + (5 * ix p + 3)) = _
      unfold u1
      rw [if_neg (by omega)]
      exact hs1.lg (ix p) 3 g1 (by decide)
    rw [hK.rd 0 (by decide) _ e3 (by omega), r3, e3, nI_clamp (by omega), hK.sa 0 (by decide)]
    have hs3 := hs2.setL (ix p) 3 g1 (by decide) (aL (sA S) (ix p) 3 + m)
    have m3 := (m1.set hs2).set hs3
    obtain ⟨Z, hZ⟩ : ∃ Z, Z = pDelF 0 (aC (sA S)).length (aSetL (aSetL (sA S) (ix p) 2 (aL (sA S) (ix p) 2 + m)) (ix p) 3 (aL (sA S) (ix p) 3 + m)) 0 := ⟨_, rfl⟩
    rw [← hZ]
    have key : ∀ n c sc2 ar2 (A : AS) (k : Nat), c + n = (aC (sA S)).length → MT sc2 ar2 (sSet (sChg S) A) → (aC A).length = (aC (sA S)).length → RVA A → k ≤ c → pDelF c n A k = Z → GW Γ l mX2_delay 8 0 0 (fun v G' => ∃ q, v = some (.int q) ∧ q = nI Z.2 ∧ ∃ sc' ar', G' = mW G x ma sc' ar' ∧ MT sc' ar' (sSet (sChg S) Z.1)) 121 [(0, va_rf (some x)), (1, .int p), (2, .int m), (3, .int (aL (sA S) (ix p) 2 + m)), (4, .int (nI k)), (5, .int (nI c))] [] (mW G x ma sc2 ar2) 0 0 := by
      intro n
      induction n with
      | zero =>
        intro c sc2 ar2 A k hc m2 hl hv hkc he
        have hs2 : MR (ar2 0) A := m2.1
        refine rX2_delay_121 x _ _ _ _ _ ⟨hK.c, ma 0, hK.r 0 (by decide), hK.t 0 0 (by decide) rfl, hK.inb 0 (by decide) 1 rfl (by decide), ?_⟩
        rw [hK.rd (i := 1) 0 (by decide) 1 rfl (by decide), hs2.nc]
        exact br_t (nI_le (by omega) (by omega)) ⟨_, rfl, by rw [← he]; rfl, sc2, ar2, rfl, by rw [← he]; exact m2⟩
      | succ n ih =>
        intro c sc2 ar2 A k hc m2 hl hv hkc he
        have hs2 : MR (ar2 0) A := m2.1
        have hcl : c < (aC A).length := by omega
        refine rX2_delay_121 x _ _ _ _ _ ⟨hK.c, ma 0, hK.r 0 (by decide), hK.t 0 0 (by decide) rfl, hK.inb 0 (by decide) 1 rfl (by decide), ?_⟩
        rw [hK.rd (i := 1) 0 (by decide) 1 rfl (by decide), hs2.nc]
        refine br_f (nI_ge (by omega) (by omega)) (cV.mk0 (t_reorder hK hs2 hv c hcl) (by decide) ?_)
        rintro G3 ⟨sc3, ar3, rfl, f3, hs3⟩
        have l3 : (aC (aReo A c)).length = (aC A).length := aC_set
        have v3 : RVA (aReo A c) := hv.set hcl (pReoF_RV (hv c hcl) _ (Nat.le_refl _))
        have c3 := hs3.l24 c (by omega)
        refine ⟨hK.c, cV.mk0 (t_take hK hs3 c (by omega)) (by decide) ?_⟩
        rintro G4 ⟨sc4, ar4, rfl, f4, w4⟩
        have hs4 : MR (ar4 0) (aReo A c) := hs3.fr f4 (by decide)
        refine ⟨hK.c, cI.det (t_violationAt hK hs4 w4 (v3 c (by omega)) 0 (by decide)) (by decide) ?_⟩
        have m4 : MT sc4 ar4 (sSet (sChg S) (aReo A c)) := m2.fr0 ((f3.wide (by decide) (by decide)).tr (f4.wide (by decide) (by decide))) hs4
        have V := vcode_pos (A := aReo A c) (b := cB (cw (aReo A c) c)) (r := cT (cw (aReo A c) c)) 0 (by omega)
        have he : pDelF (c + 1) n (aReo A c) (k + bN (decide (0 < (pVs (aReo A c) (cB (cw (aReo A c) c)) (cT (cw (aReo A c) c))).length))) = Z := he
        rw [nI_1, li_ 0, nI_leI (by omega) (by decide)]
        refine ⟨fun h6 => ?_, fun h6 => ?_⟩
        · have hz : (pVs (aReo A c) (cB (cw (aReo A c) c)) (cT (cw (aReo A c) c))).length ≤ 0 := V.2.mp (by omega)
          rw [show bN (decide (0 < (pVs (aReo A c) (cB (cw (aReo A c) c)) (cT (cw (aReo A c) c))).length)) = 0 by rw [decide_eq_false (by omega)]; rfl] at he
          rw [show nI k + nI 0 = nI (k + 0) by rw [nI_add]]
          exact ih (c + 1) sc4 ar4 _ (k + 0) (by omega) m4 (by omega) v3 (by omega) he
        · have hz : 0 < (pVs (aReo A c) (cB (cw (aReo A c) c)) (cT (cw (aReo A c) c))).length := by
            apply Nat.pos_of_ne_zero
            intro z
            exact h6 (by rw [V.2.mpr (by omega)]; exact Nat.le_refl _)
          rw [decide_eq_true hz] at he
          rw [nI_1]
          exact ih (c + 1) sc4 ar4 _ (k + 1) (by omega) m4 (by omega) v3 (by omega) he
    refine key (aC (sA S)).length 0 sc1 _ _ 0 (by omega) m3 rfl ?_ (Nat.le_refl _) hZ.symm
    exact fun c hc i hi => hva c hc i hi
  · simp only [Bool.not_eq_false] at h5
    rw [if_pos h5]
    exact ⟨_, rfl, rfl, sc, ar, rfl, hT⟩
end MC13
