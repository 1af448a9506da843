/-! M's contracts: open legs, reserves that are called, offers -/
set_option maxRecDepth 100000
def OpI (f : Nat → Int32) (r : List It) : Prop := ∀ i, i < r.length → f i = nI (rl r i)
def OpP (f : Nat → Int32) (r : List It) (k : Nat) : Prop := (∀ i, i < k → f i = nI (rl r i)) ∧ ∀ i, k < i → i ≤ r.length → f i = nI (rl r (i - 1))
theorem OpP.row {A : AS} {f : Nat → Int32} {r : List It} {i : Nat} (h : OpP f r (pPos A r i)) : OpI (u1 f (pPos A r i) (nI i)) (pPut A r i true) := by
  intro j hj
  rw [pPut_len] at hj
  unfold u1
  rw [rl_put]
  by_cases h1 : j = pPos A r i
  · rw [if_pos h1, if_neg (by omega), if_pos h1]
  · rw [if_neg h1]
    by_cases h2 : j < pPos A r i
    · rw [if_pos h2]; exact h.1 j h2
    · rw [if_neg h2, if_neg h1]; exact h.2 j (by omega) (by omega)
/-- the cheapest offer so far: crew, other leg, price, minutes -/
abbrev Of : Type := Nat × Int32 × Int32 × Int32
def pSee (o : Option Of) (c : Nat) (i p m : Int32) : Option Of := match o with
  | none => some (c, i, p, m)
  | some q => if p < q.2.2.1 ∨ (p = q.2.2.1 ∧ ¬ q.2.2.2 ≤ m) then some (c, i, p, m) else some q
def pWay (A : AS) (c j i : Nat) : Bool := decide (aL A j 2 < aL A i 2) && (decide (pHin A (cB (cw A c)) (cT (cw A c)) j false = (0, 0)) && decide (pHin A (cB (cw A c)) (pPut A (cT (cw A c)) j false) i true = (0, 0)))
def pOfF (A : AS) (c i : Nat) : Nat → Nat → Option Of → Option Of
  | _, 0, o => o
  | j, n + 1, o => pOfF A c i (j + 1) n (if pWay A c j i then pSee o c (nI j) (pLen A j * aR A 6) (pMin A c) else o)
def pOfC (A : AS) (c i : Nat) (o : Option Of) : Option Of := if pRes (cw A c) then o else pOfF A c i 0 (aN A) (if pHin A (cB (cw A c)) (cT (cw A c)) i true = (0, 0) then pSee o c (-2) 0 (pMin A c) else o)
def pOffF (A : AS) (i : Nat) : Nat → Nat → Option Of → Option Of
  | _, 0, o => o
  | c, n + 1, o => pOffF A i (c + 1) n (pOfC A c i o)
def pOff (A : AS) (i : Nat) : Option Of := pOffF A i 0 (aC A).length none
def oOffer (A : AS) (p w : Int32) : Int32 := if okL A p && pIn w 0 2 then (if pOpen A (ix p) then (match pOff A (ix p) with
  | none => -2
  | some q => if w = 0 then nI q.1 else if w = 1 then q.2.1 else q.2.2.1) else -2) else -1
def MO (sc : Nat → Int32) (n : Nat) (o : Option Of) : Prop := match o with
  | none => sc 12 = -2 ∧ sc 13 = -2
  | some q => q.1 < n ∧ sc 12 = nI q.1 ∧ sc 13 = q.2.1 ∧ sc 14 = q.2.2.1 ∧ sc 15 = q.2.2.2
section MC8
variable {Γ : GE} {l : Launch} {G : GH} {x : Nat} {ma : Nat → Nat} {sc : Nat → Int32} {ar : Nat → Nat → Int32} {A : AS} {b : Int32} {r : List It}
theorem t_findOpen (hK : MK G x ma) (hs : MR (ar 0) A) (hva : RVA A) : TrV Γ l mX2_findOpen 5 0 0 [.ref x] (mW G x ma sc ar) (fun G' => ∃ sc' ar', G' = mW G x ma sc' ar' ∧ Fr [11] [10] sc ar sc' ar' ∧ sc' 11 = nI (pOp A).length ∧ OpI (ar' 10) (pOp A)) := by
  have h24 := hs.1
  refine Tr.intro (by decide +kernel) (Nat.le_of_ble_eq_true rfl) ?_
  refine rX2_findOpen_0 x ⟨hK.c, hK.m, ?_⟩
  rw [hK.sx]
  have key : ∀ n k sc1 ar1, k + n = aN A → Fr [11] [10] sc ar sc1 ar1 → sc1 11 = nI (pOpF A k).length → OpI (ar1 10) (pOpF A k) → GW Γ l mX2_findOpen 5 0 0 (fun v G' => v = none ∧ ∃ sc' ar', G' = mW G x ma sc' ar' ∧ Fr [11] [10] sc ar sc' ar' ∧ sc' 11 = nI (pOp A).length ∧ OpI (ar' 10) (pOp A)) 7 [(0, va_rf (some x)), (1, .int (nI k))] [] (mW G x ma sc1 ar1) 0 0 := by
    intro n
    induction n with
    | zero =>
      intro k sc1 ar1 hk f1 e1 e2
      have hs1 : MR (ar1 0) A := hs.fr f1 (by decide)
      refine rX2_findOpen_7 x _ ⟨hK.c, ma 0, hK.r 0 (by decide), hK.t 0 0 (by decide) rfl, hK.inb 0 (by decide) 0 rfl (by decide), ?_⟩
      rw [hK.rd (i := 0) 0 (by decide) 0 rfl (by decide), hs1.nl]
      unfold pOp
      rw [show aN A = k by omega]
      exact br_t (nI_le (by omega) (by omega)) ⟨rfl, sc1, ar1, rfl, f1, e1, e2⟩
    | succ n ih =>
      intro k sc1 ar1 hk f1 e1 e2
      have hs1 : MR (ar1 0) A := hs.fr f1 (by decide)
      refine rX2_findOpen_7 x _ ⟨hK.c, ma 0, hK.r 0 (by decide), hK.t 0 0 (by decide) rfl, hK.inb 0 (by decide) 0 rfl (by decide), ?_⟩
      rw [hK.rd (i := 0) 0 (by decide) 0 rfl (by decide), hs1.nl]
      refine br_f (nI_ge (by omega) (by omega)) (cI.det (t_isOpen hK hs1 hva k (by omega)) (by decide) ?_)
      have ih := fun sc2 ar2 => ih (k + 1) sc2 ar2 (by omega)
      have E : pOpF A (k + 1) = if pOpen A k then pPut A (pOpF A k) k true else pOpF A k := rfl
      rw [E] at ih
      rw [bI_0]
      refine ⟨fun h => ?_, fun h => ⟨hK.c, ?_⟩⟩
      · rw [h] at ih
        rw [nI_1]
        exact ih sc1 ar1 f1 e1 e2
      · simp only [Bool.not_eq_false] at h
        rw [h] at ih
        have hol := pOpF_le A k
        have hpl := pPos_le A (pOpF A k) k
        rw [mW_x hK, e1]
        -- place is made
        have fin : ∀ f, OpP f (pOpF A k) (pPos A (pOpF A k) k) → gC (mW G x ma sc1 (u1 ar1 10 f)) x = kO 1 ∧ ∃ a2, (gR (mW G x ma sc1 (u1 ar1 10 f)) x 10) = some a2 ∧ gC (mW G x ma sc1 (u1 ar1 10 f)) a2 = kA 0 ∧ gM (mW G x ma sc1 (u1 ar1 10 f)) a2 = true ∧ vp_in (nI (pPos A (pOpF A k) k)) (gL (mW G x ma sc1 (u1 ar1 10 f)) a2) ∧ gM (sI (mW G x ma sc1 (u1 ar1 10 f)) a2 (nI (pPos A (pOpF A k) k)).toNatClampNeg (nI k)) x = true ∧ GW Γ l mX2_findOpen 5 0 0 (fun v G' => v = none ∧ ∃ sc' ar', G' = mW G x ma sc' ar' ∧ Fr [11] [10] sc ar sc' ar' ∧ sc' 11 = nI (pOp A).length ∧ OpI (ar' 10) (pOp A)) 7 [(0, va_rf (some x)), (1, .int (nI k + 1))] [] (sI (sI (mW G x ma sc1 (u1 ar1 10 f)) a2 (nI (pPos A (pOpF A k) k)).toNatClampNeg (nI k)) x 11 ((gI (sI (mW G x ma sc1 (u1 ar1 10 f)) a2 (nI (pPos A (pOpF A k) k)).toNatClampNeg (nI k)) x 11) + 1)) 0 0 := by
          intro f hf
          refine ⟨hK.c, ma 10, hK.r 10 (by decide), hK.t 10 0 (by decide) rfl, hK.w 10 (by decide), hK.inb 10 (by decide) _ rfl (by show _ < 25; omega), hK.2.1, ?_⟩
          rw [nI_clamp (by omega), hK.sa 10 (by decide), mW_x hK, hK.sx, e1, nI_1, nI_1]
          refine ih _ _ ((f1.us 11 _ (by decide)).ua 10 _ (by decide) |>.ua 10 _ (by decide)) ?_ ?_
          · rw [if_pos rfl, pPut_len]; rfl
          · rw [if_pos rfl]; exact hf.row
        have loop : ∀ m f, m ≤ (pOpF A k).length → OpP f (pOpF A k) m → pPosF A (pOpF A k) k m = pPos A (pOpF A k) k → GW Γ l mX2_findOpen 5 0 0 (fun v G' => v = none ∧ ∃ sc' ar', G' = mW G x ma sc' ar' ∧ Fr [11] [10] sc ar sc' ar' ∧ sc' 11 = nI (pOp A).length ∧ OpI (ar' 10) (pOp A)) 30 [(0, va_rf (some x)), (1, .int (nI k)), (2, .int (nI m))] [] (mW G x ma sc1 (u1 ar1 10 f)) 0 0 := by
          intro m
          induction m with
          | zero =>
            intro f _ hf hp
            refine rX2_findOpen_30 x _ _ (br_t (by decide) ?_)
            rw [show nI 0 = nI (pPos A (pOpF A k) k) by rw [← hp]; rfl]
            exact fin f (by rw [← hp]; exact hf)
          | succ m ihm =>
            intro f hm hf hp
            have hs2 : MR ((u1 ar1 10 f) 0) A := hs1
            have hlt := hol.2 m (by omega)
            have hrd : gI (mW G x ma sc1 (u1 ar1 10 f)) (ma 10) (nI (m + 1) - 1).toNatClampNeg = nI (rl (pOpF A k) m) := by
              rw [hK.rd 10 (by decide) m (nI_pred m) (by omega)]
              exact hf.1 m (by omega)
            refine rX2_findOpen_30 x _ _ (br_f (nI_nle (by omega) (by omega)) ⟨hK.c, ma 10, hK.r 10 (by decide), hK.t 10 0 (by decide) rfl, hK.inb 10 (by decide) m (nI_pred m) (by show _ < 25; omega), ?_⟩)
            rw [hrd]
            refine cI.det (t_of hK hs2 _ 2 (by omega) (by decide)) (by decide) ⟨hK.c, cI.det (t_of hK hs2 _ 2 (by omega) (by decide)) (by decide) ⟨fun h2 => ?_, fun h2 => ⟨hK.c, ma 10, hK.r 10 (by decide), hK.t 10 0 (by decide) rfl, hK.inb 10 (by decide) m (nI_pred m) (by show _ < 25; omega), hK.w 10 (by decide), hK.inb 10 (by decide) (m + 1) rfl (by show _ < 25; omega), ?_⟩⟩⟩
            · have hb : pBef A k (rl (pOpF A k) m) = false := by
                have : ¬ aL A k 2 < aL A (rl (pOpF A k) m) 2 := Int32.not_lt.mpr h2
                simp [pBef, this]
                intro _
                omega
              have hst : pPosF A (pOpF A k) k (m + 1) = m + 1 := by unfold pPosF; rw [if_neg (by simp [hb])]
              rw [show m + 1 = pPos A (pOpF A k) k by rw [← hp, hst]] at hf ⊢
              exact fin f hf
            · have hb : pBef A k (rl (pOpF A k) m) = true := by simp [pBef, Int32.not_le.mp h2]
              have hst : pPosF A (pOpF A k) k (m + 1) = pPosF A (pOpF A k) k m := by
                conv => lhs; unfold pPosF
                rw [if_pos hb]
              rw [hrd, pk_m1, nI_clamp (by omega), hK.sa 10 (by decide)]
              have hf2 : OpP (u1 f (m + 1) (nI (rl (pOpF A k) m))) (pOpF A k) m := by
                refine ⟨fun j hj => ?_, fun j q1 q2 => ?_⟩
                · unfold u1
                  rw [if_neg (by omega)]
                  exact hf.1 j (by omega)
                · unfold u1
                  by_cases hj : j = m + 1
                  · rw [if_pos hj, hj]; rfl
                  · rw [if_neg hj]
                    exact hf.2 j (by omega) q2
              have := ihm _ (by omega) hf2 (by rw [← hp, hst])
              have e3 : u1 (u1 ar1 10 f) 10 (u1 f (m + 1) (nI (rl (pOpF A k) m))) = u1 ar1 10 (u1 f (m + 1) (nI (rl (pOpF A k) m))) := by
                funext j
                unfold u1
                split <;> rfl
              rw [← e3] at this
              exact this
        have e0 : u1 ar1 10 (ar1 10) = ar1 := by
          funext j
          unfold u1
          split
          · rename_i q; rw [q]
          · rfl
        have := loop (pOpF A k).length (ar1 10) (Nat.le_refl _) ⟨e2, fun j q1 q2 => by omega⟩ rfl
        rw [e0] at this
        exact this
  exact key (aN A) 0 _ ar (by omega) (Fr.rf.us 11 _ (by decide)) rfl (fun i hi => by cases hi)
theorem t_openCount (hK : MK G x ma) (hs : MR (ar 0) A) (hva : RVA A) : TrI Γ l mX2_openCount 6 0 0 [.ref x] (mW G x ma sc ar) (fun v G' => v = nI (pOp A).length ∧ ∃ sc' ar', G' = mW G x ma sc' ar' ∧ Fr [11] [10] sc ar sc' ar') := by
  refine Tr.intro (by decide +kernel) (Nat.le_of_ble_eq_true rfl) ?_
  refine rX2_openCount_0 x ⟨hK.c, cV.mk0 (t_findOpen hK hs hva) (by decide) ?_⟩
  rintro G1 ⟨sc1, ar1, rfl, f1, e1, e2⟩
  exact ⟨hK.c, _, rfl, by rw [mW_x hK, e1], sc1, ar1, rfl, f1⟩
theorem pOp_le (hs : MR (ar 0) A) : (pOp A).length ≤ 24 ∧ ∀ i, i < (pOp A).length → rl (pOp A) i < aN A := by
  have h1 := pOpF_le A (aN A)
  have := hs.1
  unfold pOp
  exact ⟨by omega, h1.2⟩
theorem t_open (hK : MK G x ma) (hs : MR (ar 0) A) (hva : RVA A) (p : Int32) : TrI Γ l mX2_open 6 0 0 [.ref x, .int p] (mW G x ma sc ar) (fun v G' => v = oOpen A p ∧ ∃ sc' ar', G' = mW G x ma sc' ar' ∧ Fr [11] [10] sc ar sc' ar') := by
  have hl := pOp_le hs
  refine Tr.intro (by decide +kernel) (Nat.le_of_ble_eq_true rfl) ?_
  refine rX2_open_0 x _ ⟨hK.c, cV.mk0 (t_findOpen hK hs hva) (by decide) ?_⟩
  rintro G1 ⟨sc1, ar1, rfl, f1, e1, e2⟩
  refine ⟨hK.c, ?_⟩
  rw [mW_x hK, e1]
  refine cI.det (t_in _ _ _) (by decide) ?_
  rw [bI_0]
  refine ⟨fun h => ⟨_, rfl, by simp [oOpen, h], sc1, ar1, rfl, f1⟩, fun h => ?_⟩
  simp only [Bool.not_eq_false] at h
  obtain ⟨g1, g2⟩ := pIn_ix (by omega) h
  refine ⟨hK.c, ma 10, hK.r 10 (by decide), hK.t 10 0 (by decide) rfl, hK.inb 10 (by decide) _ g2 (by show _ < 25; omega), _, rfl, ?_, sc1, ar1, rfl, f1⟩
  rw [hK.rd 10 (by decide) _ g2 (by omega), e2 _ g1]
  simp [oOpen, h]
theorem hcode_0 {p : Nat × Nat} (h : p = (0, 0) ∨ 1 ≤ p.1) (h2 : p.1 ≤ 10 ∧ p.2 < 48) : (nI (hcode p) = 0 ↔ p = (0, 0)) ∧ (nI (hcode p) ≤ 0 ↔ p = (0, 0)) := by
  have h3 : hcode p = 0 ↔ p = (0, 0) := by
    unfold hcode
    obtain ⟨a, b⟩ := p
    simp only [Prod.mk.injEq] at h ⊢
    omega
  have h4 : hcode p < 2 ^ 31 := by unfold hcode; omega
  rw [li_ 0, nI_eq h4 (by decide), nI_leI h4 (by decide), ← h3]
  omega
theorem t_calledFor (hK : MK G x ma) (hs : MR (ar 0) A) (hva : RVA A) (i : Nat) (hi : i < aN A) : TrI Γ l mX2_calledFor 10 0 0 [.ref x, .int (nI i)] (mW G x ma sc ar) (fun v G' => v = cN (pCall A i) ∧ ∃ sc' ar', G' = mW G x ma sc' ar' ∧ Fr [8, 9] [7] sc ar sc' ar') := by
  have h6 := hs.2.1
  have h24 := hs.1
  refine Tr.intro (by decide +kernel) (Nat.le_of_ble_eq_true rfl) ?_
  refine rX2_calledFor_0 x _ ?_
  have key : ∀ n c sc1 ar1 (o : Option (Nat × Int32)) (t : Int32), c + n = (aC A).length → Fr [8, 9] [7] sc ar sc1 ar1 → (∀ q, o = some q → q.1 < 6 ∧ q.2 = t) → pCallF A i c n o = pCall A i → GW Γ l mX2_calledFor 10 0 0 (fun v G' => ∃ q, v = some (.int q) ∧ q = cN (pCall A i) ∧ ∃ sc' ar', G' = mW G x ma sc' ar' ∧ Fr [8, 9] [7] sc ar sc' ar') 8 [(0, va_rf (some x)), (1, .int (nI i)), (2, .int (cN o)), (3, .int t), (4, .int (nI c))] [] (mW G x ma sc1 ar1) 0 0 := by
    intro n
    induction n with
    | zero =>
      intro c sc1 ar1 o t hc f1 ho he
      have hs1 : MR (ar1 0) A := hs.fr f1 (by decide)
      refine rX2_calledFor_8 x _ _ _ _ ⟨hK.c, ma 0, hK.r 0 (by decide), hK.t 0 0 (by decide) rfl, hK.inb 0 (by decide) 1 rfl (by decide), ?_⟩
      rw [hK.rd (i := 1) 0 (by decide) 1 rfl (by decide), hs1.nc]
      exact br_t (nI_le (by omega) (by omega)) ⟨_, rfl, by rw [← he]; rfl, sc1, ar1, rfl, f1⟩
    | succ n ih =>
      intro c sc1 ar1 o t hc f1 ho he
      have hs1 : MR (ar1 0) A := hs.fr f1 (by decide)
      have hcl : c < (aC A).length := by omega
      have h24c := hs.l24 c hcl
      have E : pCallF A i c (n + 1) o = pCallF A i (c + 1) n (if pCan A c i then pCSt A c o else o) := rfl
      rw [E] at he
      refine rX2_calledFor_8 x _ _ _ _ ⟨hK.c, ma 0, hK.r 0 (by decide), hK.t 0 0 (by decide) rfl, hK.inb 0 (by decide) 1 rfl (by decide), ?_⟩
      rw [hK.rd (i := 1) 0 (by decide) 1 rfl (by decide), hs1.nc]
      have skip : pCan A c i = false → GW Γ l mX2_calledFor 10 0 0 (fun v G' => ∃ q, v = some (.int q) ∧ q = cN (pCall A i) ∧ ∃ sc' ar', G' = mW G x ma sc' ar' ∧ Fr [8, 9] [7] sc ar sc' ar') 68 [(0, va_rf (some x)), (1, .int (nI i)), (2, .int (cN o)), (3, .int t), (4, .int (nI c))] [.int 0] (mW G x ma sc1 ar1) 0 0 := by
        intro hno
        refine rX2_calledFor_68 x _ _ _ _ _ (br_t rfl ?_)
        rw [nI_1]
        rw [hno] at he
        exact ih (c + 1) sc1 ar1 o t (by omega) f1 ho he
      refine br_f (nI_ge (by omega) (by omega)) (cI.det (t_isReserve hK hs1 c hcl) (by decide) ?_)
      rw [bI_0]
      refine ⟨fun h => skip (by simp [pCan, h]), fun h => ⟨hK.c, cI.det (t_of hK hs1 i 2 hi (by decide)) (by decide) ⟨hK.c, cI.det (t_ofCrew hK c 1 (by omega) (by decide)) (by decide) ?_⟩⟩⟩
      simp only [Bool.not_eq_false] at h
      rw [hs1.s c hcl]
      refine ⟨fun h2 => skip (by simp [pCan, h2]), fun h2 => ⟨hK.c, cI.det (t_of hK hs1 i 3 hi (by decide)) (by decide) ⟨hK.c, cI.det (t_ofCrew hK c 2 (by omega) (by decide)) (by decide) ?_⟩⟩⟩
      rw [hs1.e c hcl]
      refine ⟨fun h3 => skip (by simp [pCan, h3]), fun h3 => ?_⟩
      refine rX2_calledFor_68 x _ _ _ _ _ (br_f (by decide) ⟨hK.c, cI.mk0 (t_hinders hK hs1 hva c i true hcl hi) (by decide) ?_⟩)
      rintro v G2 ⟨rfl, sc2, ar2, rfl, f2, w2⟩
      have hs2 : MR (ar2 0) A := hs1.fr f2 (by decide)
      have hl := pHin_lt (A := A) (b := cB (cw A c)) (i := i) (f := true) (show (cT (cw A c)).length < 48 by omega)
      rw [(hcode_0 hl.2.2 ⟨hl.1, hl.2.1⟩).1, nI_1]
      refine ⟨fun h4 => ?_, fun h4 => ⟨hK.c, cI.mk0 (t_minutesOf hK hs2 hva c hcl) (by decide) ?_⟩⟩
      · rw [show pCan A c i = false by simp [pCan, h4]] at he
        exact ih (c + 1) sc2 ar2 o t (by omega) (f1.tr f2) ho he
      · rintro v G3 ⟨rfl, sc3, ar3, rfl, f3⟩
        have f13 := (f1.tr f2).tr f3
        rw [show pCan A c i = true by simp [pCan, h, h2, h3, h4]] at he
        have new : pCallF A i (c + 1) n (some (c, pMin A c)) = pCall A i → GW Γ l mX2_calledFor 10 0 0 (fun v G' => ∃ q, v = some (.int q) ∧ q = cN (pCall A i) ∧ ∃ sc' ar', G' = mW G x ma sc' ar' ∧ Fr [8, 9] [7] sc ar sc' ar') 109 [(0, va_rf (some x)), (1, .int (nI i)), (2, .int (cN o)), (3, .int t), (4, .int (nI c)), (5, .int 1), (6, .int (pMin A c))] [.int 1] (mW G x ma sc3 ar3) 0 0 := by
          intro he2
          refine rX2_calledFor_109 x _ _ _ _ _ _ _ (br_f (by decide) (br_f (by decide) ?_))
          rw [nI_1]
          exact ih (c + 1) sc3 ar3 (some (c, pMin A c)) (pMin A c) (by omega) f13 (fun q hq => by cases hq; exact ⟨by show c < 6; omega, rfl⟩) he2
        cases o with
        | none => exact br_t (by decide) (new he)
        | some q =>
          obtain ⟨q1, q2⟩ := ho q rfl
          refine br_f (nI_pos (by omega)) ⟨fun h5 => ?_, fun h5 => new ?_⟩
          · refine rX2_calledFor_109 x _ _ _ _ _ _ _ (br_t rfl (br_t rfl ?_))
            rw [nI_1]
            refine ih (c + 1) sc3 ar3 (some q) t (by omega) f13 ho ?_
            rw [← he]
            show _ = pCallF A i (c + 1) n (if q.2 ≤ pMin A c then some q else some (c, pMin A c))
            rw [if_pos (by rw [q2]; exact h5)]
          · rw [← he]
            show _ = pCallF A i (c + 1) n (if q.2 ≤ pMin A c then some q else some (c, pMin A c))
            rw [if_neg (by rw [q2]; exact h5)]
  exact key (aC A).length 0 sc ar none 0 (by omega) Fr.rf (fun q hq => by cases hq) rfl
theorem t_called (hK : MK G x ma) (hs : MR (ar 0) A) (hva : RVA A) (p : Int32) : TrI Γ l mX2_called 11 0 0 [.ref x, .int p] (mW G x ma sc ar) (fun v G' => v = oCalled A p ∧ ∃ sc' ar', G' = mW G x ma sc' ar' ∧ Fr [8, 9] [7] sc ar sc' ar') := by
  refine Tr.intro (by decide +kernel) (Nat.le_of_ble_eq_true rfl) ?_
  refine rX2_called_0 x _ ⟨hK.c, c_isLeg hK hs p (by decide) ?_⟩
  rw [bI_0]
  refine ⟨fun h => ⟨hK.c, ?_⟩, fun h => ⟨_, rfl, by simp [oCalled, h], sc, ar, rfl, Fr.rf⟩⟩
  simp only [Bool.not_eq_false] at h
  obtain ⟨g1, g2⟩ := okL.ix hs h
  have T := t_isOpen (Γ := Γ) (l := l) (sc := sc) hK hs hva (ix p) g1
  rw [← g2] at T
  refine cI.det T (by decide) ?_
  rw [bI_0]
  refine ⟨fun h2 => ⟨_, rfl, by simp [oCalled, h, h2], sc, ar, rfl, Fr.rf⟩, fun h2 => ⟨hK.c, ?_⟩⟩
  simp only [Bool.not_eq_false] at h2
  have T := t_calledFor (Γ := Γ) (l := l) (sc := sc) hK hs hva (ix p) g1
  rw [← g2] at T
  refine cI.mk0 T (by decide) ?_
  rintro v G1 ⟨rfl, sc1, ar1, rfl, f1⟩
  exact ⟨_, rfl, by simp [oCalled, h, h2], sc1, ar1, rfl, f1⟩
end MC8
