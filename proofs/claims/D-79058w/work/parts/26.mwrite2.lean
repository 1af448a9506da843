/-! M's contracts: addLeg, fly, ride, drop, cancel, delay, save, restore, undo -/
set_option maxRecDepth 100000
def RLen (A : AS) : Prop := ∀ c i, c < (aC A).length → i < aN A → pPl (cT (cw A c)) i = none → (cT (cw A c)).length < 24
theorem MT.fr0 {sc sc' : Nat → Int32} {ar ar' : Nat → Nat → Int32} {S : SS} {A : AS} (h : MT sc ar S) (f : Fr xS (0 :: xT) sc ar sc' ar') (hA : MR (ar' 0) A) : MT sc' ar' (sSet S A) := by
  obtain ⟨h1, h2, h3, h4, h5, h6⟩ := h
  refine ⟨hA, ?_, ?_, ?_, ?_, ?_⟩
  · rw [f.2 3 (by decide), f.1 4 (by decide)]; exact h2
  · rw [f.1 2 (by decide), f.2 1 (by decide)]; exact h3
  · rw [f.1 6 (by decide)]; exact h4
  · rw [f.1 18 (by decide), f.2 17 (by decide)]; exact h5
  · exact h6.fr f (by decide) (by decide) (by decide) (by decide)
def xAssign (S : SS) (p q : Int32) (f : Bool) : Int32 × SS := if okC (sA S) p && okL (sA S) q then (let k := pHin (sA S) (cB (cw (sA S) (ix p))) (cT (cw (sA S) (ix p))) (ix q) f; if k = (0, 0) then (nI (pPos (sA S) (cT (cw (sA S) (ix p))) (ix q)), sSet (sChg S) (aPut (sA S) (ix p) (ix q) f)) else (-100 - nI k.1, S)) else (-1, S)
/-- an item taken out of a crew's row -/
def aOut (A : AS) (c k : Nat) : AS := aSetC A c (wT (cw A c) ((cT (cw A c)).eraseIdx k))
def xDrop (S : SS) (p q : Int32) : Int32 × SS := if okC (sA S) p && okL (sA S) q then (match pPl (cT (cw (sA S) (ix p))) (ix q) with
  | none => (-2, S)
  | some k => (nI ((cT (cw (sA S) (ix p))).length - 1), sSet (sChg S) (aOut (sA S) (ix p) k))) else (-1, S)
def pCanF (i : Nat) : Nat → Nat → AS → Nat → AS × Nat
  | _, 0, A, k => (A, k)
  | c, n + 1, A, k => match pPl (cT (cw A c)) i with
    | none => pCanF i (c + 1) n A k
    | some j => pCanF i (c + 1) n (aOut A c j) (k + 1)
def xCancel (S : SS) (p : Int32) : Int32 × SS := if okL (sA S) p then (if aL (sA S) (ix p) 4 = 1 then (-2, S) else (let q := pCanF (ix p) 0 (aC (sA S)).length (aSetL (sA S) (ix p) 4 1) 0; (nI q.2, sSet (sChg S) q.1))) else (-1, S)
def pReoF (A : AS) (r : List It) : Nat → List It
  | 0 => []
  | n + 1 => pPut A (pReoF A r n) (rl r n) (rf r n)
def aReo (A : AS) (c : Nat) : AS := aSetC A c (wT (cw A c) (pReoF A (cT (cw A c)) (cT (cw A c)).length))
def pDelF : Nat → Nat → AS → Nat → AS × Nat
  | _, 0, A, k => (A, k)
  | c, n + 1, A, k => pDelF (c + 1) n (aReo A c) (k + bN (decide (0 < (pVs (aReo A c) (cB (cw (aReo A c) c)) (cT (cw (aReo A c) c))).length)))
def xDelay (S : SS) (p m : Int32) : Int32 × SS := if okL (sA S) p && pIn m (-600) 600 then (if aL (sA S) (ix p) 2 + m < 0 ∨ ¬ aL (sA S) (ix p) 3 + m < 6000 then (-5, S) else if pThere (sA S) p (aL (sA S) (ix p) 0) (aL (sA S) (ix p) 1) (aL (sA S) (ix p) 2 + m) then (-4, S) else (let q := pDelF 0 (aC (sA S)).length (aSetL (aSetL (sA S) (ix p) 2 (aL (sA S) (ix p) 2 + m)) (ix p) 3 (aL (sA S) (ix p) 3 + m)) 0; (nI q.2, sSet (sChg S) q.1))) else (-1, S)
def xSave (S : SS) : Int32 × SS := (nI (aN (sA S)), (sA S, sH S, some (sA S), sQ S, sM S, sY S))
def xRestore (S : SS) : Int32 × SS := match sV S with
  | none => (-2, S)
  | some B => (nI (aN B), sSet (sChg S) B)
def xUndo (S : SS) : Int32 × SS := match (sH S).getLast? with
  | none => (-2, S)
  | some B => (nI ((sH S).length - 1), (B, (sH S).dropLast, sV S, sQ S, sM S, sY S))
theorem pReoF_len (A : AS) (r : List It) : ∀ n, (pReoF A r n).length = n := by
  intro n
  induction n with
  | zero => rfl
  | succ n ih => show (pPut A _ _ _).length = _; rw [pPut_len, ih]
theorem pReoF_RV {A : AS} {r : List It} (h : RV A r) : ∀ n, n ≤ r.length → RV A (pReoF A r n) := by
  intro n
  induction n with
  | zero => intro _ i hi; cases hi
  | succ n ih => intro hn; exact (ih (by omega)).put (h n (by omega))
theorem RVA.set {A : AS} (h : RVA A) {c : Nat} (hc : c < (aC A).length) {k : Cw} (hk : RV A (cT k)) : RVA (aSetC A c k) := by
  intro d hd
  rw [aC_set] at hd
  rw [cw_set hc]
  split
  · exact hk
  · exact h d hd
section MC11
variable {Γ : GE} {l : Launch} {G : GH} {x : Nat} {ma : Nat → Nat} {sc : Nat → Int32} {ar : Nat → Nat → Int32} {A : AS} {b : Int32} {r : List It} {S : SS}
theorem t_assign (hK : MK G x ma) (hT : MT sc ar S) (hva : RVA (sA S)) (hrl : RLen (sA S)) (p q : Int32) (f : Bool) : TrI Γ l mX2_assign 10 0 0 [.ref x, .int p, .int q, .int (bI f)] (mW G x ma sc ar) (fun v G' => v = (xAssign S p q f).1 ∧ ∃ sc' ar', G' = mW G x ma sc' ar' ∧ MT sc' ar' (xAssign S p q f).2) := by
  have hs := hT.1
  refine Tr.intro (by decide +kernel) (Nat.le_of_ble_eq_true rfl) ?_
  refine rX2_assign_0 x _ _ _ ⟨hK.c, c_isCrew hK hs p (by decide) ?_⟩
  rw [bI_0]
  refine ⟨fun h => ⟨_, rfl, by simp [xAssign, h], sc, ar, rfl, by simp [xAssign, h]; exact hT⟩, fun h => ⟨hK.c, c_isLeg hK hs q (by decide) ?_⟩⟩
  simp only [Bool.not_eq_false] at h
  obtain ⟨g1, g2⟩ := okC.ix hs h
  have h24 := hs.l24 _ g1
  rw [bI_0]
  refine ⟨fun h2 => ⟨hK.c, ?_⟩, fun h2 => ⟨_, rfl, by simp [xAssign, h2], sc, ar, rfl, by simp [xAssign, h2]; exact hT⟩⟩
  simp only [Bool.not_eq_false] at h2
  obtain ⟨g3, g4⟩ := okL.ix hs h2
  have X : xAssign S p q f = if pHin (sA S) (cB (cw (sA S) (ix p))) (cT (cw (sA S) (ix p))) (ix q) f = (0, 0) then (nI (pPos (sA S) (cT (cw (sA S) (ix p))) (ix q)), sSet (sChg S) (aPut (sA S) (ix p) (ix q) f)) else (-100 - nI (pHin (sA S) (cB (cw (sA S) (ix p))) (cT (cw (sA S) (ix p))) (ix q) f).1, S) := by
    unfold xAssign
    rw [if_pos (by simp [h, h2])]
  have T := t_hinders (Γ := Γ) (l := l) (sc := sc) (ar := ar) hK hs hva (ix p) (ix q) f g1 g3
  rw [← g2, ← g4] at T
  refine cI.mk0 T (by decide) ?_
  rintro v G1 ⟨rfl, sc1, ar1, rfl, f1, w1⟩
  have hl := pHin_lt (A := sA S) (b := cB (cw (sA S) (ix p))) (i := ix q) (f := f) (show (cT (cw (sA S) (ix p))).length < 48 by omega)
  have m1 := hT.fr (f1.wide (by decide) (by decide))
  rw [(hcode_0 hl.2.2 ⟨hl.1, hl.2.1⟩).2, (hcode_div ⟨hl.1, hl.2.1⟩).1]
  refine ⟨fun h3 => ⟨hK.c, cV.mk0 (t_change hK m1) (by decide) ?_⟩, fun h3 => ⟨_, rfl, by rw [X, if_neg h3], sc1, ar1, rfl, by rw [X, if_neg h3]; exact m1⟩⟩
  rw [X, if_pos h3]
  rintro G2 ⟨sc2, ar2, rfl, f2, m2⟩
  have hs2 := m2.1
  rw [sChg_A] at hs2
  have hno : pPl (cT (cw (sA S) (ix p))) (ix q) = none := by
    cases hp : pPl (cT (cw (sA S) (ix p))) (ix q) with
    | none => rfl
    | some k =>
      exfalso
      unfold pHin at h3
      split at h3
      · exact absurd h3 (by decide)
      · rw [if_pos (by rw [hp]; rfl)] at h3
        exact absurd h3 (by decide)
  have T2 := t_enter (Γ := Γ) (l := l) (sc := sc2) (ar := ar2) hK hs2 hva (ix p) (ix q) f g1 g3 (hrl _ _ g1 g3 hno)
  rw [← g2, ← g4] at T2
  refine ⟨hK.c, cI.mk0 T2 (by decide) ?_⟩
  rintro v G3 ⟨rfl, sc3, ar3, rfl, f3, m3⟩
  exact ⟨_, rfl, rfl, sc3, ar3, rfl, m2.fr0 (f3.wide (by decide) (by decide)) m3⟩
theorem t_fly (hK : MK G x ma) (hT : MT sc ar S) (hva : RVA (sA S)) (hrl : RLen (sA S)) (p q : Int32) : TrI Γ l mX2_fly 11 0 0 [.ref x, .int p, .int q] (mW G x ma sc ar) (fun v G' => v = (xAssign S p q true).1 ∧ ∃ sc' ar', G' = mW G x ma sc' ar' ∧ MT sc' ar' (xAssign S p q true).2) := by
  refine Tr.intro (by decide +kernel) (Nat.le_of_ble_eq_true rfl) ?_
  refine rX2_fly_0 x _ _ ⟨hK.c, cI.mk0 (t_assign hK hT hva hrl p q true) (by decide) ?_⟩
  rintro v G1 ⟨rfl, sc1, ar1, rfl, m1⟩
  exact ⟨_, rfl, rfl, sc1, ar1, rfl, m1⟩
theorem t_ride (hK : MK G x ma) (hT : MT sc ar S) (hva : RVA (sA S)) (hrl : RLen (sA S)) (p q : Int32) : TrI Γ l mX2_ride 11 0 0 [.ref x, .int p, .int q] (mW G x ma sc ar) (fun v G' => v = (xAssign S p q false).1 ∧ ∃ sc' ar', G' = mW G x ma sc' ar' ∧ MT sc' ar' (xAssign S p q false).2) := by
  refine Tr.intro (by decide +kernel) (Nat.le_of_ble_eq_true rfl) ?_
  refine rX2_ride_0 x _ _ ⟨hK.c, cI.mk0 (t_assign hK hT hva hrl p q false) (by decide) ?_⟩
  rintro v G1 ⟨rfl, sc1, ar1, rfl, m1⟩
  exact ⟨_, rfl, rfl, sc1, ar1, rfl, m1⟩
theorem t_drop (hK : MK G x ma) (hT : MT sc ar S) (hva : RVA (sA S)) (p q : Int32) : TrI Γ l mX2_drop 4 0 0 [.ref x, .int p, .int q] (mW G x ma sc ar) (fun v G' => v = (xDrop S p q).1 ∧ ∃ sc' ar', G' = mW G x ma sc' ar' ∧ MT sc' ar' (xDrop S p q).2) := by
  have hs := hT.1
  have h24n := hs.1
  refine Tr.intro (by decide +kernel) (Nat.le_of_ble_eq_true rfl) ?_
  refine rX2_drop_0 x _ _ ⟨hK.c, c_isCrew hK hs p (by decide) ?_⟩
  rw [bI_0]
  refine ⟨fun h => ⟨_, rfl, by simp [xDrop, h], sc, ar, rfl, by simp [xDrop, h]; exact hT⟩, fun h => ⟨hK.c, c_isLeg hK hs q (by decide) ?_⟩⟩
  simp only [Bool.not_eq_false] at h
  obtain ⟨g1, g2⟩ := okC.ix hs h
  have h24 := hs.l24 _ g1
  rw [bI_0]
  refine ⟨fun h2 => ⟨hK.c, ?_⟩, fun h2 => ⟨_, rfl, by simp [xDrop, h2], sc, ar, rfl, by simp [xDrop, h2]; exact hT⟩⟩
  simp only [Bool.not_eq_false] at h2
  obtain ⟨g3, g4⟩ := okL.ix hs h2
  have X : xDrop S p q = match pPl (cT (cw (sA S) (ix p))) (ix q) with
    | none => (-2, S)
    | some k => (nI ((cT (cw (sA S) (ix p))).length - 1), sSet (sChg S) (aOut (sA S) (ix p) k)) := by
    unfold xDrop
    rw [if_pos (by simp [h, h2])]
  have T := t_placeIn (Γ := Γ) (l := l) (sc := sc) (ar := ar) hK hs (ix p) (ix q) g1 (by omega) (hva _ g1)
  rw [← g2, ← g4] at T
  refine cI.det T (by decide) ?_
  cases hp : pPl (cT (cw (sA S) (ix p))) (ix q) with
  | none =>
    rw [hp] at X
    rw [X]
    exact br_f (by decide) ⟨_, rfl, rfl, sc, ar, rfl, hT⟩
  | some k =>
    rw [hp] at X
    rw [X]
    have hk := pFind_some _ _ hp
    refine br_t (nI_pos' (by omega)) ⟨hK.c, cV.mk0 (t_change hK hT) (by decide) ?_⟩
    rintro G1 ⟨sc1, ar1, rfl, f1, m1⟩
    have hs1 := m1.1
    rw [sChg_A] at hs1
    have T1 := t_take (Γ := Γ) (l := l) (sc := sc1) (ar := ar1) hK hs1 (ix p) g1
    rw [← g2] at T1
    refine ⟨hK.c, cV.mk0 T1 (by decide) ?_⟩
    rintro G2 ⟨sc2, ar2, rfl, f2, w2⟩
    refine ⟨hK.c, cV.mk0 (t_takeOut hK w2 k (by omega)) (by decide) ?_⟩
    rintro G3 ⟨sc3, ar3, rfl, f3, w3⟩
    have hs3 : MR (ar3 0) (sA S) := (hs1.fr f2 (by decide)).fr f3 (by decide)
    have hlen : ((cT (cw (sA S) (ix p))).eraseIdx k).length = (cT (cw (sA S) (ix p))).length - 1 := by rw [List.length_eraseIdx, if_pos (by omega)]
    have T3 := t_give (Γ := Γ) (l := l) (sc := sc3) (ar := ar3) hK hs3 w3 (by rw [hlen]; omega) (ix p) g1
    rw [← g2] at T3
    refine ⟨hK.c, cV.mk0 T3 (by decide) ?_⟩
    rintro G4 ⟨sc4, ar4, rfl, f4, w4, m4⟩
    refine ⟨hK.c, _, rfl, ?_, sc4, ar4, rfl, m1.fr0 (((f2.wide (by decide) (by decide)).tr (f3.wide (by decide) (by decide))).tr (f4.wide (by decide) (by decide))) m4⟩
    rw [mW_x hK, w4.1, hlen]
theorem t_reorder (hK : MK G x ma) (hs : MR (ar 0) A) (hva : RVA A) (c : Nat) (hc : c < (aC A).length) : TrV Γ l mX2_reorder 3 0 0 [.ref x, .int (nI c)] (mW G x ma sc ar) (fun G' => ∃ sc' ar', G' = mW G x ma sc' ar' ∧ Fr [8, 9] [0, 7] sc ar sc' ar' ∧ MR (ar' 0) (aReo A c)) := by
  have h6 := hs.2.1
  have h24 := hs.l24 _ hc
  have hv := hva _ hc
  refine Tr.intro (by decide +kernel) (Nat.le_of_ble_eq_true rfl) ?_
  refine rX2_reorder_0 x _ ⟨hK.c, cI.det (t_ofCrew hK c 3 (by omega) (by decide)) (by decide) ⟨hK.c, hK.m, ?_⟩⟩
  rw [hs.n c hc, hK.sx]
  have key : ∀ n k sc1 ar1 b, k + n = (cT (cw A c)).length → Fr [8, 9] [7] sc ar sc1 ar1 → MW sc1 ar1 b (pReoF A (cT (cw A c)) k) → GW Γ l mX2_reorder 3 0 0 (fun v G' => v = none ∧ ∃ sc' ar', G' = mW G x ma sc' ar' ∧ Fr [8, 9] [0, 7] sc ar sc' ar' ∧ MR (ar' 0) (aReo A c)) 14 [(0, va_rf (some x)), (1, .int (nI c)), (2, .int (nI (cT (cw A c)).length)), (3, .int (nI k))] [] (mW G x ma sc1 ar1) 0 0 := by
    intro n
    induction n with
    | zero =>
      intro k sc1 ar1 b hk f1 w1
      have hs1 : MR (ar1 0) A := hs.fr f1 (by decide)
      have hkl : k = (cT (cw A c)).length := by omega
      subst hkl
      refine rX2_reorder_14 x _ _ _ (br_t (nI_le (by omega) (by omega)) ⟨hK.c, cV.mk0 (t_give hK hs1 w1 (by rw [pReoF_len]; omega) c hc) (by decide) ?_⟩)
      rintro G2 ⟨sc2, ar2, rfl, f2, w2, m2⟩
      exact ⟨rfl, sc2, ar2, rfl, (f1.wide (by decide) (by decide)).tr (f2.wide (by decide) (by decide)), m2⟩
    | succ n ih =>
      intro k sc1 ar1 b hk f1 w1
      have hs1 : MR (ar1 0) A := hs.fr f1 (by decide)
      have e : 4 + nI k = nI (4 + k) := by simp only [li_, nI_add, pk_mul, nI_1, Nat.add_assoc]
      refine rX2_reorder_14 x _ _ _ (br_f (nI_ge (by omega) (by omega)) ⟨hK.c, ?_⟩)
      rw [e]
      refine cI.det (t_ofCrew hK c (4 + k) (by omega) (by omega)) (by decide) ?_
      have hlt := RV.lt hs hv k (by omega)
      rw [hs1.i c hc k (by omega), code_rem hlt, code_div hlt, bI_e1, nI_1]
      have P := t_put (Γ := Γ) (l := l) hK hs1 w1 (pReoF_RV hv k (by omega)) (by rw [pReoF_len]; omega) (rl (cT (cw A c)) k) (rf (cT (cw A c)) k) (hv k (by omega))
      have go : cI Γ l 3 mX2_put [.ref x, .int (nI (rl (cT (cw A c)) k)), .int (bI (rf (cT (cw A c)) k))] (mW G x ma sc1 ar1) 0 0 (fun r7 Gr7 br7 sr7 => GW Γ l mX2_reorder 3 0 0 (fun v G' => v = none ∧ ∃ sc' ar', G' = mW G x ma sc' ar' ∧ Fr [8, 9] [0, 7] sc ar sc' ar' ∧ MR (ar' 0) (aReo A c)) 14 [(0, va_rf (some x)), (1, .int (nI c)), (2, .int (nI (cT (cw A c)).length)), (3, .int (nI (k + 1)))] [] Gr7 br7 sr7) := by
        refine cI.mk0 P (by decide) ?_
        rintro v G2 ⟨rfl, sc2, ar2, rfl, f2, w2⟩
        exact ih (k + 1) sc2 ar2 b (by omega) (f1.tr (f2.wide (by decide) (by decide))) w2
      refine ⟨fun h => ⟨hK.c, ?_⟩, fun h => ⟨hK.c, ?_⟩⟩
      · rw [show bI (rf (cT (cw A c)) k) = 0 by simp only [Bool.not_eq_true] at h; rw [h]; rfl] at go
        exact go
      · rw [show bI (rf (cT (cw A c)) k) = 1 by rw [h]; rfl] at go
        exact go
  exact key (cT (cw A c)).length 0 _ ar (sc 9) (by omega) (Fr.rf.us 8 _ (by decide)) ⟨rfl, rfl, Nat.zero_le _, fun i hi => by cases hi⟩
theorem t_save (hK : MK G x ma) (hT : MT sc ar S) : TrI Γ l mX2_save 1 0 0 [.ref x] (mW G x ma sc ar) (fun v G' => v = (xSave S).1 ∧ ∃ sc' ar', G' = mW G x ma sc' ar' ∧ MT sc' ar' (xSave S).2) := by
  have hs := hT.1
  refine Tr.intro (by decide +kernel) (Nat.le_of_ble_eq_true rfl) ?_
  refine rX2_save_0 x ⟨hK.c, ma 0, hK.r 0 (by decide), hK.t 0 0 (by decide) rfl, hK.w 0 (by decide), ma 1, hK.r 1 (by decide), hK.t 1 0 (by decide) rfl, hK.w 1 (by decide), ?_⟩
  rw [hK.n 0 (by decide), hK.n 1 (by decide)]
  refine ⟨by decide, by decide, by decide, fun H e => ?_⟩
  subst e
  rw [hK.wa 1 (by decide), hK.sx]
  refine ⟨hK.c, hK.m, ma 0, hK.r 0 (by decide), hK.t 0 0 (by decide) rfl, hK.inb 0 (by decide) 0 rfl (by decide), _, rfl, ?_, _, _, rfl, ?_⟩
  · rw [hK.rd (i := 0) 0 (by decide) 0 rfl (by decide)]
    exact hs.nl
  · refine ⟨hs, hT.2.1, ⟨rfl, MR.cong hs fun q hq => ?_⟩, hT.2.2.2.1, hT.2.2.2.2.1, hT.2.2.2.2.2⟩
    show va_cpy _ _ 0 0 298 q = ar 0 q
    rw [pk_cpy_in (Nat.zero_le _) (by omega), mW_a hK 0 (by decide)]
    congr 1
    omega
theorem t_restore (hK : MK G x ma) (hT : MT sc ar S) : TrI Γ l mX2_restore 3 0 0 [.ref x] (mW G x ma sc ar) (fun v G' => v = (xRestore S).1 ∧ ∃ sc' ar', G' = mW G x ma sc' ar' ∧ MT sc' ar' (xRestore S).2) := by
  have hV := hT.2.2.1
  refine Tr.intro (by decide +kernel) (Nat.le_of_ble_eq_true rfl) ?_
  refine rX2_restore_0 x ⟨hK.c, ?_⟩
  rw [mW_x hK]
  cases hb : sV S with
  | none =>
    rw [hb] at hV
    have X : xRestore S = (-2, S) := by unfold xRestore; rw [hb]
    rw [X, show sc 2 = 0 from hV]
    exact ⟨fun z => absurd rfl z, fun _ => ⟨_, rfl, rfl, sc, ar, rfl, hT⟩⟩
  | some B =>
    rw [hb] at hV
    have X : xRestore S = (nI (aN B), sSet (sChg S) B) := by unfold xRestore; rw [hb]
    rw [X, show sc 2 = 1 from hV.1]
    refine ⟨fun _ => cV.mk0 (t_change hK hT) (by decide) ?_, fun z => absurd z (by decide)⟩
    rintro G1 ⟨sc1, ar1, rfl, f1, m1⟩
    have hB : MR (ar1 1) B := by rw [f1.2 1 (by decide)]; exact hV.2
    refine ⟨hK.c, ma 1, hK.r 1 (by decide), hK.t 1 0 (by decide) rfl, hK.w 1 (by decide), ma 0, hK.r 0 (by decide), hK.t 0 0 (by decide) rfl, hK.w 0 (by decide), ?_⟩
    rw [hK.n 0 (by decide), hK.n 1 (by decide)]
    refine ⟨by decide, by decide, by decide, fun H e => ?_⟩
    subst e
    rw [hK.wa 0 (by decide)]
    have hB2 : MR (va_cpy (gI (mW G x ma sc1 ar1) (ma 1)) (gI (mW G x ma sc1 ar1) (ma 0)) (0 : Int32).toNatClampNeg (0 : Int32).toNatClampNeg (298 : Int32).toNatClampNeg) B := by
      refine MR.cong hB fun q hq => ?_
      show va_cpy _ _ 0 0 298 q = ar1 1 q
      rw [pk_cpy_in (Nat.zero_le _) (by omega), mW_a hK 1 (by decide)]
      congr 1
      omega
    refine ⟨hK.c, ma 0, hK.r 0 (by decide), hK.t 0 0 (by decide) rfl, hK.inb 0 (by decide) 0 rfl (by decide), _, rfl, ?_, _, _, rfl, m1.set hB2⟩
    rw [hK.rd (i := 0) 0 (by decide) 0 rfl (by decide)]
    exact hB2.nl
theorem t_undo (hK : MK G x ma) (hT : MT sc ar S) : TrI Γ l mX2_undo 1 0 0 [.ref x] (mW G x ma sc ar) (fun v G' => v = (xUndo S).1 ∧ ∃ sc' ar', G' = mW G x ma sc' ar' ∧ MT sc' ar' (xUndo S).2) := by
  obtain ⟨h1, ⟨n1, n2, n3⟩, h3, h4, h5, h6⟩ := hT
  refine Tr.intro (by decide +kernel) (Nat.le_of_ble_eq_true rfl) ?_
  refine rX2_undo_0 x ⟨hK.c, ?_⟩
  rw [mW_x hK, n1, li_ 0, nI_eq (by omega) (by decide)]
  cases hH : (sH S).getLast? with
  | none =>
    have hnil : sH S = [] := List.getLast?_eq_none_iff.mp hH
    have X : xUndo S = (-2, S) := by unfold xUndo; rw [hH]
    rw [X]
    refine ⟨fun z => absurd (by rw [hnil]; rfl) z, fun _ => ⟨_, rfl, rfl, sc, ar, rfl, h1, ⟨n1, n2, n3⟩, h3, h4, h5, h6⟩⟩
  | some B =>
    have hpos : 0 < (sH S).length := by
      cases hz : sH S with
      | nil => rw [hz] at hH; cases hH
      | cons a t => exact Nat.succ_pos _
    have hlast : (sH S)[(sH S).length - 1]? = some B := by rw [← List.getLast?_eq_getElem?]; exact hH
    have X : xUndo S = (nI ((sH S).length - 1), (B, (sH S).dropLast, sV S, sQ S, sM S, sY S)) := by unfold xUndo; rw [hH]
    rw [X]
    refine ⟨fun _ => ⟨hK.m, ?_⟩, fun z => by omega⟩
    rw [li_ 1, pk_sub hpos, hK.sx]
    have e4 : 298 * nI ((sH S).length - 1) = nI (298 * ((sH S).length - 1)) := by simp only [li_, nI_add, pk_mul, nI_1, Nat.add_assoc]
    refine ⟨ma 3, hK.r 3 (by decide), hK.t 3 0 (by decide) rfl, hK.w 3 (by decide), ma 0, hK.r 0 (by decide), hK.t 0 0 (by decide) rfl, hK.w 0 (by decide), ?_⟩
    rw [mW_x hK]
    show ¬ (298 * nI ((sH S).length - 1)) < 0 ∧ (298 * nI ((sH S).length - 1)).toNatClampNeg + _ ≤ _ ∧ _ ∧ _ ∧ ∀ H, H = wI _ _ (va_cpy _ _ (298 * nI ((sH S).length - 1)).toNatClampNeg _ _) → _
    rw [e4, nI_clamp (by omega), hK.n 0 (by decide), hK.n 3 (by decide)]
    refine ⟨nI_pos (by omega), by show _ + 298 ≤ 2384; omega, by decide, by decide, fun H e => ?_⟩
    subst e
    rw [hK.wa 0 (by decide)]
    refine ⟨hK.c, _, rfl, by rw [mW_x hK]; rfl, _, _, rfl, MR.cong (n3 _ B hlast) fun q hq => ?_, ⟨?_, ?_, fun j C hj => ?_⟩, h3, h4, h5, h6⟩
    · show va_cpy _ _ _ 0 298 q = ar 3 (298 * ((sH S).length - 1) + q)
      rw [pk_cpy_in (Nat.zero_le _) (by omega), mW_a hK 3 (by decide)]
      congr 1
    · show nI ((sH S).length - 1) = nI (sH S).dropLast.length
      rw [List.length_dropLast]
    · show (sH S).dropLast.length ≤ 8
      rw [List.length_dropLast]; omega
    · have hj' : (sH S).dropLast[j]? = some C := hj
      rw [List.getElem?_dropLast] at hj'
      split at hj'
      · exact n3 j C hj'
      · cases hj'
end MC11
