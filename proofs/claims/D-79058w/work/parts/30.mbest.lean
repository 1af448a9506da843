/-! M's contracts: best pairings, repair -/
set_option maxRecDepth 100000
def pBest (A : AS) (c : Nat) : Bs := pSrch A (cB (cw A c)) 6 (cT (cw A c)) [] 0 (-1) ([], 0)
def oBestMin (A : AS) (p : Int32) : Int32 := if okC A p then (if (pBest A (ix p)).1.length = 0 then -2 else (pBest A (ix p)).2) else -1
def oBestLeg (A : AS) (p i : Int32) : Int32 := if okC A p then (if (pBest A (ix p)).1.length = 0 then -2 else if i = -1 then nI (pBest A (ix p)).1.length else if pIn i 0 (nI (pBest A (ix p)).1.length - 1) then nI ((pBest A (ix p)).1.getD (ix i) 0) else -2) else -1
def aTk (A : AS) (c : Nat) : List Nat → AS
  | [] => A
  | i :: l => aTk (aPut A c i true) c l
def TkOK (A : AS) (c : Nat) : List Nat → Prop
  | [] => True
  | i :: l => i < aN A ∧ (cT (cw A c)).length < 24 ∧ TkOK (aPut A c i true) c l
def xTakeBest (S : SS) (p : Int32) : Int32 × SS := if okC (sA S) p then (if (pBest (sA S) (ix p)).1.length = 0 then (-2, S) else (nI (pBest (sA S) (ix p)).1.length, sSet (sChg S) (aTk (sA S) (ix p) (pBest (sA S) (ix p)).1))) else (-1, S)
def sSetM (S : SS) (A : AS) (m : List Rm) : SS := (A, sH S, sV S, sQ S, m, sY S)
def pRemF (A : AS) (b : Int32) (c : Nat) : Nat → List It → List Rm → List It × List Rm
  | 0, r, m => (r, m)
  | n + 1, r, m => match (pVs A b r)[0]? with
    | none => (r, m)
    | some v => pRemF A b c n (r.eraseIdx v.2) (m ++ [(c, rl r v.2, rf r v.2, -2)])
def pRepF : Nat → Nat → AS → List Rm → AS × List Rm
  | _, 0, A, m => (A, m)
  | c, n + 1, A, m => pRepF (c + 1) n (aSetC A c (wT (cw A c) (pRemF A (cB (cw A c)) c (cT (cw A c)).length (cT (cw A c)) m).1)) (pRemF A (cB (cw A c)) c (cT (cw A c)).length (cT (cw A c)) m).2
def aCall (A : AS) (i : Nat) : AS := match pCall A i with
  | none => A
  | some q => aPut A q.1 i true
def mCall (A : AS) (m : List Rm) (j i : Nat) : List Rm := m.set j ((m.getD j (0, 0, false, 0)).1, (m.getD j (0, 0, false, 0)).2.1, (m.getD j (0, 0, false, 0)).2.2.1, cN (pCall A i))
def pCl1 (i : Nat) : Nat → Nat → AS → List Rm → AS × List Rm
  | _, 0, A, m => (A, m)
  | j, n + 1, A, m => if (m.getD j (0, 0, false, 0)).2.1 = i ∧ (m.getD j (0, 0, false, 0)).2.2.1 = true then pCl1 i (j + 1) n (aCall A i) (mCall A m j i) else pCl1 i (j + 1) n A m
def pClF (r : List It) : Nat → Nat → AS → List Rm → AS × List Rm
  | _, 0, A, m => (A, m)
  | k, n + 1, A, m => pClF r (k + 1) n (pCl1 (rl r k) 0 m.length A m).1 (pCl1 (rl r k) 0 m.length A m).2
def xRepair (S : SS) : Int32 × SS :=
  let q := pRepF 0 (aC (sA S)).length (sA S) []
  let z := pClF (pOp q.1) 0 (pOp q.1).length q.1 q.2
  (nI z.2.length, sSetM (sChg S) z.1 z.2)
section MC15
variable {Γ : GE} {l : Launch} {G : GH} {x : Nat} {ma : Nat → Nat} {sc : Nat → Int32} {ar : Nat → Nat → Int32} {A : AS} {b : Int32} {r : List It} {S : SS}
theorem t_findBest (hK : MK G x ma) (hs : MR (ar 0) A) (hva : RVA A) (c : Nat) (hc : c < (aC A).length) : TrV Γ l mX2_findBest 16 0 0 [.ref x, .int (nI c)] (mW G x ma sc ar) (fun G' => ∃ sc' ar', G' = mW G x ma sc' ar' ∧ Fr [8, 9, 21, 22] [7, 19, 20] sc ar sc' ar' ∧ MB sc' ar' (pBest A c)) := by
  have h24 := hs.l24 c hc
  refine Tr.intro (by decide +kernel) (Nat.le_of_ble_eq_true rfl) ?_
  refine rX2_findBest_0 x _ ⟨hK.c, hK.m, ?_⟩
  rw [hK.sx, hK.sx]
  refine cV.mk0 (t_take hK hs c hc) (by decide) ?_
  rintro G1 ⟨sc1, ar1, rfl, f1, w1⟩
  have hs1 : MR (ar1 0) A := hs.fr f1 (by decide)
  have hB : MB sc1 ar1 ([], 0) := ⟨f1.1 21 (by decide), f1.1 22 (by decide), Nat.zero_le _, fun i k hk => by cases hk⟩
  refine ⟨hK.c, cV.mk0 (t_search hK hva 6 sc1 ar1 (cT (cw A c)) [] 0 (-1) ([], 0) hs1 w1 (hva c hc) rfl (by show _ ≤ 24 + 0; omega) hB (fun i k hk => by cases hk)) (by decide) ?_⟩
  rintro G2 ⟨sc2, ar2, rfl, f2, w2, B2, -⟩
  exact ⟨rfl, sc2, ar2, rfl, (((Fr.rf.us 21 _ (by decide)).us 22 _ (by decide)).tr (f1.wide (by decide) (by decide))).tr (f2.wide (by decide) (by decide)), B2⟩
theorem t_bestMinutes (hK : MK G x ma) (hs : MR (ar 0) A) (hva : RVA A) (p : Int32) : TrI Γ l mX2_bestMinutes 17 0 0 [.ref x, .int p] (mW G x ma sc ar) (fun v G' => v = oBestMin A p ∧ ∃ sc' ar', G' = mW G x ma sc' ar' ∧ Fr [8, 9, 21, 22] [7, 19, 20] sc ar sc' ar') := by
  refine Tr.intro (by decide +kernel) (Nat.le_of_ble_eq_true rfl) ?_
  refine rX2_bestMinutes_0 x _ ⟨hK.c, c_isCrew hK hs p (by decide) ?_⟩
  rw [bI_0]
  refine ⟨fun h => ⟨hK.c, ?_⟩, fun h => ⟨_, rfl, by simp [oBestMin, h], sc, ar, rfl, Fr.rf⟩⟩
  simp only [Bool.not_eq_false] at h
  obtain ⟨g1, g2⟩ := okC.ix hs h
  have T := t_findBest (Γ := Γ) (l := l) (sc := sc) (ar := ar) hK hs hva (ix p) g1
  rw [← g2] at T
  refine cV.mk0 T (by decide) ?_
  rintro G1 ⟨sc1, ar1, rfl, f1, b1, b2, b3, b4⟩
  refine ⟨hK.c, ?_⟩
  rw [mW_x hK, mW_x hK, b1, b2, li_ 0, nI_eq (by omega) (by decide)]
  exact ⟨fun h2 => ⟨_, rfl, by unfold oBestMin; rw [if_pos h, if_neg h2], sc1, ar1, rfl, f1⟩, fun h2 => ⟨_, rfl, by unfold oBestMin; rw [if_pos h, if_pos h2], sc1, ar1, rfl, f1⟩⟩
theorem t_bestLeg (hK : MK G x ma) (hs : MR (ar 0) A) (hva : RVA A) (p i : Int32) : TrI Γ l mX2_bestLeg 17 0 0 [.ref x, .int p, .int i] (mW G x ma sc ar) (fun v G' => v = oBestLeg A p i ∧ ∃ sc' ar', G' = mW G x ma sc' ar' ∧ Fr [8, 9, 21, 22] [7, 19, 20] sc ar sc' ar') := by
  refine Tr.intro (by decide +kernel) (Nat.le_of_ble_eq_true rfl) ?_
  refine rX2_bestLeg_0 x _ _ ⟨hK.c, c_isCrew hK hs p (by decide) ?_⟩
  rw [bI_0]
  refine ⟨fun h => ⟨hK.c, ?_⟩, fun h => ⟨_, rfl, by simp [oBestLeg, h], sc, ar, rfl, Fr.rf⟩⟩
  simp only [Bool.not_eq_false] at h
  obtain ⟨g1, g2⟩ := okC.ix hs h
  have T := t_findBest (Γ := Γ) (l := l) (sc := sc) (ar := ar) hK hs hva (ix p) g1
  rw [← g2] at T
  refine cV.mk0 T (by decide) ?_
  rintro G1 ⟨sc1, ar1, rfl, f1, b1, b2, b3, b4⟩
  refine ⟨hK.c, ?_⟩
  rw [mW_x hK, b1, li_ 0, nI_eq (by omega) (by decide)]
  refine ⟨fun h2 => ⟨fun h3 => cI.det (t_in _ _ _) (by decide) ?_, fun h3 => ⟨_, rfl, by unfold oBestLeg; rw [if_pos h, if_neg h2, if_pos h3], sc1, ar1, rfl, f1⟩⟩, fun h2 => ⟨_, rfl, by unfold oBestLeg; rw [if_pos h, if_pos h2], sc1, ar1, rfl, f1⟩⟩
  show (bI (pIn i (nI 0) (nI (pBest A (ix p)).1.length - 1)) = nI 0 → _) ∧ (¬ bI (pIn i (nI 0) (nI (pBest A (ix p)).1.length - 1)) = nI 0 → _)
  refine ⟨fun h4 => ⟨_, rfl, ?_, sc1, ar1, rfl, f1⟩, fun h4 => ?_⟩
  · have h4 : pIn i 0 (nI (pBest A (ix p)).1.length - 1) = false := bI_0.mp h4
    unfold oBestLeg; rw [if_pos h, if_neg h2, if_neg h3, if_neg (by rw [h4]; simp)]
  · have h4 : pIn i 0 (nI (pBest A (ix p)).1.length - 1) = true := bI_1.mp h4
    obtain ⟨g3, g4⟩ := pIn_ix (by omega) h4
    refine ⟨hK.c, ma 20, hK.r 20 (by decide), hK.t 20 0 (by decide) rfl, hK.inb 20 (by decide) _ g4 (by show _ < 6; omega), _, rfl, ?_, sc1, ar1, rfl, f1⟩
    rw [hK.rd 20 (by decide) _ g4 (by omega), b4 (ix i) _ (List.getElem?_eq_getElem g3)]
    unfold oBestLeg; rw [if_pos h, if_neg h2, if_neg h3, if_pos h4, List.getD_eq_getElem?_getD, List.getElem?_eq_getElem g3]; rfl
theorem aTk_app (A : AS) (c : Nat) (l : List Nat) (i : Nat) : aTk A c (l ++ [i]) = aPut (aTk A c l) c i true := by
  induction l generalizing A with
  | nil => rfl
  | cons a t ih => exact ih _
theorem t_takeBest (hK : MK G x ma) (hT : MT sc ar S) (hva : RVA (sA S)) (p : Int32) (hok : okC (sA S) p = true → TkOK (sA S) (ix p) (pBest (sA S) (ix p)).1) : TrI Γ l mX2_takeBest 17 0 0 [.ref x, .int p] (mW G x ma sc ar) (fun v G' => v = (xTakeBest S p).1 ∧ ∃ sc' ar', G' = mW G x ma sc' ar' ∧ MT sc' ar' (xTakeBest S p).2) := by
  have hs := hT.1
  refine Tr.intro (by decide +kernel) (Nat.le_of_ble_eq_true rfl) ?_
  refine rX2_takeBest_0 x _ ⟨hK.c, c_isCrew hK hs p (by decide) ?_⟩
  rw [bI_0]
  refine ⟨fun h => ⟨hK.c, ?_⟩, fun h => ⟨_, rfl, by simp [xTakeBest, h], sc, ar, rfl, by simp [xTakeBest, h]; exact hT⟩⟩
  simp only [Bool.not_eq_false] at h
  obtain ⟨g1, g2⟩ := okC.ix hs h
  have hok := hok h
  have T := t_findBest (Γ := Γ) (l := l) (sc := sc) (ar := ar) hK hs hva (ix p) g1
  rw [← g2] at T
  refine cV.mk0 T (by decide) ?_
  rintro G1 ⟨sc1, ar1, rfl, f1, b1, b2, b3, b4⟩
  have m1 := hT.fr (f1.wide (by decide) (by decide))
  refine ⟨hK.c, ?_⟩
  rw [mW_x hK, b1, li_ 0, nI_eq (by omega) (by decide)]
  refine ⟨fun h2 => cV.mk0 (t_change hK m1) (by decide) ?_, fun h2 => ⟨_, rfl, by unfold xTakeBest; rw [if_pos h, if_pos h2], sc1, ar1, rfl, by unfold xTakeBest; rw [if_pos h, if_pos h2]; exact m1⟩⟩
  have X : xTakeBest S p = (nI (pBest (sA S) (ix p)).1.length, sSet (sChg S) (aTk (sA S) (ix p) (pBest (sA S) (ix p)).1)) := by unfold xTakeBest; rw [if_pos h, if_neg h2]
  rw [X]
  rintro G2 ⟨sc2, ar2, rfl, f2, m2⟩
  have c1 : sc2 21 = nI (pBest (sA S) (ix p)).1.length := (f2.1 21 (by decide)).trans b1
  have c4 : ∀ (i k : Nat), (pBest (sA S) (ix p)).1[i]? = some k → ar2 20 i = nI k := by rw [f2.2 20 (by decide)]; exact b4
  generalize hq : pBest (sA S) (ix p) = q at *
  have key : ∀ (t d : List Nat) (A : AS) sc3 ar3, q.1 = d ++ t → MT sc3 ar3 (sSet (sChg S) A) → sc3 21 = nI q.1.length → (∀ (i k : Nat), q.1[i]? = some k → ar3 20 i = nI k) → RVA A → (aC A).length = (aC (sA S)).length → TkOK A (ix p) t → aTk A (ix p) t = aTk (sA S) (ix p) q.1 → GW Γ l mX2_takeBest 17 0 0 (fun v G' => ∃ w, v = some (.int w) ∧ w = nI q.1.length ∧ ∃ sc' ar', G' = mW G x ma sc' ar' ∧ MT sc' ar' (sSet (sChg S) (aTk (sA S) (ix p) q.1))) 31 [(0, va_rf (some x)), (1, .int p), (2, .int (nI d.length))] [] (mW G x ma sc3 ar3) 0 0 := by
    intro t
    induction t with
    | nil =>
      intro d A sc3 ar3 hd m3 h21 h20 hv hl hk he
      have : d.length = q.1.length := by rw [hd]; simp
      refine rX2_takeBest_31 x _ _ ⟨hK.c, ?_⟩
      rw [mW_x hK, h21]
      exact br_t (nI_le (by omega) (by omega)) ⟨_, rfl, rfl, sc3, ar3, rfl, by rw [← he]; exact m3⟩
    | cons i t ih =>
      intro d A sc3 ar3 hd m3 h21 h20 hv hl hk he
      have hs3 : MR (ar3 0) A := m3.1
      have hlen : q.1.length = d.length + (t.length + 1) := by rw [hd]; simp
      obtain ⟨k1, k2, k3⟩ := hk
      have hgi : q.1[d.length]? = some i := by rw [hd, List.getElem?_append_right (Nat.le_refl _), Nat.sub_self]; rfl
      refine rX2_takeBest_31 x _ _ ⟨hK.c, ?_⟩
      rw [mW_x hK, h21]
      refine br_f (nI_ge (by omega) (by omega)) ⟨ma 20, hK.r 20 (by decide), hK.t 20 0 (by decide) rfl, hK.inb 20 (by decide) _ rfl (by show _ < 6; omega), ?_⟩
      rw [hK.rd 20 (by decide) _ rfl (by omega), h20 _ _ hgi]
      have T := t_enter (Γ := Γ) (l := l) (sc := sc3) hK hs3 hv (ix p) i true (by omega) k1 k2
      rw [← g2] at T
      refine cI.mk0 T (by decide) ?_
      rintro v G4 ⟨rfl, sc4, ar4, rfl, f4, hs4⟩
      rw [nI_1]
      have := ih (d ++ [i]) (aPut A (ix p) i true) sc4 ar4 (by rw [hd, List.append_assoc]; rfl) (m3.fr0 (f4.wide (by decide) (by decide)) hs4) (by rw [f4.1 21 (by decide)]; exact h21) (by rw [f4.2 20 (by decide)]; exact h20) (hv.set (by omega) ((hv _ (by omega)).put k1)) (by unfold aPut; rw [aC_set]; exact hl) k3 he
      rw [List.length_append] at this
      exact this
  have hs2 := m2.1
  exact key q.1 [] (sA S) sc2 ar2 rfl (by rw [show sSet (sChg S) (sA S) = sChg S by rw [← sChg_A S]; rfl]; exact m2) c1 c4 hva rfl hok rfl
end MC15
