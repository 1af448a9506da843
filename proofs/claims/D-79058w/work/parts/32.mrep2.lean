/-! M's contract: repair -/
set_option maxRecDepth 100000
def ML (m : List Rm) : Prop := ∀ p ∈ m, p.2.1 < 24
theorem ML.call {A : AS} {m : List Rm} {j i : Nat} (h : ML m) (hj : j < m.length) : ML (mCall A m j i) := by
  intro p hp
  unfold mCall at hp
  rcases List.mem_or_eq_of_mem_set hp with hp | hp
  · exact h p hp
  · rw [hp]
    show (m.getD j (0, 0, false, 0)).2.1 < 24
    rw [List.getD_eq_getElem?_getD, List.getElem?_eq_getElem hj]
    exact h _ (List.getElem_mem hj)
theorem ML.rem {A : AS} {b : Int32} {c : Nat} (h24 : aN A ≤ 24) : ∀ n r m, RV A r → ML m → ML (pRemF A b c n r m).2 := by
  intro n
  induction n with
  | zero => intro r m _ h; exact h
  | succ n ih =>
    intro r m hv h
    cases hq : (pVs A b r)[0]? with
    | none => rw [pRem_none hq]; exact h
    | some v =>
      have hvl := (pVs_le A b r).2 v (List.mem_of_getElem? hq)
      rw [pRem_some hq]
      refine ih _ _ (hv.ers (by omega)) (fun p hp => ?_)
      rcases List.mem_append.mp hp with hp | hp
      · exact h p hp
      · rw [List.mem_singleton.mp hp]
        have := hv v.2 (by omega)
        show rl r v.2 < 24
        omega
section MC17
variable {Γ : GE} {l : Launch} {G : GH} {x : Nat} {ma : Nat → Nat} {sc : Nat → Int32} {ar : Nat → Nat → Int32} {A : AS} {b : Int32} {r : List It} {S : SS}
theorem sSetM_A {S : SS} {A : AS} {m : List Rm} : sSet (sSetM S A m) A = sSetM S A m := rfl
/-- one crew's row: what violates it is taken out -/
theorem u_rem (hK : MK G x ma) {Q : Option Value → GH → Prop} (c : Nat) (hb : b = cB (cw A c)) (hc : c < (aC A).length) (Z : List It × List Rm) (hz24 : Z.1.length ≤ 24)
    (fin : ∀ sc1 ar1, MT sc1 ar1 (sSetM S (aSetC A c (wT (cw A c) Z.1)) Z.2) → GW Γ l mX2_repair 12 0 0 Q 11 [(0, va_rf (some x)), (1, .int (nI (c + 1)))] [] (mW G x ma sc1 ar1) 0 0) :
    ∀ n sc ar (r : List It) (m : List Rm), r.length = n → MT sc ar (sSetM S A m) → MW sc ar b r → RV A r → r.length ≤ 24 → m.length + r.length ≤ 144 → pRemF A b c n r m = Z → GW Γ l mX2_repair 12 0 0 Q 32 [(0, va_rf (some x)), (1, .int (nI c)), (2, .int (nI (vcode ((pVs A b r)[0]?))))] [] (mW G x ma sc ar) 0 0 := by
  intro n
  induction n with
  | zero =>
    intro sc ar r m hr hT hw hv h24 h144 he
    have hs : MR (ar 0) A := hT.1
    have hz : pVs A b r = [] := by
      have := (pVs_le A b r).1
      exact List.length_eq_zero_iff.mp (by omega)
    rw [hz]
    refine rX2_repair_32 x _ _ (br_t (by decide) ⟨hK.c, cV.mk0 (t_give hK hs hw h24 c hc) (by decide) ?_⟩)
    rintro G2 ⟨sc2, ar2, rfl, f2, w2, m2⟩
    rw [nI_1]
    have he : (r, m) = Z := he
    have := hT.fr0 (f2.wide (by decide) (by decide)) m2
    exact fin sc2 ar2 (by rw [← he]; exact this)
  | succ n ih =>
    intro sc ar r m hr hT hw hv h24 h144 he
    have hs : MR (ar 0) A := hT.1
    have h6 := hs.2.1
    cases hq : (pVs A b r)[0]? with
    | none =>
      rw [pRem_none hq] at he
      refine rX2_repair_32 x _ _ (br_t (by show nI 0 ≤ 0; decide) ⟨hK.c, cV.mk0 (t_give hK hs hw h24 c hc) (by decide) ?_⟩)
      rintro G2 ⟨sc2, ar2, rfl, f2, w2, m2⟩
      rw [nI_1]
      have := hT.fr0 (f2.wide (by decide) (by decide)) m2
      exact fin sc2 ar2 (by rw [← he]; exact this)
    | some v =>
      rw [pRem_some hq] at he
      have hvl := (pVs_le A b r).2 v (List.mem_of_getElem? hq)
      have D := hcode_div (p := v) ⟨by omega, by omega⟩
      show GW Γ l mX2_repair 12 0 0 Q 32 [(0, va_rf (some x)), (1, .int (nI c)), (2, .int (nI (hcode v)))] [] (mW G x ma sc ar) 0 0
      obtain ⟨a1, a2, a3⟩ := hT.2.2.2.2.1
      have a1 : sc 18 = nI m.length := a1
      have hm : MM (sc 18) (ar 17) m := ⟨a1, a2, a3⟩
      have e0 : 4 * sc 18 = nI (4 * m.length + 0) := by
        rw [a1]
        simp only [li_, nI_add, pk_mul, nI_1, Nat.add_assoc]
        rfl
      have e1 : nI (4 * m.length + 0) + 1 = nI (4 * m.length + 1) := by simp only [li_, nI_add, pk_mul, nI_1, Nat.add_assoc]
      have e2 : nI (4 * m.length + 0) + 2 = nI (4 * m.length + 2) := by simp only [li_, nI_add, pk_mul, nI_1, Nat.add_assoc]
      have e3 : nI (4 * m.length + 0) + 3 = nI (4 * m.length + 3) := by simp only [li_, nI_add, pk_mul, nI_1, Nat.add_assoc]
      refine rX2_repair_32 x _ _ (br_f (nI_nle (by unfold hcode; omega) (by unfold hcode; omega)) ⟨hK.c, ma 17, hK.r 17 (by decide), hK.t 17 0 (by decide) rfl, hK.w 17 (by decide), ?_⟩)
      rw [mW_x hK, e0, D.2, e1, e2, nI_clamp (n := 4 * m.length + 0) (by omega), nI_clamp (n := 4 * m.length + 1) (by omega), hK.sa 17 (by decide)]
      refine ⟨hK.inb 17 (by decide) _ rfl (by show _ < 576; omega), ?_⟩
      have hs1 : MR ((u1 ar 17 (u1 (ar 17) (4 * m.length + 0) (nI c))) 0) A := hs
      have hw1 : MW sc (u1 ar 17 (u1 (ar 17) (4 * m.length + 0) (nI c))) b r := hw
      refine cI.det (t_legAt hK hs1 hw1 hv v.2 (by omega)) (by decide) ⟨ma 17, hK.r 17 (by decide), hK.t 17 0 (by decide) rfl, hK.w 17 (by decide), hK.inb 17 (by decide) _ rfl (by show _ < 576; omega), ?_⟩
      rw [hK.sa 17 (by decide)]
      obtain ⟨g, hg⟩ : ∃ g, g = u1 (u1 (ar 17) (4 * m.length + 0) (nI c)) (4 * m.length + 1) (nI (rl r v.2)) := ⟨_, rfl⟩
      have eg : u1 (u1 ar 17 (u1 (ar 17) (4 * m.length + 0) (nI c))) 17 (u1 (u1 ar 17 (u1 (ar 17) (4 * m.length + 0) (nI c)) 17) (4 * m.length + 1) (nI (rl r v.2))) = u1 ar 17 g := by
        rw [hg]
        funext j
        unfold u1
        by_cases hj : j = 17 <;> simp [hj]
      rw [eg]
      have hs2 : MR ((u1 ar 17 g) 0) A := hs
      have hw2 : MW sc (u1 ar 17 g) b r := hw
      refine ⟨hK.c, cI.det (t_isFlown hK hs2 hw2 hv v.2 (by omega)) (by decide) ?_⟩
      rw [hK.r 17 (by decide)]
      have go : GW Γ l mX2_repair 12 0 0 Q 89 [(0, va_rf (some x)), (1, .int (nI c)), (2, .int (nI (hcode v))), (3, .int (nI (4 * m.length + 0)))] [.int (bI (rf r v.2)), .int (nI (4 * m.length + 2)), va_rf (some (ma 17))] (mW G x ma sc (u1 ar 17 g)) 0 0 := by
        refine rX2_repair_89 x _ _ _ _ _ _ ⟨ma 17, rfl, hK.t 17 0 (by decide) rfl, hK.w 17 (by decide), hK.inb 17 (by decide) _ rfl (by show _ < 576; omega), ?_⟩
        rw [e3, D.2, nI_clamp (n := 4 * m.length + 2) (by omega), nI_clamp (n := 4 * m.length + 3) (by omega), hK.sa 17 (by decide)]
        refine ⟨hK.c, ma 17, hK.r 17 (by decide), hK.t 17 0 (by decide) rfl, hK.w 17 (by decide), hK.inb 17 (by decide) _ rfl (by show _ < 576; omega), ?_⟩
        rw [hK.sa 17 (by decide)]
        obtain ⟨g2, hg2⟩ : ∃ g2, g2 = u1 (u1 g (4 * m.length + 2) (bI (rf r v.2))) (4 * m.length + 3) (-2) := ⟨_, rfl⟩
        have eg2 : u1 (u1 (u1 ar 17 g) 17 (u1 (u1 ar 17 g 17) (4 * m.length + 2) (bI (rf r v.2)))) 17 (u1 (u1 (u1 ar 17 g) 17 (u1 (u1 ar 17 g 17) (4 * m.length + 2) (bI (rf r v.2))) 17) (4 * m.length + 3) (-2)) = u1 ar 17 g2 := by
          rw [hg2]
          funext j
          unfold u1
          by_cases hj : j = 17 <;> simp [hj]
        rw [eg2]
        refine ⟨hK.m, ?_⟩
        rw [mW_x hK, hK.sx, a1, nI_1]
        have hw3 : MW (u1 sc 18 (nI (m.length + 1))) (u1 ar 17 g2) b r := hw
        refine cV.mk0 (t_takeOut hK hw3 v.2 (by omega)) (by decide) ?_
        rintro G5 ⟨sc5, ar5, rfl, f5, w5⟩
        have f15 : Fr (18 :: xS) (0 :: 17 :: xT) sc ar sc5 ar5 := (((Fr.rf.us 18 _ (by decide)).ua 17 _ (by decide)).tr (f5.wide (by decide) (by decide)))
        have hs5 : MR (ar5 0) A := by rw [f5.2 0 (by decide)]; exact hs
        have M5 : MM (sc5 18) (ar5 17) (m ++ [(c, rl r v.2, rf r v.2, -2)]) := by
          rw [f5.1 18 (by decide), f5.2 17 (by decide)]
          show MM (nI (m.length + 1)) g2 _
          refine hm.app (by omega) _ ?_ ?_ ?_ ?_ (fun k hk => ?_)
          · rw [hg2, hg]; unfold u1; rw [if_neg (by omega), if_neg (by omega), if_neg (by omega), if_pos rfl]
          · rw [hg2, hg]; unfold u1; rw [if_neg (by omega), if_neg (by omega), if_pos rfl]
          · rw [hg2, hg]; unfold u1; rw [if_neg (by omega), if_pos rfl]
          · rw [hg2, hg]; unfold u1; rw [if_pos rfl]
          · rw [hg2, hg]; unfold u1; rw [if_neg (by omega), if_neg (by omega), if_neg (by omega), if_neg (by omega)]
        have hv5 : RV A (r.eraseIdx v.2) := hv.ers (by omega)
        have hlen : (r.eraseIdx v.2).length = r.length - 1 := by rw [List.length_eraseIdx, if_pos (by omega)]
        refine ⟨hK.c, cI.det (t_violationAt hK hs5 w5 hv5 0 (by decide)) (by decide) ?_⟩
        have T5 : MT sc5 ar5 (sSetM S A (m ++ [(c, rl r v.2, rf r v.2, -2)])) := by
          have := hT.frM (A := A) (m := m ++ [(c, rl r v.2, rf r v.2, -2)]) f15 hs5 M5
          exact this
        exact ih sc5 ar5 (r.eraseIdx v.2) _ (by omega) T5 w5 hv5 (by omega) (by rw [List.length_append, hlen]; show m.length + 1 + _ ≤ _; omega) he
      rw [bI_0]
      refine ⟨fun h => ?_, fun h => ?_⟩
      · rw [h] at go; exact go
      · simp only [Bool.not_eq_false] at h
        rw [h] at go; exact go
theorem pCl1_ok : ∀ n j (A : AS) (m : List Rm) (i : Nat), WR A → i < aN A → WR (pCl1 i j n A m).1 ∧ Same A (pCl1 i j n A m).1 ∧ (pCl1 i j n A m).2.length = m.length := by
  intro n
  induction n with
  | zero => intro j A m i h hi; exact ⟨h, Same.rf, rfl⟩
  | succ n ih =>
    intro j A m i h hi
    unfold pCl1
    split
    · obtain ⟨o1, o2⟩ := aCall_ok h hi
      obtain ⟨q1, q2, q3⟩ := ih (j + 1) (aCall A i) (mCall A m j i) i o1 (by rw [o2.1]; exact hi)
      exact ⟨q1, o2.tr q2, by rw [q3]; unfold mCall; rw [List.length_set]⟩
    · exact ih (j + 1) A m i h hi
theorem t_repair (hK : MK G x ma) (hT : MT sc ar S) (hw : WR (sA S)) : TrI Γ l mX2_repair 12 0 0 [.ref x] (mW G x ma sc ar) (fun v G' => v = (xRepair S).1 ∧ ∃ sc' ar', G' = mW G x ma sc' ar' ∧ MT sc' ar' (xRepair S).2) := by
  have h6 := hT.1.2.1
  refine Tr.intro (by decide +kernel) (Nat.le_of_ble_eq_true rfl) ?_
  refine rX2_repair_0 x ⟨hK.c, cV.mk0 (t_change hK hT) (by decide) ?_⟩
  rintro G1 ⟨sc1, ar1, rfl, f1, m1⟩
  refine ⟨hK.c, hK.m, ?_⟩
  rw [hK.sx]
  have hs1 : MR (ar1 0) (sA S) := by have := m1.1; rw [sChg_A] at this; exact this
  have T1 : MT (u1 sc1 18 0) ar1 (sSetM (sChg S) (sA S) []) := m1.frM (Fr.rf.us 18 _ (by decide)) hs1 ⟨rfl, Nat.zero_le _, fun j p hj => by cases hj⟩
  obtain ⟨Z1, hZ1⟩ : ∃ Z, Z = pRepF 0 (aC (sA S)).length (sA S) [] := ⟨_, rfl⟩
  obtain ⟨Z2, hZ2⟩ : ∃ Z, Z = pClF (pOp Z1.1) 0 (pOp Z1.1).length Z1.1 Z1.2 := ⟨_, rfl⟩
  have X : xRepair S = (nI Z2.2.length, sSetM (sChg S) Z2.1 Z2.2) := by unfold xRepair; rw [hZ2, hZ1]
  rw [X]
  -- the second part
  have second : ∀ (rr : List It), (∀ i, i < rr.length → rl rr i < aN (sA S)) → rr.length ≤ 24 → ∀ n k sc3 ar3 (A : AS) (m : List Rm), k + n = rr.length → MT sc3 ar3 (sSetM (sChg S) A m) → WR A → aN A = aN (sA S) → ML m → (∀ j, j < rr.length → ar3 16 j = nI (rl rr j)) → pClF rr k n A m = Z2 → GW Γ l mX2_repair 12 0 0 (fun v G' => ∃ q, v = some (.int q) ∧ q = nI Z2.2.length ∧ ∃ sc' ar', G' = mW G x ma sc' ar' ∧ MT sc' ar' (sSetM (sChg S) Z2.1 Z2.2)) 164 [(0, va_rf (some x)), (1, .int (nI rr.length)), (2, .int (nI k))] [] (mW G x ma sc3 ar3) 0 0 := by
    intro rr hrr hr24 n
    induction n with
    | zero =>
      intro k sc3 ar3 A m hk T3 wA hn hml hp he
      have he : (A, m) = Z2 := he
      refine rX2_repair_164 x _ _ (br_t (nI_le (by omega) (by omega)) ⟨hK.c, _, rfl, ?_, sc3, ar3, rfl, by rw [← he]; exact T3⟩)
      rw [mW_x hK, T3.2.2.2.2.1.1, ← he]
      rfl
    | succ n ih =>
      intro k sc3 ar3 A m hk T3 wA hn hml hp he
      have he : pClF rr (k + 1) n (pCl1 (rl rr k) 0 m.length A m).1 (pCl1 (rl rr k) 0 m.length A m).2 = Z2 := he
      have hlt : rl rr k < aN A := by rw [hn]; exact hrr k (by omega)
      refine rX2_repair_164 x _ _ (br_f (nI_ge (by omega) (by omega)) ?_)
      have inner : ∀ q j sc4 ar4 (A : AS) (m : List Rm), j + q = m.length → MT sc4 ar4 (sSetM (sChg S) A m) → WR A → aN A = aN (sA S) → ML m → (∀ j, j < rr.length → ar4 16 j = nI (rl rr j)) → pClF rr (k + 1) n (pCl1 (rl rr k) j q A m).1 (pCl1 (rl rr k) j q A m).2 = Z2 → GW Γ l mX2_repair 12 0 0 (fun v G' => ∃ q, v = some (.int q) ∧ q = nI Z2.2.length ∧ ∃ sc' ar', G' = mW G x ma sc' ar' ∧ MT sc' ar' (sSetM (sChg S) Z2.1 Z2.2)) 171 [(0, va_rf (some x)), (1, .int (nI rr.length)), (2, .int (nI k)), (3, .int (nI j))] [] (mW G x ma sc4 ar4) 0 0 := by
        intro q
        induction q with
        | zero =>
          intro j sc4 ar4 A m hj T4 wA hn hml hp he
          obtain ⟨a1, a2, a3⟩ := T4.2.2.2.2.1
          have a1 : sc4 18 = nI m.length := a1
          have a2 : m.length ≤ 144 := a2
          refine rX2_repair_171 x _ _ _ ⟨hK.c, ?_⟩
          rw [mW_x hK, a1, nI_1]
          exact br_t (nI_le (by omega) (by omega)) (ih (k + 1) sc4 ar4 A m (by omega) T4 wA hn hml hp he)
        | succ q ihq =>
          intro j sc4 ar4 A m hj T4 wA hn hml hp he
          have hs4 : MR (ar4 0) A := T4.1
          obtain ⟨a1, a2, a3⟩ := T4.2.2.2.2.1
          have a1 : sc4 18 = nI m.length := a1
          have a2 : m.length ≤ 144 := a2
          have hjl : j < m.length := by omega
          have hg : m[j]? = some m[j] := List.getElem?_eq_getElem hjl
          have hd : m.getD j (0, 0, false, 0) = m[j] := by rw [List.getD_eq_getElem?_getD, hg]; rfl
          obtain ⟨c0, c1, c2, c3⟩ := a3 j _ hg
          have hlt : rl rr k < aN A := by rw [hn]; exact hrr k (by omega)
          have hA24 := hs4.1
          have e1 : (4 * nI j) + 1 = nI (4 * j + 1) := by simp only [li_, nI_add, pk_mul, nI_1, Nat.add_assoc]
          have e2 : (4 * nI j) + 2 = nI (4 * j + 2) := by simp only [li_, nI_add, pk_mul, nI_1, Nat.add_assoc]
          refine rX2_repair_171 x _ _ _ ⟨hK.c, ?_⟩
          rw [mW_x hK, a1]
          refine br_f (nI_ge (by omega) (by omega)) ⟨ma 17, hK.r 17 (by decide), hK.t 17 0 (by decide) rfl, hK.inb 17 (by decide) _ e1 (by show _ < 576; omega), ma 16, hK.r 16 (by decide), hK.t 16 0 (by decide) rfl, hK.inb 16 (by decide) _ rfl (by show _ < 25; omega), ?_⟩
          rw [hK.rd 17 (by decide) _ e1 (by omega), hK.rd 16 (by decide) _ rfl (by omega), hK.rd 17 (by decide) _ e2 (by omega), hp k (by omega), show ar4 17 (4 * j + 1) = nI (m[j]).2.1 from c1, show ar4 17 (4 * j + 2) = bI (m[j]).2.2.1 from c2, bI_e1, nI_1]
          have skip : ¬ (nI (m[j]).2.1 = nI (rl rr k) ∧ (m[j]).2.2.1 = true) → GW Γ l mX2_repair 12 0 0 (fun v G' => ∃ q, v = some (.int q) ∧ q = nI Z2.2.length ∧ ∃ sc' ar', G' = mW G x ma sc' ar' ∧ MT sc' ar' (sSetM (sChg S) Z2.1 Z2.2)) 171 [(0, va_rf (some x)), (1, .int (nI rr.length)), (2, .int (nI k)), (3, .int (nI (j + 1)))] [] (mW G x ma sc4 ar4) 0 0 := by
            intro hno
            refine ihq (j + 1) sc4 ar4 A m (by omega) T4 wA hn hml hp ?_
            unfold pCl1 at he
            rw [hd, if_neg (fun z => hno ⟨by rw [z.1], z.2⟩)] at he
            exact he
          refine ⟨fun h1 => skip (fun z => h1 z.1), fun h1 => ⟨hK.inb 17 (by decide) _ e2 (by show _ < 576; omega), fun h2 => skip (fun z => h2 z.2), fun h2 => ⟨hK.inb 16 (by decide) _ rfl (by show _ < 25; omega), ?_⟩⟩⟩
          refine cV.mk0 (t_callFor hK hs4 wA ⟨a1, a2, a3⟩ j (rl rr k) hjl hlt) (by decide) ?_
          rintro G5 ⟨sc5, ar5, rfl, f5, hs5, M5⟩
          obtain ⟨o1, o2⟩ := aCall_ok wA hlt
          refine ihq (j + 1) sc5 ar5 (aCall A (rl rr k)) (mCall A m j (rl rr k)) (by unfold mCall; rw [List.length_set]; omega) ?_ o1 (by rw [o2.1]; exact hn) (hml.call hjl) (fun j hj => by rw [f5.2 16 (by decide)]; exact hp j hj) ?_
          · exact T4.frM (A := aCall A (rl rr k)) (m := mCall A m j (rl rr k)) (f5.wide (by decide) (by decide)) hs5 M5
          · unfold pCl1 at he
            have hb := hml _ (List.getElem_mem hjl)
            have h3 : (m[j]).2.1 = rl rr k := nI_e (by omega) (by omega) h1
            rw [hd, if_pos ⟨h3, h2⟩] at he
            exact he
      exact inner m.length 0 sc3 ar3 A m (by omega) T3 wA hn hml hp he
  have first : ∀ n c sc2 ar2 (A : AS) (m : List Rm), c + n = (aC (sA S)).length → MT sc2 ar2 (sSetM (sChg S) A m) → WR A → aN A = aN (sA S) → (aC A).length = (aC (sA S)).length → ML m → m.length ≤ 24 * c → pRepF c n A m = Z1 → GW Γ l mX2_repair 12 0 0 (fun v G' => ∃ q, v = some (.int q) ∧ q = nI Z2.2.length ∧ ∃ sc' ar', G' = mW G x ma sc' ar' ∧ MT sc' ar' (sSetM (sChg S) Z2.1 Z2.2)) 11 [(0, va_rf (some x)), (1, .int (nI c))] [] (mW G x ma sc2 ar2) 0 0 := by
    intro n
    induction n with
    | zero =>
      intro c sc2 ar2 A m hc T2 wA hn hl hml hm24 he
      have hs2 : MR (ar2 0) A := T2.1
      have he : (A, m) = Z1 := he
      refine rX2_repair_11 x _ ⟨hK.c, ma 0, hK.r 0 (by decide), hK.t 0 0 (by decide) rfl, hK.inb 0 (by decide) 1 rfl (by decide), ?_⟩
      rw [hK.rd (i := 1) 0 (by decide) 1 rfl (by decide), hs2.nc]
      refine br_t (nI_le (by omega) (by omega)) (cV.mk0 (t_findOpen hK hs2 wA.2.1) (by decide) ?_)
      rintro G3 ⟨sc3, ar3, rfl, f3, e3, o3⟩
      have hol := pOp_le hs2
      refine ⟨hK.c, ma 10, hK.r 10 (by decide), hK.t 10 0 (by decide) rfl, hK.w 10 (by decide), ma 16, hK.r 16 (by decide), hK.t 16 0 (by decide) rfl, hK.w 16 (by decide), ?_⟩
      rw [hK.n 10 (by decide), hK.n 16 (by decide), mW_x hK, e3]
      refine ⟨by decide, by decide, by decide, fun H e => ?_⟩
      subst e
      rw [hK.wa 16 (by decide)]
      have T3 : MT sc3 (u1 ar3 16 (va_cpy (gI (mW G x ma sc3 ar3) (ma 10)) (gI (mW G x ma sc3 ar3) (ma 16)) (0 : Int32).toNatClampNeg (0 : Int32).toNatClampNeg (25 : Int32).toNatClampNeg)) (sSetM (sChg S) A m) := T2.fr ((f3.wide (by decide) (by decide)).ua 16 _ (by decide))
      refine second (pOp A) (fun i hi => by rw [← hn]; exact hol.2 i hi) hol.1 (pOp A).length 0 sc3 _ A m (by omega) T3 wA hn hml (fun j hj => ?_) (by rw [hZ2, ← he])
      show va_cpy _ _ 0 0 25 j = _
      rw [pk_cpy_in (Nat.zero_le _) (by omega), mW_a hK 10 (by decide), ← o3 j hj]
      congr 1
      omega
    | succ n ih =>
      intro c sc2 ar2 A m hc T2 wA hn hl hml hm24 he
      have hs2 : MR (ar2 0) A := T2.1
      have hcl : c < (aC A).length := by omega
      have h24c := hs2.l24 c hcl
      have hA24 := hs2.1
      have he : pRepF (c + 1) n (aSetC A c (wT (cw A c) (pRemF A (cB (cw A c)) c (cT (cw A c)).length (cT (cw A c)) m).1)) (pRemF A (cB (cw A c)) c (cT (cw A c)).length (cT (cw A c)) m).2 = Z1 := he
      refine rX2_repair_11 x _ ⟨hK.c, ma 0, hK.r 0 (by decide), hK.t 0 0 (by decide) rfl, hK.inb 0 (by decide) 1 rfl (by decide), ?_⟩
      rw [hK.rd (i := 1) 0 (by decide) 1 rfl (by decide), hs2.nc]
      refine br_f (nI_ge (by omega) (by omega)) (cV.mk0 (t_take hK hs2 c hcl) (by decide) ?_)
      rintro G3 ⟨sc3, ar3, rfl, f3, w3⟩
      have hs3 : MR (ar3 0) A := hs2.fr f3 (by decide)
      have T3 : MT sc3 ar3 (sSetM (sChg S) A m) := T2.fr (f3.wide (by decide) (by decide))
      have hv := wA.2.1 c hcl
      have hd := wA.2.2 c hcl
      obtain ⟨p1, p2, p3, p4⟩ := pRemF_ok (A := A) (b := cB (cw A c)) (c := c) (cT (cw A c)).length (cT (cw A c)) m rfl hv hd
      refine ⟨hK.c, cI.det (t_violationAt hK hs3 w3 hv 0 (by decide)) (by decide) ?_⟩
      refine u_rem (S := sChg S) hK c rfl hcl (pRemF A (cB (cw A c)) c (cT (cw A c)).length (cT (cw A c)) m) (by omega) (fun sc4 ar4 T4 => ?_) (cT (cw A c)).length sc3 ar3 (cT (cw A c)) m rfl T3 w3 hv h24c (by omega) rfl
      exact ih (c + 1) sc4 ar4 _ _ (by omega) T4 (wA.set hcl p1 p2) hn (by rw [aC_set]; exact hl) (hml.rem hA24 _ _ _ hv) (by omega) he
  exact first (aC (sA S)).length 0 _ ar1 (sA S) [] (by omega) T1 hw rfl rfl (fun p hp => by cases hp) (Nat.zero_le _) hZ1.symm
end MC17
