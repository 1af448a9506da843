/-! M's contracts: offers, history -/
set_option maxRecDepth 100000
theorem MR.cong {f g : Nat → Int32} {D : AS} (hD : MR g D) (hg : ∀ q, q < 298 → f q = g q) : MR f D := by
  have d24 := hD.1
  have d6 := hD.2.1
  refine ⟨hD.1, hD.2.1, (hg 0 (by omega)).trans hD.nl, (hg 1 (by omega)).trans hD.nc, fun q hq => (hg _ (by omega)).trans (hD.ru q hq), fun i f hi hf => (hg _ (by omega)).trans (hD.lg i f hi hf), fun c hc => ?_⟩
  have dl := hD.l24 c hc
  obtain ⟨o1, o2, o3, o4, o5, o6⟩ := hD.crew c hc
  exact ⟨(hg _ (by omega)).trans o1, (hg _ (by omega)).trans o2, (hg _ (by omega)).trans o3, (hg _ (by omega)).trans o4, o5, fun i hi => (hg _ (by omega)).trans (o6 i hi)⟩
section MC9
variable {Γ : GE} {l : Launch} {G : GH} {x : Nat} {ma : Nat → Nat} {sc : Nat → Int32} {ar : Nat → Nat → Int32} {A : AS} {b : Int32} {r : List It}
theorem MO.fr {S T : List Nat} {sc sc' : Nat → Int32} {ar ar' : Nat → Nat → Int32} {n : Nat} {o : Option Of} (h : MO sc n o) (f : Fr S T sc ar sc' ar') (h12 : 12 ∉ S) (h13 : 13 ∉ S) (h14 : 14 ∉ S) (h15 : 15 ∉ S) : MO sc' n o := by
  cases o with
  | none => exact ⟨(f.1 12 h12).trans h.1, (f.1 13 h13).trans h.2⟩
  | some q => exact ⟨h.1, (f.1 12 h12).trans h.2.1, (f.1 13 h13).trans h.2.2.1, (f.1 14 h14).trans h.2.2.2.1, (f.1 15 h15).trans h.2.2.2.2⟩
theorem t_consider (hK : MK G x ma) (hs : MR (ar 0) A) (hva : RVA A) (c : Nat) (hc : c < (aC A).length) (i p : Int32) (o : Option Of) (ho : MO sc (aC A).length o) : TrV Γ l mX2_consider 5 0 0 [.ref x, .int (nI c), .int i, .int p] (mW G x ma sc ar) (fun G' => ∃ sc' ar', G' = mW G x ma sc' ar' ∧ Fr [8, 9, 12, 13, 14, 15] [7] sc ar sc' ar' ∧ MO sc' (aC A).length (pSee o c i p (pMin A c))) := by
  have h6 := hs.2.1
  refine Tr.intro (by decide +kernel) (Nat.le_of_ble_eq_true rfl) ?_
  refine rX2_consider_0 x _ _ _ ⟨hK.c, cI.mk0 (t_minutesOf hK hs hva c hc) (by decide) ?_⟩
  rintro v G1 ⟨rfl, sc1, ar1, rfl, f1⟩
  have o1 : MO sc1 (aC A).length o := ho.fr f1 (by decide) (by decide) (by decide) (by decide)
  have f1' : Fr [8, 9, 12, 13, 14, 15] [7] sc ar sc1 ar1 := f1.wide (by decide) (by decide)
  have no : pSee o c i p (pMin A c) = o → GW Γ l mX2_consider 5 0 0 (fun v G' => v = none ∧ ∃ sc' ar', G' = mW G x ma sc' ar' ∧ Fr [8, 9, 12, 13, 14, 15] [7] sc ar sc' ar' ∧ MO sc' (aC A).length (pSee o c i p (pMin A c))) 44 [(0, va_rf (some x)), (1, .int (nI c)), (2, .int i), (3, .int p), (4, .int (pMin A c))] [.int 0] (mW G x ma sc1 ar1) 0 0 := by
    intro e
    rw [e]
    exact rX2_consider_44 x _ _ _ _ _ (br_t rfl ⟨rfl, sc1, ar1, rfl, f1', o1⟩)
  have yes : pSee o c i p (pMin A c) = some (c, i, p, pMin A c) → GW Γ l mX2_consider 5 0 0 (fun v G' => v = none ∧ ∃ sc' ar', G' = mW G x ma sc' ar' ∧ Fr [8, 9, 12, 13, 14, 15] [7] sc ar sc' ar' ∧ MO sc' (aC A).length (pSee o c i p (pMin A c))) 44 [(0, va_rf (some x)), (1, .int (nI c)), (2, .int i), (3, .int p), (4, .int (pMin A c))] [.int 1] (mW G x ma sc1 ar1) 0 0 := by
    intro e
    rw [e]
    refine rX2_consider_44 x _ _ _ _ _ (br_f (by decide) ⟨hK.c, hK.m, ?_⟩)
    rw [hK.sx, hK.sx, hK.sx, hK.sx]
    exact ⟨rfl, _, _, rfl, (((f1'.us 12 _ (by decide)).us 13 _ (by decide)).us 14 _ (by decide)).us 15 _ (by decide), hc, rfl, rfl, rfl, rfl⟩
  refine ⟨hK.c, ?_⟩
  rw [mW_x hK, mW_x hK, mW_x hK]
  cases o with
  | none =>
    rw [o1.1]
    exact br_t (by decide) (yes rfl)
  | some q =>
    obtain ⟨q1, q2, q3, q4, q5⟩ := o1
    rw [q2, q4, q5]
    have E : pSee (some q) c i p (pMin A c) = if p < q.2.2.1 ∨ (p = q.2.2.1 ∧ ¬ q.2.2.2 ≤ pMin A c) then some (c, i, p, pMin A c) else some q := rfl
    refine br_f (nI_pos (by omega)) ⟨fun h => yes (by rw [E, if_pos (Or.inl h)]), fun h => ⟨fun h2 => no (by rw [E, if_neg (fun z => z.elim h (fun z => h2 z.1))]), fun h2 => ⟨fun h3 => no (by rw [E, if_neg (fun z => z.elim h (fun z => z.2 h3))]), fun h3 => yes (by rw [E, if_pos (Or.inr ⟨h2, h3⟩)])⟩⟩⟩
theorem t_isWay (hK : MK G x ma) (hs : MR (ar 0) A) (hva : RVA A) (c j i : Nat) (hc : c < (aC A).length) (hj : j < aN A) (hi : i < aN A) : TrI Γ l mX2_isWay 10 0 0 [.ref x, .int (nI c), .int (nI j), .int (nI i)] (mW G x ma sc ar) (fun v G' => v = bI (pWay A c j i) ∧ ∃ sc' ar', G' = mW G x ma sc' ar' ∧ Fr [8, 9] [7] sc ar sc' ar') := by
  have h24c := hs.l24 c hc
  refine Tr.intro (by decide +kernel) (Nat.le_of_ble_eq_true rfl) ?_
  refine rX2_isWay_0 x _ _ _ ⟨hK.c, cI.det (t_of hK hs j 2 hj (by decide)) (by decide) ⟨hK.c, cI.det (t_of hK hs i 2 hi (by decide)) (by decide) ⟨fun h => ⟨_, rfl, ?_, sc, ar, rfl, Fr.rf⟩, fun h => ⟨hK.c, cI.mk0 (t_hinders hK hs hva c j false hc hj) (by decide) ?_⟩⟩⟩⟩
  · have : ¬ aL A j 2 < aL A i 2 := Int32.not_lt.mpr h
    simp [pWay, this, bI]
  · have h1 : aL A j 2 < aL A i 2 := Int32.not_le.mp h
    rintro v G1 ⟨rfl, sc1, ar1, rfl, f1, w1⟩
    have hs1 : MR (ar1 0) A := hs.fr f1 (by decide)
    have hl := pHin_lt (A := A) (b := cB (cw A c)) (i := j) (f := false) (show (cT (cw A c)).length < 48 by omega)
    rw [(hcode_0 hl.2.2 ⟨hl.1, hl.2.1⟩).2]
    refine ⟨fun h2 => ⟨hK.c, cI.mk0 (t_put hK hs1 w1 (hva c hc) (by omega) j false hj) (by decide) ?_⟩, fun h2 => ⟨_, rfl, by simp [pWay, h2, bI], sc1, ar1, rfl, f1⟩⟩
    rintro v G2 ⟨rfl, sc2, ar2, rfl, f2, w2⟩
    have hs2 : MR (ar2 0) A := hs1.fr f2 (by decide)
    have f12 := f1.tr (f2.wide (by decide) (by decide))
    refine ⟨hK.c, cI.mk0 (t_hinders2 hK hs2 w2 ((hva c hc).put hj) hva (by rw [pPut_len]; omega) i true hi) (by decide) ?_⟩
    rintro v G3 ⟨rfl, sc3, ar3, rfl, f3, w3⟩
    have f13 := f12.tr (f3.wide (by decide) (by decide))
    have hl := pHin_lt (A := A) (b := cB (cw A c)) (i := i) (f := true) (show (pPut A (cT (cw A c)) j false).length < 48 by rw [pPut_len]; omega)
    rw [(hcode_0 hl.2.2 ⟨hl.1, hl.2.1⟩).1]
    exact ⟨fun h3 => ⟨_, rfl, by simp [pWay, h3, bI], sc3, ar3, rfl, f13⟩, fun h3 => ⟨_, rfl, by simp [pWay, h1, h2, h3, bI], sc3, ar3, rfl, f13⟩⟩
theorem t_findOffer (hK : MK G x ma) (hs : MR (ar 0) A) (hva : RVA A) (i : Nat) (hi : i < aN A) : TrV Γ l mX2_findOffer 11 0 0 [.ref x, .int (nI i)] (mW G x ma sc ar) (fun G' => ∃ sc' ar', G' = mW G x ma sc' ar' ∧ Fr [8, 9, 12, 13, 14, 15] [7] sc ar sc' ar' ∧ MO sc' (aC A).length (pOff A i)) := by
  have h6 := hs.2.1
  have h24 := hs.1
  refine Tr.intro (by decide +kernel) (Nat.le_of_ble_eq_true rfl) ?_
  refine rX2_findOffer_0 x _ ⟨hK.c, hK.m, ?_⟩
  rw [hK.sx, hK.sx]
  have key : ∀ n c sc1 ar1 (o : Option Of), c + n = (aC A).length → Fr [8, 9, 12, 13, 14, 15] [7] sc ar sc1 ar1 → MO sc1 (aC A).length o → pOffF A i c n o = pOff A i → GW Γ l mX2_findOffer 11 0 0 (fun v G' => v = none ∧ ∃ sc' ar', G' = mW G x ma sc' ar' ∧ Fr [8, 9, 12, 13, 14, 15] [7] sc ar sc' ar' ∧ MO sc' (aC A).length (pOff A i)) 14 [(0, va_rf (some x)), (1, .int (nI i)), (2, .int (nI c))] [] (mW G x ma sc1 ar1) 0 0 := by
    intro n
    induction n with
    | zero =>
      intro c sc1 ar1 o hc f1 ho he
      have hs1 : MR (ar1 0) A := hs.fr f1 (by decide)
      refine rX2_findOffer_14 x _ _ ⟨hK.c, ma 0, hK.r 0 (by decide), hK.t 0 0 (by decide) rfl, hK.inb 0 (by decide) 1 rfl (by decide), ?_⟩
      rw [hK.rd (i := 1) 0 (by decide) 1 rfl (by decide), hs1.nc]
      exact br_t (nI_le (by omega) (by omega)) ⟨rfl, sc1, ar1, rfl, f1, by rw [← he]; exact ho⟩
    | succ n ih =>
      intro c sc1 ar1 o hc f1 ho he
      have hs1 : MR (ar1 0) A := hs.fr f1 (by decide)
      have hcl : c < (aC A).length := by omega
      have h24c := hs.l24 c hcl
      have he : pOffF A i (c + 1) n (pOfC A c i o) = pOff A i := he
      refine rX2_findOffer_14 x _ _ ⟨hK.c, ma 0, hK.r 0 (by decide), hK.t 0 0 (by decide) rfl, hK.inb 0 (by decide) 1 rfl (by decide), ?_⟩
      rw [hK.rd (i := 1) 0 (by decide) 1 rfl (by decide), hs1.nc]
      refine br_f (nI_ge (by omega) (by omega)) (cI.det (t_isReserve hK hs1 c hcl) (by decide) ?_)
      rw [bI_0]
      refine ⟨fun h => ?_, fun h => ⟨hK.c, cI.mk0 (t_hinders hK hs1 hva c i true hcl hi) (by decide) ?_⟩⟩
      · simp only [Bool.not_eq_false] at h
        rw [nI_1]
        exact ih (c + 1) sc1 ar1 o (by omega) f1 ho (by rw [← he]; unfold pOfC; rw [if_pos h])
      · rintro v G2 ⟨rfl, sc2, ar2, rfl, f2, w2⟩
        have hs2 : MR (ar2 0) A := hs1.fr f2 (by decide)
        have f12 := f1.tr (f2.wide (S' := [8, 9, 12, 13, 14, 15]) (T' := [7]) (by decide) (by decide))
        have ho2 : MO sc2 (aC A).length o := ho.fr f2 (by decide) (by decide) (by decide) (by decide)
        have hl := pHin_lt (A := A) (b := cB (cw A c)) (i := i) (f := true) (show (cT (cw A c)).length < 48 by omega)
        rw [(hcode_0 hl.2.2 ⟨hl.1, hl.2.1⟩).1]
        have he2 : pOfC A c i o = pOfF A c i 0 (aN A) (if pHin A (cB (cw A c)) (cT (cw A c)) i true = (0, 0) then pSee o c (-2) 0 (pMin A c) else o) := by
          unfold pOfC
          rw [if_neg (by simp [h])]
        rw [he2] at he
        have loop : ∀ m j sc3 ar3 (o3 : Option Of), j + m = aN A → Fr [8, 9, 12, 13, 14, 15] [7] sc ar sc3 ar3 → MO sc3 (aC A).length o3 → pOffF A i (c + 1) n (pOfF A c i j m o3) = pOff A i → GW Γ l mX2_findOffer 11 0 0 (fun v G' => v = none ∧ ∃ sc' ar', G' = mW G x ma sc' ar' ∧ Fr [8, 9, 12, 13, 14, 15] [7] sc ar sc' ar' ∧ MO sc' (aC A).length (pOff A i)) 52 [(0, va_rf (some x)), (1, .int (nI i)), (2, .int (nI c)), (3, .int (nI j))] [] (mW G x ma sc3 ar3) 0 0 := by
          intro m
          induction m with
          | zero =>
            intro j sc3 ar3 o3 hj f3 ho3 he3
            have hs3 : MR (ar3 0) A := hs.fr f3 (by decide)
            refine rX2_findOffer_52 x _ _ _ ⟨hK.c, ma 0, hK.r 0 (by decide), hK.t 0 0 (by decide) rfl, hK.inb 0 (by decide) 0 rfl (by decide), ?_⟩
            rw [hK.rd (i := 0) 0 (by decide) 0 rfl (by decide), hs3.nl, nI_1]
            exact br_t (nI_le (by omega) (by omega)) (ih (c + 1) sc3 ar3 o3 (by omega) f3 ho3 he3)
          | succ m ihm =>
            intro j sc3 ar3 o3 hj f3 ho3 he3
            have hs3 : MR (ar3 0) A := hs.fr f3 (by decide)
            have he3 : pOffF A i (c + 1) n (pOfF A c i (j + 1) m (if pWay A c j i then pSee o3 c (nI j) (pLen A j * aR A 6) (pMin A c) else o3)) = pOff A i := he3
            refine rX2_findOffer_52 x _ _ _ ⟨hK.c, ma 0, hK.r 0 (by decide), hK.t 0 0 (by decide) rfl, hK.inb 0 (by decide) 0 rfl (by decide), ?_⟩
            rw [hK.rd (i := 0) 0 (by decide) 0 rfl (by decide), hs3.nl, nI_1]
            refine br_f (nI_ge (by omega) (by omega)) (cI.mk0 (t_isWay hK hs3 hva c j i hcl (by omega) hi) (by decide) ?_)
            rintro v G4 ⟨rfl, sc4, ar4, rfl, f4⟩
            have hs4 : MR (ar4 0) A := hs3.fr f4 (by decide)
            have f34 := f3.tr (f4.wide (S' := [8, 9, 12, 13, 14, 15]) (T' := [7]) (by decide) (by decide))
            have ho4 : MO sc4 (aC A).length o3 := ho3.fr f4 (by decide) (by decide) (by decide) (by decide)
            rw [bI_0]
            refine ⟨fun h4 => ?_, fun h4 => ⟨hK.c, cI.det (t_lengthOf hK hs4 j (by omega)) (by decide) ⟨hK.c, ma 0, hK.r 0 (by decide), hK.t 0 0 (by decide) rfl, hK.inb 0 (by decide) 8 rfl (by decide), ?_⟩⟩⟩
            · rw [h4] at he3
              rw [nI_1]
              exact ihm (j + 1) sc4 ar4 o3 (by omega) f34 ho4 he3
            · simp only [Bool.not_eq_false] at h4
              rw [h4] at he3
              rw [hK.rd (i := 8) 0 (by decide) 8 rfl (by decide), hs4.ru 6 (by decide)]
              refine cV.mk0 (t_consider hK hs4 hva c hcl _ _ o3 ho4) (by decide) ?_
              rintro G5 ⟨sc5, ar5, rfl, f5, ho5⟩
              rw [nI_1]
              exact ihm (j + 1) sc5 ar5 _ (by omega) (f34.tr f5) ho5 he3
        refine ⟨fun h2 => ?_, fun h2 => ⟨hK.c, cV.mk0 (t_consider hK hs2 hva c hcl (-2) 0 o ho2) (by decide) ?_⟩⟩
        · rw [if_neg h2] at he
          exact loop (aN A) 0 sc2 ar2 o (by omega) f12 ho2 he
        · rw [if_pos h2] at he
          rintro G3 ⟨sc3, ar3, rfl, f3, ho3⟩
          exact loop (aN A) 0 sc3 ar3 _ (by omega) (f12.tr f3) ho3 he
  exact key (aC A).length 0 _ ar none (by omega) ((Fr.rf.us 12 _ (by decide)).us 13 _ (by decide)) ⟨rfl, rfl⟩ rfl
theorem t_offer (hK : MK G x ma) (hs : MR (ar 0) A) (hva : RVA A) (p w : Int32) : TrI Γ l mX2_offer 12 0 0 [.ref x, .int p, .int w] (mW G x ma sc ar) (fun v G' => v = oOffer A p w ∧ ∃ sc' ar', G' = mW G x ma sc' ar' ∧ Fr [8, 9, 12, 13, 14, 15] [7] sc ar sc' ar') := by
  have h6 := hs.2.1
  refine Tr.intro (by decide +kernel) (Nat.le_of_ble_eq_true rfl) ?_
  refine rX2_offer_0 x _ _ ⟨hK.c, c_isLeg hK hs p (by decide) ?_⟩
  rw [bI_0]
  refine ⟨fun h => ⟨_, rfl, by simp [oOffer, h], sc, ar, rfl, Fr.rf⟩, fun h => cI.det (t_in _ _ _) (by decide) ?_⟩
  simp only [Bool.not_eq_false] at h
  obtain ⟨g1, g2⟩ := okL.ix hs h
  rw [bI_0]
  refine ⟨fun h2 => ⟨hK.c, ?_⟩, fun h2 => ⟨_, rfl, by simp [oOffer, h2], sc, ar, rfl, Fr.rf⟩⟩
  simp only [Bool.not_eq_false] at h2
  have T := t_isOpen (Γ := Γ) (l := l) (sc := sc) hK hs hva (ix p) g1
  rw [← g2] at T
  refine cI.det T (by decide) ?_
  rw [bI_0]
  refine ⟨fun h3 => ⟨hK.c, ?_⟩, fun h3 => ⟨_, rfl, by simp [oOffer, h, h2, h3], sc, ar, rfl, Fr.rf⟩⟩
  simp only [Bool.not_eq_false] at h3
  have T := t_findOffer (Γ := Γ) (l := l) (sc := sc) hK hs hva (ix p) g1
  rw [← g2] at T
  refine cV.mk0 T (by decide) ?_
  rintro G1 ⟨sc1, ar1, rfl, f1, o1⟩
  have e : oOffer A p w = match pOff A (ix p) with
    | none => -2
    | some q => if w = 0 then nI q.1 else if w = 1 then q.2.1 else q.2.2.1 := by
    unfold oOffer
    rw [if_pos (by simp [h, h2]), if_pos h3]
    rfl
  refine ⟨hK.c, ?_⟩
  rw [mW_x hK, mW_x hK, mW_x hK]
  cases ho : pOff A (ix p) with
  | none =>
    rw [ho] at o1 e
    rw [o1.1]
    exact br_f (by decide) ⟨_, rfl, by rw [e], sc1, ar1, rfl, f1⟩
  | some q =>
    rw [ho] at o1 e
    obtain ⟨q1, q2, q3, q4, q5⟩ := o1
    rw [q2, q3, q4]
    exact br_t (nI_pos' (by omega)) ⟨fun h4 => ⟨fun h5 => ⟨_, rfl, by rw [e]; simp only [if_neg h4, if_neg h5], sc1, ar1, rfl, f1⟩, fun h5 => ⟨_, rfl, by rw [e]; simp only [if_neg h4, if_pos h5], sc1, ar1, rfl, f1⟩⟩, fun h4 => ⟨_, rfl, by rw [e]; simp only [if_pos h4], sc1, ar1, rfl, f1⟩⟩
theorem t_repaired (hK : MK G x ma) {m : List Rm} (hm : MM (sc 18) (ar 17) m) (p w : Int32) : TrI Γ l mX2_repaired 2 0 0 [.ref x, .int p, .int w] (mW G x ma sc ar) (fun v G' => v = oRepaired m p w ∧ G' = (mW G x ma sc ar)) := by
  obtain ⟨m1, m2, m3⟩ := hm
  refine Tr.intro (by decide +kernel) (Nat.le_of_ble_eq_true rfl) ?_
  refine rX2_repaired_0 x _ _ (cI.det (t_in _ _ _) (by decide) ?_)
  rw [bI_0]
  refine ⟨fun h => ⟨hK.c, ?_⟩, fun h => ⟨_, rfl, by simp [oRepaired, h], rfl⟩⟩
  simp only [Bool.not_eq_false] at h
  obtain ⟨g3, g4⟩ := pIn_nI (n := 3) (by decide) h
  rw [mW_x hK, m1]
  refine cI.det (t_in _ _ _) (by decide) ?_
  rw [bI_0]
  refine ⟨fun h2 => ⟨_, rfl, by simp [oRepaired, h, h2], rfl⟩, fun h2 => ?_⟩
  simp only [Bool.not_eq_false] at h2
  obtain ⟨g1, g2⟩ := pIn_ix (by omega) h2
  have e : (4 * p) + w = nI (4 * ix p + ix w) := by
    conv => lhs; rw [g2, g4]
    simp only [li_, nI_add, pk_mul, nI_1, Nat.add_assoc]
  refine ⟨hK.c, ma 17, hK.r 17 (by decide), hK.t 17 0 (by decide) rfl, hK.inb 17 (by decide) _ e (by show _ < 576; omega), _, rfl, ?_, rfl⟩
  rw [hK.rd 17 (by decide) _ e (by omega)]
  have hg : m[ix p]? = some m[ix p] := List.getElem?_eq_getElem g1
  obtain ⟨k0, k1, k2, k3⟩ := m3 (ix p) _ hg
  unfold oRepaired
  rw [if_pos h, if_pos h2, hg]
  show ar 17 _ = if w = 0 then _ else if w = 1 then _ else if w = 2 then _ else _
  rcases (show ix w = 0 ∨ ix w = 1 ∨ ix w = 2 ∨ ix w = 3 by omega) with z | z | z | z
  · rw [z, k0, if_pos (by rw [g4, z]; rfl)]
  · rw [z, k1, if_neg (by rw [g4, z]; decide), if_pos (by rw [g4, z]; rfl)]
  · rw [z, k2, if_neg (by rw [g4, z]; decide), if_neg (by rw [g4, z]; decide), if_pos (by rw [g4, z]; rfl)]
  · rw [z, k3, if_neg (by rw [g4, z]; decide), if_neg (by rw [g4, z]; decide), if_neg (by rw [g4, z]; decide)]
theorem sPush_le {H : List AS} (h : H.length ≤ 8) (A : AS) : (sPush H A).length ≤ 8 ∧ 0 < (sPush H A).length := by
  unfold sPush
  rw [List.length_append]
  split
  · rw [List.length_drop]; exact ⟨by show _ + 1 ≤ 8; omega, Nat.succ_pos _⟩
  · exact ⟨by show _ + 1 ≤ 8; omega, Nat.succ_pos _⟩
/-- push: the row k (0: s, 5: before) goes into the history -/
theorem t_push (hK : MK G x ma) {H : List AS} (hH : MH (ar 3) (sc 4) H) (k : Nat) (hk : k = 0 ∨ k = 5) {B : AS} (hB : MR (ar k) B) : TrV Γ l mX2_push 1 0 0 [.ref x, va_rf (some (ma k))] (mW G x ma sc ar) (fun G' => ∃ sc' ar', G' = mW G x ma sc' ar' ∧ Fr [4] [3] sc ar sc' ar' ∧ MH (ar' 3) (sc' 4) (sPush H B)) := by
  obtain ⟨m1, m2, m3⟩ := hH
  have hkm : k ∈ mks := by rcases hk with rfl | rfl <;> decide
  have hkt : mt k = 0 := by rcases hk with rfl | rfl <;> rfl
  have hkl : ml k = 298 := by rcases hk with rfl | rfl <;> rfl
  have hk3 : k ≠ 3 := by rcases hk with rfl | rfl <;> decide
  refine Tr.intro (by decide +kernel) (Nat.le_of_ble_eq_true rfl) ?_
  have fin : ∀ sc1 ar1 (H1 : List AS), Fr [4] [3] sc ar sc1 ar1 → MH (ar1 3) (sc1 4) H1 → H1.length < 8 → sPush H B = H1 ++ [B] → GW Γ l mX2_push 1 0 0 (fun v G' => v = none ∧ ∃ sc' ar', G' = mW G x ma sc' ar' ∧ Fr [4] [3] sc ar sc' ar' ∧ MH (ar' 3) (sc' 4) (sPush H B)) 37 [(0, va_rf (some x)), (1, va_rf (some (ma k)))] [] (mW G x ma sc1 ar1) 0 0 := by
    intro sc1 ar1 H1 f1 hH1 hl e
    obtain ⟨n1, n2, n3⟩ := hH1
    have e4 : 298 * sc1 4 = nI (298 * H1.length) := by rw [n1]; simp only [li_, nI_add, pk_mul, nI_1, Nat.add_assoc]
    refine rX2_push_37 x _ ⟨hK.c, ma k, rfl, hK.t k 0 hkm hkt, hK.w k hkm, ma 3, hK.r 3 (by decide), hK.t 3 0 (by decide) rfl, hK.w 3 (by decide), ?_⟩
    rw [mW_x hK, e4, nI_clamp (by omega), hK.n k hkm, hK.n 3 (by decide), hkl]
    refine ⟨nI_pos (by omega), by decide, by show _ + 298 ≤ 2384; omega, by decide, fun H14 e14 => ?_⟩
    subst e14
    rw [hK.wa 3 (by decide)]
    refine ⟨hK.c, hK.m, ?_⟩
    rw [mW_x hK, hK.sx, n1, nI_1, e]
    refine ⟨rfl, _, _, rfl, (f1.ua 3 _ (by decide)).us 4 _ (by decide), ?_, ?_, fun j C hj => ?_⟩
    · rw [List.length_append]; rfl
    · rw [List.length_append]; show _ + 1 ≤ 8; omega
    · have hold : ∀ i, va_cpy (gI (mW G x ma sc1 ar1) (ma k)) (gI (mW G x ma sc1 ar1) (ma 3)) (0 : Int32).toNatClampNeg (298 * H1.length) (298 : Int32).toNatClampNeg i = if 298 * H1.length ≤ i ∧ i < 298 * H1.length + 298 then ar k (i - 298 * H1.length) else ar1 3 i := by
        intro i
        show (if 298 * H1.length ≤ i ∧ i < 298 * H1.length + 298 then gI (mW G x ma sc1 ar1) (ma k) (0 + (i - 298 * H1.length)) else gI (mW G x ma sc1 ar1) (ma 3) i) = _
        rw [mW_a hK k hkm, mW_a hK 3 (by decide), f1.2 k (by rcases hk with rfl | rfl <;> decide), Nat.zero_add]
      show MR (fun q => va_cpy _ _ _ _ _ (298 * j + q)) C
      have hj2 : j < H1.length + 1 := by
        have := (List.getElem?_eq_some_iff.mp hj).1
        rw [List.length_append] at this
        exact this
      by_cases hjl : j < H1.length
      · rw [List.getElem?_append_left hjl] at hj
        refine MR.cong (n3 j C hj) (fun q hq => ?_)
        show va_cpy _ _ _ _ _ (298 * j + q) = ar1 3 (298 * j + q)
        rw [hold, if_neg (by omega)]
      · have : j = H1.length := by omega
        subst this
        rw [List.getElem?_append_right (Nat.le_refl _), Nat.sub_self] at hj
        cases hj
        refine MR.cong hB (fun q hq => ?_)
        show va_cpy _ _ _ _ _ (298 * H1.length + q) = ar k q
        rw [hold, if_pos (by omega)]
        congr 1
        omega
  refine rX2_push_0 x _ ⟨hK.c, ?_⟩
  rw [mW_x hK, m1, li_ 8, nI_eq (by omega) (by decide)]
  refine ⟨fun h => fin sc ar H Fr.rf ⟨m1, m2, m3⟩ (by omega) (by unfold sPush; rw [if_neg h]), fun h => ⟨ma 3, hK.r 3 (by decide), hK.t 3 0 (by decide) rfl, hK.w 3 (by decide), ?_⟩⟩
  rw [hK.n 3 (by decide)]
  refine ⟨by decide, by decide, by decide, fun H9 e9 => ?_⟩
  subst e9
  rw [hK.wa 3 (by decide)]
  refine ⟨hK.c, hK.m, ?_⟩
  rw [mW_x hK, hK.sx, m1, h, show nI 8 - 1 = nI 7 from rfl]
  refine fin _ _ (H.drop 1) ((Fr.rf.ua 3 _ (by decide)).us 4 _ (by decide)) ⟨?_, by rw [List.length_drop]; omega, fun j C hj => ?_⟩ (by rw [List.length_drop]; omega) (by unfold sPush; rw [if_pos h])
  · rw [List.length_drop, h]; rfl
  · rw [List.getElem?_drop] at hj
    have hj8 := (List.getElem?_eq_some_iff.mp hj).1
    have := m3 (1 + j) C hj
    refine MR.cong this (fun q hq => ?_)
    show (if 0 ≤ 298 * j + q ∧ 298 * j + q < 0 + 2086 then gI (mW G x ma sc ar) (ma 3) (298 + (298 * j + q - 0)) else gI (mW G x ma sc ar) (ma 3) (298 * j + q)) = ar 3 (298 * (1 + j) + q)
    rw [if_pos (by omega), mW_a hK 3 (by decide)]
    congr 1
    omega
theorem t_change (hK : MK G x ma) {S : SS} (hT : MT sc ar S) : TrV Γ l mX2_change 2 0 0 [.ref x] (mW G x ma sc ar) (fun G' => ∃ sc' ar', G' = mW G x ma sc' ar' ∧ Fr [4] [3] sc ar sc' ar' ∧ MT sc' ar' (sChg S)) := by
  obtain ⟨h1, h2, h3, h4, h5, h6⟩ := hT
  refine Tr.intro (by decide +kernel) (Nat.le_of_ble_eq_true rfl) ?_
  refine rX2_change_0 x ⟨hK.c, ?_⟩
  rw [mW_x hK, h4, bI_0]
  refine ⟨fun h => ⟨rfl, sc, ar, rfl, Fr.rf, ?_⟩, fun h => ?_⟩
  · unfold sChg
    rw [if_pos (by simpa using h)]
    exact ⟨h1, h2, h3, h4, h5, h6⟩
  · rw [hK.r 0 (by decide)]
    refine cV.mk0 (t_push hK h2 0 (Or.inl rfl) h1) (by decide) ?_
    rintro G1 ⟨sc1, ar1, rfl, f1, m1⟩
    refine ⟨rfl, sc1, ar1, rfl, f1, ?_⟩
    unfold sChg
    rw [if_neg (by simp [h])]
    unfold MT
    rw [f1.2 0 (by decide), f1.1 2 (by decide), f1.2 1 (by decide), f1.1 6 (by decide), f1.1 18 (by decide), f1.2 17 (by decide)]
    exact ⟨h1, m1, h3, h4, h5, h6.fr f1 (by decide) (by decide) (by decide) (by decide)⟩
end MC9
