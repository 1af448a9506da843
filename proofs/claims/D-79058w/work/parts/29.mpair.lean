/-! M's contracts: pair, search -/
set_option maxRecDepth 100000
theorem aTake_some {A : AS} {i : Nat} {q : Of} (h : pOff A i = some q) : aTake A i (pOff A i) = aPut (if q.2.1 < 0 then A else aPut A q.1 (ix q.2.1) false) q.1 i true := by rw [h]; rfl
/-- the best legs so far, their minutes -/
abbrev Bs : Type := List Nat × Int32
def pBetter (A : AS) (b : Int32) (r : List It) (w : List Nat) (s : Int32) (B : Bs) : Bs := if 0 < w.length ∧ pHome A b r = true ∧ (B.2 < s ∨ (s = B.2 ∧ w.length < B.1.length)) then (w, s) else B
def pLoop (g : Nat → Bs → Bs) : Nat → Nat → Bs → Bs
  | _, 0, B => B
  | k, n + 1, B => pLoop g (k + 1) n (g k B)
def pNext (A : AS) (b : Int32) (r : List It) (last : Int32) (i : Nat) : Bool := !decide (aL A i 2 ≤ last) && (pOpen A i && (decide (pPos A r i = r.length) && decide ((pVs A b (pPut A r i true)).length = 0)))
def pSrch (A : AS) (b : Int32) : Nat → List It → List Nat → Int32 → Int32 → Bs → Bs
  | 0, r, w, s, _, B => pBetter A b r w s B
  | f + 1, r, w, s, last, B => pLoop (fun i B => if pNext A b r last i then pSrch A b f (pPut A r i true) (w ++ [i]) (s + pLen A i) (aL A i 2) B else B) 0 (aN A) (pBetter A b r w s B)
def MB (sc : Nat → Int32) (ar : Nat → Nat → Int32) (B : Bs) : Prop := sc 21 = nI B.1.length ∧ sc 22 = B.2 ∧ B.1.length ≤ 6 ∧ ∀ (i k : Nat), B.1[i]? = some k → ar 20 i = nI k
def MY (ar : Nat → Nat → Int32) (w : List Nat) : Prop := ∀ (i k : Nat), w[i]? = some k → ar 19 i = nI k
section MC14
variable {Γ : GE} {l : Launch} {G : GH} {x : Nat} {ma : Nat → Nat} {sc : Nat → Int32} {ar : Nat → Nat → Int32} {A : AS} {b : Int32} {r : List It} {S : SS}
theorem t_pair (hK : MK G x ma) (hT : MT sc ar S) (hw : WR (sA S)) : TrI Γ l mX2_pair 12 0 0 [.ref x] (mW G x ma sc ar) (fun v G' => v = (xPair S).1 ∧ ∃ sc' ar', G' = mW G x ma sc' ar' ∧ MT sc' ar' (xPair S).2) := by
  refine Tr.intro (by decide +kernel) (Nat.le_of_ble_eq_true rfl) ?_
  refine rX2_pair_0 x ⟨hK.c, cV.mk0 (t_change hK hT) (by decide) ?_⟩
  rintro G1 ⟨sc1, ar1, rfl, f1, m1⟩
  have hs1 := m1.1
  rw [sChg_A] at hs1
  refine ⟨hK.c, cV.mk0 (t_findOpen hK hs1 hw.2.1) (by decide) ?_⟩
  rintro G2 ⟨sc2, ar2, rfl, f2, e2, o2⟩
  have hol := pOp_le hs1
  refine ⟨hK.c, ma 10, hK.r 10 (by decide), hK.t 10 0 (by decide) rfl, hK.w 10 (by decide), ma 16, hK.r 16 (by decide), hK.t 16 0 (by decide) rfl, hK.w 16 (by decide), ?_⟩
  rw [hK.n 10 (by decide), hK.n 16 (by decide), mW_x hK, e2]
  refine ⟨by decide, by decide, by decide, fun H e => ?_⟩
  subst e
  rw [hK.wa 16 (by decide)]
  have m2 : MT sc2 ar2 (sChg S) := m1.fr (f2.wide (by decide) (by decide))
  have hp3 : ∀ i, i < (pOp (sA S)).length → (u1 ar2 16 (va_cpy (gI (mW G x ma sc2 ar2) (ma 10)) (gI (mW G x ma sc2 ar2) (ma 16)) (0 : Int32).toNatClampNeg (0 : Int32).toNatClampNeg (25 : Int32).toNatClampNeg)) 16 i = nI (rl (pOp (sA S)) i) := by
    intro i hi
    show va_cpy _ _ 0 0 25 i = _
    rw [pk_cpy_in (Nat.zero_le _) (by omega), mW_a hK 10 (by decide), ← o2 i hi]
    congr 1
    omega
  have m3 : MT sc2 (u1 ar2 16 (va_cpy (gI (mW G x ma sc2 ar2) (ma 10)) (gI (mW G x ma sc2 ar2) (ma 16)) (0 : Int32).toNatClampNeg (0 : Int32).toNatClampNeg (25 : Int32).toNatClampNeg)) (sSet (sChg S) (sA S)) := by
    have := m2.fr (Fr.rf.ua 16 (va_cpy (gI (mW G x ma sc2 ar2) (ma 10)) (gI (mW G x ma sc2 ar2) (ma 16)) (0 : Int32).toNatClampNeg (0 : Int32).toNatClampNeg (25 : Int32).toNatClampNeg) (by decide))
    rw [show sSet (sChg S) (sA S) = sChg S by rw [← sChg_A S]; rfl]
    exact this
  generalize hr : pOp (sA S) = r at *
  obtain ⟨Z, hZ⟩ : ∃ Z, Z = pPairF r 0 r.length (sA S) 0 := ⟨_, rfl⟩
  have X : xPair S = (nI Z.2, sSet (sChg S) Z.1) := by unfold xPair; rw [hr, ← hZ]
  rw [X]
  have key : ∀ n i sc3 ar3 (A : AS) (k : Nat), i + n = r.length → MT sc3 ar3 (sSet (sChg S) A) → (∀ j, j < r.length → ar3 16 j = nI (rl r j)) → WR A → aN A = aN (sA S) → k ≤ i → pPairF r i n A k = Z → GW Γ l mX2_pair 12 0 0 (fun v G' => ∃ q, v = some (.int q) ∧ q = nI Z.2 ∧ ∃ sc' ar', G' = mW G x ma sc' ar' ∧ MT sc' ar' (sSet (sChg S) Z.1)) 32 [(0, va_rf (some x)), (1, .int (nI r.length)), (2, .int (nI k)), (3, .int (nI i))] [] (mW G x ma sc3 ar3) 0 0 := by
    intro n
    induction n with
    | zero =>
      intro i sc3 ar3 A k hi m3 hp wA hn hk he
      refine rX2_pair_32 x _ _ _ (br_t (nI_le (by omega) (by omega)) ⟨_, rfl, by rw [← he]; rfl, sc3, ar3, rfl, by rw [← he]; exact m3⟩)
    | succ n ih =>
      intro i sc3 ar3 A k hi m3 hp wA hn hk he
      have hs3 : MR (ar3 0) A := m3.1
      have h6 := hs3.2.1
      have hlt : rl r i < aN A := by rw [hn]; exact hol.2 i (by omega)
      have h24 := hs3.1
      have he : pPairF r (i + 1) n (aTake A (rl r i) (pOff A (rl r i))) (k + bN (pOff A (rl r i)).isSome) = Z := he
      refine rX2_pair_32 x _ _ _ (br_f (nI_ge (by omega) (by omega)) ⟨hK.c, ma 16, hK.r 16 (by decide), hK.t 16 0 (by decide) rfl, hK.inb 16 (by decide) i rfl (by show _ < 25; omega), ?_⟩)
      rw [hK.rd 16 (by decide) i rfl (by omega), hp i (by omega)]
      refine cV.mk0 (t_findOffer hK hs3 wA.2.1 (rl r i) hlt) (by decide) ?_
      rintro G4 ⟨sc4, ar4, rfl, f4, o4⟩
      have hs4 : MR (ar4 0) A := hs3.fr f4 (by decide)
      have m4 : MT sc4 ar4 (sSet (sChg S) A) := m3.fr (f4.wide (by decide) (by decide))
      have hp4 : ∀ j, j < r.length → ar4 16 j = nI (rl r j) := fun j hj => by rw [f4.2 16 (by decide)]; exact hp j hj
      obtain ⟨ok1, ok2⟩ := aTake_ok wA (rl r i) hlt
      refine ⟨hK.c, ?_⟩
      rw [mW_x hK, mW_x hK]
      cases ho : pOff A (rl r i) with
      | none =>
        rw [ho] at o4 he ok1 ok2
        rw [o4.1]
        refine br_t (by decide) ?_
        rw [nI_1]
        exact ih (i + 1) sc4 ar4 A k (by omega) m4 hp4 wA hn (by omega) he
      | some q =>
        obtain ⟨q1, q2⟩ := pOff_ok (A := A) (i := rl r i) q ho
        rw [ho] at o4 he ok1 ok2
        obtain ⟨-, b2, b3, -, -⟩ := o4
        rw [b2, b3]
        have he : pPairF r (i + 1) n (aPut (if q.2.1 < 0 then A else aPut A q.1 (ix q.2.1) false) q.1 (rl r i) true) (k + 1) = Z := he
        refine br_f (nI_pos (by omega)) ?_
        rcases q2 with ⟨e, hh⟩ | ⟨j, hj, e, hh⟩
        · rw [e]
          rw [e, if_pos (by decide)] at he
          have ok1 : WR (aPut A q.1 (rl r i) true) := wA.put q1 hlt (pHin_none hh).1
          refine br_t (by decide) ⟨ma 16, hK.r 16 (by decide), hK.t 16 0 (by decide) rfl, hK.inb 16 (by decide) i rfl (by show _ < 25; omega), ?_⟩
          rw [hK.rd 16 (by decide) i rfl (by omega), hp4 i (by omega)]
          refine cI.mk0 (t_enter hK hs4 wA.2.1 q.1 (rl r i) true q1 hlt (wA.rlen _ _ q1 hlt (pHin_none hh).1)) (by decide) ?_
          rintro v G5 ⟨rfl, sc5, ar5, rfl, f5, hs5⟩
          rw [nI_1, nI_1]
          exact ih (i + 1) sc5 ar5 _ (k + 1) (by omega) (m4.fr0 (f5.wide (by decide) (by decide)) hs5) (fun j hj => by rw [f5.2 16 (by decide)]; exact hp4 j hj) ok1 hn (by omega) he
        · rw [e]
          rw [e, if_neg (nI_nneg (by omega)), ix_nI (by omega)] at he
          unfold pWay at hh
          simp only [Bool.and_eq_true, decide_eq_true_eq] at hh
          have h1 := (pHin_none hh.2.1).1
          have h2 := (pHin_none hh.2.2).1
          have w1 : WR (aPut A q.1 j false) := wA.put q1 hj h1
          have l1 : (aC (aPut A q.1 j false)).length = (aC A).length := aC_set
          have c1 : cT (cw (aPut A q.1 j false) q.1) = pPut A (cT (cw A q.1)) j false := by unfold aPut; rw [cw_set q1, if_pos rfl]; rfl
          have h3 : pPl (cT (cw (aPut A q.1 j false) q.1)) (rl r i) = none := by rw [c1]; exact h2
          have w2 : WR (aPut (aPut A q.1 j false) q.1 (rl r i) true) := w1.put (by omega) hlt h3
          refine br_f (nI_pos (by omega)) (cI.mk0 (t_enter hK hs4 wA.2.1 q.1 j false q1 hj (wA.rlen _ _ q1 hj h1)) (by decide) ?_)
          rintro v G5 ⟨rfl, sc5, ar5, rfl, f5, hs5⟩
          have hp5 : ∀ j, j < r.length → ar5 16 j = nI (rl r j) := fun j hj => by rw [f5.2 16 (by decide)]; exact hp4 j hj
          refine ⟨hK.c, ma 16, hK.r 16 (by decide), hK.t 16 0 (by decide) rfl, hK.inb 16 (by decide) i rfl (by show _ < 25; omega), ?_⟩
          rw [hK.rd 16 (by decide) i rfl (by omega), hp5 i (by omega), mW_x hK, f5.1 12 (by decide), b2]
          refine cI.mk0 (t_enter hK hs5 w1.2.1 q.1 (rl r i) true (by omega) hlt (w1.rlen _ _ (by omega) hlt h3)) (by decide) ?_
          rintro v G6 ⟨rfl, sc6, ar6, rfl, f6, hs6⟩
          rw [nI_1, nI_1]
          exact ih (i + 1) sc6 ar6 _ (k + 1) (by omega) (m4.fr0 ((f5.wide (by decide) (by decide)).tr (f6.wide (by decide) (by decide))) hs6) (fun j hj => by rw [f6.2 16 (by decide)]; exact hp5 j hj) w2 hn (by omega) he
  exact key r.length 0 sc2 _ (sA S) 0 (by omega) m3 hp3 hw rfl (Nat.le_refl _) hZ.symm
theorem u_better (hK : MK G x ma) (hs : MR (ar 0) A) (hw : MW sc ar b r) (hv : RV A r) (w : List Nat) (s last : Int32) (B : Bs) (hl : w.length ≤ 6) (hB : MB sc ar B) (hY : MY ar w) {h : Nat} {Q : Option Value → GH → Prop} (hh : 2 < h)
    (k : ∀ sc1 ar1, Fr [8, 21, 22] [7, 19, 20] sc ar sc1 ar1 → MW sc1 ar1 b r → MB sc1 ar1 (pBetter A b r w s B) → MY ar1 w → GW Γ l mX2_search h 0 0 Q 62 [(0, va_rf (some x)), (1, .int (nI w.length)), (2, .int s), (3, .int last), (4, .int (nI 0))] [] (mW G x ma sc1 ar1) 0 0) :
    GW Γ l mX2_search h 0 0 Q 0 [(0, va_rf (some x)), (1, .int (nI w.length)), (2, .int s), (3, .int last)] [] (mW G x ma sc ar) 0 0 := by
  obtain ⟨b1, b2, b3, b4⟩ := hB
  have no : ¬ (0 < w.length ∧ pHome A b r = true ∧ (B.2 < s ∨ (s = B.2 ∧ w.length < B.1.length))) → GW Γ l mX2_search h 0 0 Q 62 [(0, va_rf (some x)), (1, .int (nI w.length)), (2, .int s), (3, .int last), (4, .int (nI 0))] [] (mW G x ma sc ar) 0 0 := by
    intro hn
    refine k sc ar Fr.rf hw ?_ hY
    unfold pBetter
    rw [if_neg hn]
    exact ⟨b1, b2, b3, b4⟩
  have yes : (0 < w.length ∧ pHome A b r = true ∧ (B.2 < s ∨ (s = B.2 ∧ w.length < B.1.length))) → GW Γ l mX2_search h 0 0 Q 35 [(0, va_rf (some x)), (1, .int (nI w.length)), (2, .int s), (3, .int last)] [] (mW G x ma sc ar) 0 0 := by
    intro hy
    refine rX2_search_35 x _ _ _ ⟨hK.c, hK.m, ?_⟩
    rw [hK.sx, hK.sx]
    refine ⟨ma 19, hK.r 19 (by decide), hK.t 19 0 (by decide) rfl, hK.w 19 (by decide), ma 20, hK.r 20 (by decide), hK.t 20 0 (by decide) rfl, hK.w 20 (by decide), ?_⟩
    rw [nI_clamp (by omega), hK.n 19 (by decide), hK.n 20 (by decide)]
    refine ⟨nI_pos (by omega), by show 0 + _ ≤ 6; omega, by show 0 + _ ≤ 6; omega, by omega, fun H e => ?_⟩
    subst e
    rw [hK.wa 20 (by decide)]
    refine k _ _ (((Fr.rf.us 22 _ (by decide)).us 21 _ (by decide)).ua 20 _ (by decide)) hw ?_ hY
    unfold pBetter
    rw [if_pos hy]
    refine ⟨rfl, rfl, hl, fun i j hj => ?_⟩
    have hi : i < w.length := (List.getElem?_eq_some_iff.mp hj).1
    show va_cpy _ _ 0 0 w.length i = _
    rw [pk_cpy_in (Nat.zero_le _) (by omega), mW_a hK 19 (by decide), ← hY i j hj]
    congr 1
    omega
  refine rX2_search_0 x _ _ _ ?_
  rw [li_ 0, nI_leI (by omega) (by decide)]
  refine ⟨fun h1 => no (fun z => by omega), fun h1 => ⟨hK.c, cI.det (t_isHome hK hs hw hv) hh ?_⟩⟩
  show (bI (pHome A b r) = 0 → _) ∧ (¬ bI (pHome A b r) = 0 → _)
  rw [bI_0]
  refine ⟨fun h2 => no (fun z => by rw [h2] at z; exact absurd z.2.1 (by decide)), fun h2 => ⟨hK.c, ?_⟩⟩
  simp only [Bool.not_eq_false] at h2
  rw [mW_x hK, mW_x hK, b1, b2, nI_leI (by omega) (by omega)]
  exact ⟨fun h3 => yes ⟨by omega, h2, Or.inl h3⟩, fun h3 => ⟨fun h4 => no (fun z => z.2.2.elim h3 (fun y => h4 y.1)), fun h4 => ⟨fun h5 => no (fun z => z.2.2.elim h3 (fun y => by omega)), fun h5 => yes ⟨by omega, h2, Or.inr ⟨h4, by omega⟩⟩⟩⟩⟩
theorem MY.app {ar : Nat → Nat → Int32} {w : List Nat} (h : MY ar w) (k : Nat) : MY (u1 ar 19 (u1 (ar 19) w.length (nI k))) (w ++ [k]) := by
  intro i j hj
  show u1 (ar 19) w.length (nI k) i = nI j
  unfold u1
  by_cases hi : i < w.length
  · rw [if_neg (by omega)]
    rw [List.getElem?_append_left hi] at hj
    exact h i j hj
  · rw [List.getElem?_append_right (by omega)] at hj
    have h2 := (List.getElem?_eq_some_iff.mp hj).1
    have h3 : i = w.length := by
      have : i - w.length < 1 := h2
      omega
    rw [if_pos h3]
    rw [h3, Nat.sub_self] at hj
    cases hj
    rfl
theorem MY.pre {ar : Nat → Nat → Int32} {w : List Nat} {k : Nat} (h : MY ar (w ++ [k])) : MY ar w := by
  intro i j hj
  refine h i j ?_
  rw [List.getElem?_append_left (List.getElem?_eq_some_iff.mp hj).1]
  exact hj
theorem t_search (hK : MK G x ma) (hva : RVA A) (f : Nat) : ∀ (sc : Nat → Int32) (ar : Nat → Nat → Int32) (r : List It) (w : List Nat) (s last : Int32) (B : Bs), MR (ar 0) A → MW sc ar b r → RV A r → w.length + f = 6 → r.length ≤ 24 + w.length → MB sc ar B → MY ar w →
    TrV Γ l mX2_search (9 + f) 0 0 [.ref x, .int (nI w.length), .int s, .int last] (mW G x ma sc ar) (fun G' => ∃ sc' ar', G' = mW G x ma sc' ar' ∧ Fr [8, 21, 22] [7, 19, 20] sc ar sc' ar' ∧ MW sc' ar' b r ∧ MB sc' ar' (pSrch A b f r w s last B) ∧ MY ar' w) := by
  induction f with
  | zero =>
    intro sc ar r w s last B hs hw hv hl h24 hB hY
    have h24n := hs.1
    refine Tr.intro (by decide +kernel) (Nat.le_of_ble_eq_true rfl) ?_
    refine u_better hK hs hw hv w s last B (by omega) hB hY (by omega) ?_
    intro sc1 ar1 f1 w1 B1 Y1
    have hs1 : MR (ar1 0) A := hs.fr f1 (by decide)
    refine rX2_search_62 x _ _ _ _ ⟨hK.c, ma 0, hK.r 0 (by decide), hK.t 0 0 (by decide) rfl, hK.inb 0 (by decide) 0 rfl (by decide), ?_⟩
    rw [hK.rd (i := 0) 0 (by decide) 0 rfl (by decide), hs1.nl]
    exact ⟨fun _ => ⟨rfl, sc1, ar1, rfl, f1, w1, B1, Y1⟩, fun _ => br_t (nI_le (a := 6) (by omega) (by omega)) ⟨rfl, sc1, ar1, rfl, f1, w1, B1, Y1⟩⟩
  | succ f ih =>
    intro sc ar r w s last B hs hw hv hl h24 hB hY
    have h24n := hs.1
    refine Tr.intro (by decide +kernel) (Nat.le_of_ble_eq_true rfl) ?_
    refine u_better hK hs hw hv w s last B (by omega) hB hY (by omega) ?_
    intro sc1 ar1 f1 w1 B1 Y1
    obtain ⟨Z, hZ⟩ : ∃ Z, Z = pSrch A b (f + 1) r w s last B := ⟨_, rfl⟩
    rw [← hZ]
    have key : ∀ n k sc1 ar1 B1, k + n = aN A → Fr [8, 21, 22] [7, 19, 20] sc ar sc1 ar1 → MW sc1 ar1 b r → MB sc1 ar1 B1 → MY ar1 w → pLoop (fun i B => if pNext A b r last i then pSrch A b f (pPut A r i true) (w ++ [i]) (s + pLen A i) (aL A i 2) B else B) k n B1 = Z → GW Γ l mX2_search (9 + (f + 1)) 0 0 (fun v G' => v = none ∧ ∃ sc' ar', G' = mW G x ma sc' ar' ∧ Fr [8, 21, 22] [7, 19, 20] sc ar sc' ar' ∧ MW sc' ar' b r ∧ MB sc' ar' Z ∧ MY ar' w) 62 [(0, va_rf (some x)), (1, .int (nI w.length)), (2, .int s), (3, .int last), (4, .int (nI k))] [] (mW G x ma sc1 ar1) 0 0 := by
      intro n
      induction n with
      | zero =>
        intro k sc1 ar1 B1 hk f1 w1 hB1 Y1 he
        have hs1 : MR (ar1 0) A := hs.fr f1 (by decide)
        refine rX2_search_62 x _ _ _ _ ⟨hK.c, ma 0, hK.r 0 (by decide), hK.t 0 0 (by decide) rfl, hK.inb 0 (by decide) 0 rfl (by decide), ?_⟩
        rw [hK.rd (i := 0) 0 (by decide) 0 rfl (by decide), hs1.nl]
        exact br_t (nI_le (by omega) (by omega)) ⟨rfl, sc1, ar1, rfl, f1, w1, by rw [← he]; exact hB1, Y1⟩
      | succ n ihn =>
        intro k sc1 ar1 B1 hk f1 w1 hB1 Y1 he
        have hs1 : MR (ar1 0) A := hs.fr f1 (by decide)
        have hkl : k < aN A := by omega
        have he : pLoop (fun i B => if pNext A b r last i then pSrch A b f (pPut A r i true) (w ++ [i]) (s + pLen A i) (aL A i 2) B else B) (k + 1) n (if pNext A b r last k then pSrch A b f (pPut A r k true) (w ++ [k]) (s + pLen A k) (aL A k 2) B1 else B1) = Z := he
        have skip : ∀ sc2 ar2, Fr [8, 21, 22] [7, 19, 20] sc ar sc2 ar2 → MW sc2 ar2 b r → MB sc2 ar2 B1 → MY ar2 w → pNext A b r last k = false → GW Γ l mX2_search (9 + (f + 1)) 0 0 (fun v G' => v = none ∧ ∃ sc' ar', G' = mW G x ma sc' ar' ∧ Fr [8, 21, 22] [7, 19, 20] sc ar sc' ar' ∧ MW sc' ar' b r ∧ MB sc' ar' Z ∧ MY ar' w) 62 [(0, va_rf (some x)), (1, .int (nI w.length)), (2, .int s), (3, .int last), (4, .int (nI k + 1))] [] (mW G x ma sc2 ar2) 0 0 := by
          intro sc2 ar2 f2 w2 hB2 Y2 hno
          rw [nI_1]
          rw [hno] at he
          exact ihn (k + 1) sc2 ar2 B1 (by omega) f2 w2 hB2 Y2 he
        refine rX2_search_62 x _ _ _ _ ⟨hK.c, ma 0, hK.r 0 (by decide), hK.t 0 0 (by decide) rfl, hK.inb 0 (by decide) 0 rfl (by decide), ?_⟩
        rw [hK.rd (i := 0) 0 (by decide) 0 rfl (by decide), hs1.nl]
        refine br_f (nI_ge (by omega) (by omega)) (br_f (nI_ge (b := 6) (by omega) (by omega)) (cI.det (t_of hK hs1 k 2 hkl (by decide)) (by omega) ⟨fun h1 => skip sc1 ar1 f1 w1 hB1 Y1 (by simp [pNext, h1]), fun h1 => ⟨hK.c, cI.det (t_isOpen hK hs1 hva k hkl) (by omega) ?_⟩⟩))
        rw [bI_0]
        refine ⟨fun h2 => skip sc1 ar1 f1 w1 hB1 Y1 (by simp [pNext, h2]), fun h2 => ⟨hK.c, cI.mk0 (t_put hK hs1 w1 hv (by omega) k true hkl) (by omega) ?_⟩⟩
        simp only [Bool.not_eq_false] at h2
        rintro v G2 ⟨rfl, sc2, ar2, rfl, f2, w2⟩
        have hs2 : MR (ar2 0) A := hs1.fr f2 (by decide)
        have f12 := f1.tr (f2.wide (S' := [8, 21, 22]) (T' := [7, 19, 20]) (by decide) (by decide))
        have hB2 : MB sc2 ar2 B1 := ⟨(f2.1 21 (by decide)).trans hB1.1, (f2.1 22 (by decide)).trans hB1.2.1, hB1.2.2.1, by rw [f2.2 20 (by decide)]; exact hB1.2.2.2⟩
        have Y2 : MY ar2 w := by intro i j hj; rw [f2.2 19 (by decide)]; exact Y1 i j hj
        have hple := pPos_le A r k
        have hlen := pPut_len A r k true
        -- the leg is taken out again
        have out : ∀ sc3 ar3, MR (ar3 0) A → Fr [8, 21, 22] [7, 19, 20] sc ar sc3 ar3 → MW sc3 ar3 b (pPut A r k true) → (∀ sc4 ar4, Fr [8, 21, 22] [7, 19, 20] sc ar sc4 ar4 → Fr [8] [7] sc3 ar3 sc4 ar4 → MW sc4 ar4 b r → GW Γ l mX2_search (9 + (f + 1)) 0 0 (fun v G' => v = none ∧ ∃ sc' ar', G' = mW G x ma sc' ar' ∧ Fr [8, 21, 22] [7, 19, 20] sc ar sc' ar' ∧ MW sc' ar' b r ∧ MB sc' ar' Z ∧ MY ar' w) 62 [(0, va_rf (some x)), (1, .int (nI w.length)), (2, .int s), (3, .int last), (4, .int (nI k + 1))] [] (mW G x ma sc4 ar4) 0 0) → cV Γ l (9 + (f + 1)) mX2_takeOut [.ref x, .int (nI (pPos A r k))] (mW G x ma sc3 ar3) 0 0 (fun Gr br sr => GW Γ l mX2_search (9 + (f + 1)) 0 0 (fun v G' => v = none ∧ ∃ sc' ar', G' = mW G x ma sc' ar' ∧ Fr [8, 21, 22] [7, 19, 20] sc ar sc' ar' ∧ MW sc' ar' b r ∧ MB sc' ar' Z ∧ MY ar' w) 62 [(0, va_rf (some x)), (1, .int (nI w.length)), (2, .int s), (3, .int last), (4, .int (nI k + 1))] [] Gr br sr) := by
          intro sc3 ar3 hs3 f3 w3 go
          refine cV.mk0 (t_takeOut hK w3 (pPos A r k) (by omega)) (by omega) ?_
          rintro G4 ⟨sc4, ar4, rfl, f4, w4⟩
          rw [put_ers] at w4
          exact go sc4 ar4 (f3.tr (f4.wide (by decide) (by decide))) f4 w4
        have out2 : pNext A b r last k = false → cV Γ l (9 + (f + 1)) mX2_takeOut [.ref x, .int (nI (pPos A r k))] (mW G x ma sc2 ar2) 0 0 (fun Gr br sr => GW Γ l mX2_search (9 + (f + 1)) 0 0 (fun v G' => v = none ∧ ∃ sc' ar', G' = mW G x ma sc' ar' ∧ Fr [8, 21, 22] [7, 19, 20] sc ar sc' ar' ∧ MW sc' ar' b r ∧ MB sc' ar' Z ∧ MY ar' w) 62 [(0, va_rf (some x)), (1, .int (nI w.length)), (2, .int s), (3, .int last), (4, .int (nI k + 1))] [] Gr br sr) := by
          intro hno
          refine out sc2 ar2 hs2 f12 w2 fun sc4 ar4 f4 f4' w4 => skip sc4 ar4 f4 w4 ⟨(f4'.1 21 (by decide)).trans hB2.1, (f4'.1 22 (by decide)).trans hB2.2.1, hB2.2.2.1, by rw [f4'.2 20 (by decide)]; exact hB2.2.2.2⟩ (by intro i j hj; rw [f4'.2 19 (by decide)]; exact Y2 i j hj) hno
        refine ⟨hK.c, ?_⟩
        rw [mW_x hK, w2.1, hlen, nI_pred, nI_eq (by omega) (by omega)]
        refine ⟨fun h3 => out2 (by simp [pNext, h3]), fun h3 => cI.det (t_violationAt hK hs2 w2 (hv.put hkl) 0 (by decide)) (by omega) ?_⟩
        have V := vcode_pos (A := A) (b := b) (r := pPut A r k true) 0 (by omega)
        rw [li_ 0, nI_eq (by omega) (by decide), V.2]
        refine ⟨fun h4 => ⟨hK.c, out2 (by simp [pNext]; intro _ _ _ z; exact h4 (by rw [z]; exact Nat.le_refl _))⟩, fun h4 => ⟨hK.c, ma 19, hK.r 19 (by decide), hK.t 19 0 (by decide) rfl, hK.w 19 (by decide), hK.inb 19 (by decide) _ rfl (by show _ < 6; omega), ?_⟩⟩
        have hyes : pNext A b r last k = true := by
          have : (pVs A b (pPut A r k true)).length = 0 := by omega
          simp only [pNext, Bool.and_eq_true, decide_eq_true_eq, Bool.not_eq_true', decide_eq_false_iff_not]
          exact ⟨h1, h2, h3, this⟩
        rw [hyes, if_pos rfl] at he
        rw [nI_clamp (by omega), hK.sa 19 (by decide)]
        have hs3 : MR ((u1 ar2 19 (u1 (ar2 19) w.length (nI k))) 0) A := hs2
        refine cI.det (t_lengthOf hK hs3 k hkl) (by omega) ⟨hK.c, cI.det (t_of hK hs3 k 2 hkl (by decide)) (by omega) ⟨hK.c, ?_⟩⟩
        have T := ih sc2 (u1 ar2 19 (u1 (ar2 19) w.length (nI k))) (pPut A r k true) (w ++ [k]) (s + pLen A k) (aL A k 2) B1 hs3 w2 (hv.put hkl) (by rw [List.length_append]; show _ + 1 + f = 6; omega) (by rw [hlen, List.length_append]; show _ ≤ 24 + (_ + 1); omega) hB2 (Y2.app k)
        rw [show (w ++ [k]).length = w.length + 1 by rw [List.length_append]; rfl] at T
        rw [nI_1]
        refine cV.mk0 T (by omega) ?_
        rintro G5 ⟨sc5, ar5, rfl, f5, w5, hB5, Y5⟩
        have f25 := (f12.ua 19 (u1 (ar2 19) w.length (nI k)) (by decide)).tr f5
        have hs5 : MR (ar5 0) A := hs.fr f25 (by decide)
        refine ⟨hK.c, out sc5 ar5 hs5 f25 w5 fun sc6 ar6 f6 f6' w6 => ?_⟩
        rw [nI_1]
        exact ihn (k + 1) sc6 ar6 _ (by omega) f6 w6 ⟨(f6'.1 21 (by decide)).trans hB5.1, (f6'.1 22 (by decide)).trans hB5.2.1, hB5.2.2.1, by rw [f6'.2 20 (by decide)]; exact hB5.2.2.2⟩ (by intro i j hj; rw [f6'.2 19 (by decide)]; exact Y5.pre i j hj) he
    exact key (aN A) 0 sc1 ar1 _ (by omega) f1 w1 B1 Y1 hZ.symm
end MC14
