/-! M's contracts: wordOf, readNumber -/
set_option maxRecDepth 100000
def gWd (Γ : GE) (G : GH) (q : Nat) : GH := sR (sR (sR (sR (sR (sR (sR (sR (sR (sR (nA G q 6 10) q (0 : Int32).toNatClampNeg (some (Γ.2.2.2 43))) q (1 : Int32).toNatClampNeg (some (Γ.2.2.2 44))) q (2 : Int32).toNatClampNeg (some (Γ.2.2.2 45))) q (3 : Int32).toNatClampNeg (some (Γ.2.2.2 46))) q (4 : Int32).toNatClampNeg (some (Γ.2.2.2 47))) q (5 : Int32).toNatClampNeg (some (Γ.2.2.2 48))) q (6 : Int32).toNatClampNeg (some (Γ.2.2.2 49))) q (7 : Int32).toNatClampNeg (some (Γ.2.2.2 50))) q (8 : Int32).toNatClampNeg (some (Γ.2.2.2 51))) q (9 : Int32).toNatClampNeg (some (Γ.2.2.2 52))
theorem gWd_ext {Γ : GE} {G : GH} {q : Nat} (hq : gC G q = 0) : Ext G (gWd Γ G q) := ((((((((((Ext.nA hq).sR hq).sR hq).sR hq).sR hq).sR hq).sR hq).sR hq).sR hq).sR hq).sR hq
theorem gWd_r {Γ : GE} {G : GH} {q : Nat} (j : Nat) (hj : j < 10) : gR (gWd Γ G q) q j = some (Γ.2.2.2 (43 + j)) := by
  have c0 : (0 : Int32).toNatClampNeg = 0 := by decide
  have c1 : (1 : Int32).toNatClampNeg = 1 := by decide
  have c2 : (2 : Int32).toNatClampNeg = 2 := by decide
  have c3 : (3 : Int32).toNatClampNeg = 3 := by decide
  have c4 : (4 : Int32).toNatClampNeg = 4 := by decide
  have c5 : (5 : Int32).toNatClampNeg = 5 := by decide
  have c6 : (6 : Int32).toNatClampNeg = 6 := by decide
  have c7 : (7 : Int32).toNatClampNeg = 7 := by decide
  have c8 : (8 : Int32).toNatClampNeg = 8 := by decide
  have c9 : (9 : Int32).toNatClampNeg = 9 := by decide
  unfold gWd
  simp only [gR_sR, c0, c1, c2, c3, c4, c5, c6, c7, c8, c9, true_and]
  rcases (show j = 0 ∨ j = 1 ∨ j = 2 ∨ j = 3 ∨ j = 4 ∨ j = 5 ∨ j = 6 ∨ j = 7 ∨ j = 8 ∨ j = 9 by omega) with rfl | rfl | rfl | rfl | rfl | rfl | rfl | rfl | rfl | rfl <;> rfl
theorem gR_mW {G : GH} {x : Nat} {ma : Nat → Nat} {sc : Nat → Int32} {ar : Nat → Nat → Int32} : gR (mW G x ma sc ar) = gR G := rfl
theorem gC_mW {G : GH} {x : Nat} {ma : Nat → Nat} {sc : Nat → Int32} {ar : Nat → Nat → Int32} : gC (mW G x ma sc ar) = gC G := rfl
theorem gL_mW {G : GH} {x : Nat} {ma : Nat → Nat} {sc : Nat → Int32} {ar : Nat → Nat → Int32} : gL (mW G x ma sc ar) = gL G := rfl
theorem pWoF_lt {t : List Nat} {a e : Nat} : ∀ n k o, k + n = 10 → (∀ j, o = some j → j < 10) → ∀ j, pWoF t a e k n o = some j → j < 10 := by
  intro n
  induction n with
  | zero => intro k o _ h; exact h
  | succ n ih =>
    intro k o hk h
    refine ih (k + 1) _ (by omega) ?_
    split
    · intro j hj; cases hj; omega
    · exact h
theorem pWord_lt {t : List Nat} {a e j : Nat} (h : pWord t a e = some j) : j < 10 := pWoF_lt 10 0 none rfl (fun j hj => by cases hj) j h
def pDigF (t : List Nat) : Nat → Nat → Nat → Nat × Nat
  | 0, k, v => (k, v)
  | n + 1, k, v => if 48 ≤ pAt t k ∧ pAt t k ≤ 57 then pDigF t n (k + 1) (10 * v + pAt t k - 48) else (k, v)
/-- a number at k: where it ends, its value, whether it is one -/
def pNum (t : List Nat) (k : Nat) : Nat × Nat × Bool := if pAt t k = 32 then ((pDigF t 4 (k + 1) 0).1, (pDigF t 4 (k + 1) 0).2, decide ((pDigF t 4 (k + 1) 0).1 ≠ k + 1)) else (k, 0, false)
theorem okS_str {G : GH} {q : Nat} (h : gC G q = kO 15) : okS G 6 (some q) := Or.inr ⟨q, 15, rfl, h, by decide, Or.inl rfl⟩
section MC21
variable {Γ : GE} {l : Launch} {G : GH} {x : Nat} {ma : Nat → Nat} {sc : Nat → Int32} {ar : Nat → Nat → Int32} {A : AS} {b : Int32} {r : List It} {S : SS}
theorem t_wordOf (hK : MK G x ma) (hW : KW Γ G) {t : List Nat} (hX : MX (sc 26) (ar 25) t) (ht : ∀ (j c : Nat), t[j]? = some c → c < 128) (a e : Nat) (he : sc 27 = nI e) (hae : a ≤ e) (het : e ≤ t.length) : TrI Γ l mX2_wordOf 6 1 10 [.ref x, .int (nI a)] (mW G x ma sc ar) (fun v G' => v = oI (pWord t a e) (-1) ∧ ∃ G2, Ext G G2 ∧ G' = mW G2 x ma sc ar) := by
  refine Tr.intro (by decide +kernel) (Nat.le_of_ble_eq_true rfl) ?_
  refine rX2_wordOf_0 x _ ⟨by decide, by decide, fun q hq _ => ?_⟩
  have hq : gC G q = 0 := hq
  rw [nA_mW hK hq]
  have kc : gC (nA G q 6 10) q = kA 6 := by rw [gC_nA, if_pos rfl]
  have km : gM (nA G q 6 10) q = true := by rw [gM_nA, if_pos rfl]
  have kl : gL (nA G q 6 10) q = 10 := by rw [gL_nA, if_pos rfl]
  have st : ∀ k, k < 10 → gC (nA G q 6 10) (Γ.2.2.2 (43 + k)) = kO 15 := fun k hk => ((hW k hk).ext (Ext.nA hq)).1
  have kv : ∀ (i : Int32) (n : Nat), i = nI n → n < 10 → vp_in i (gL (nA G q 6 10) q) := fun i n h1 h2 => by rw [kl, h1]; exact vp_in_nI h2 (by decide)
  refine ⟨kc, km, kv 0 0 rfl (by decide), okS_str (st 0 (by decide)), kv 1 1 rfl (by decide), okS_str (st 1 (by decide)), kv 2 2 rfl (by decide), okS_str (st 2 (by decide)), kv 3 3 rfl (by decide), okS_str (st 3 (by decide)), kv 4 4 rfl (by decide), okS_str (st 4 (by decide)), kv 5 5 rfl (by decide), okS_str (st 5 (by decide)), kv 6 6 rfl (by decide), okS_str (st 6 (by decide)), kv 7 7 rfl (by decide), okS_str (st 7 (by decide)), kv 8 8 rfl (by decide), okS_str (st 8 (by decide)), kv 9 9 rfl (by decide), okS_str (st 9 (by decide)), ?_⟩
  have hE := gWd_ext (Γ := Γ) hq
  have hK2 := hK.ext hE
  have hW2 := hW.ext hE
  have key : ∀ n k (o : Option Nat), k + n = 10 → pWoF t a e k n o = pWord t a e → (∀ j, o = some j → j < 10) → GW Γ l mX2_wordOf 6 1 10 (fun v G' => ∃ z, v = some (.int z) ∧ z = oI (pWord t a e) (-1) ∧ ∃ G2, Ext G G2 ∧ G' = mW G2 x ma sc ar) 75 [(0, va_rf (some x)), (1, .int (nI a)), (2, va_rf (some q)), (3, .int (oI o (-1))), (4, .int (nI k))] [] (mW (gWd Γ G q) x ma sc ar) 0 0 := by
    intro n
    induction n with
    | zero =>
      intro k o hk hz _
      refine rX2_wordOf_75 x _ _ _ _ ⟨q, rfl, kc, ?_⟩
      show (nI (gL (nA G q 6 10) q) ≤ nI k → _) ∧ (¬ nI (gL (nA G q 6 10) q) ≤ nI k → _)
      rw [kl]
      exact br_t (nI_le (by omega) (by omega)) ⟨_, rfl, by rw [← hz]; rfl, _, hE, rfl⟩
    | succ n ih =>
      intro k o hk hz ho
      refine rX2_wordOf_75 x _ _ _ _ ⟨q, rfl, kc, ?_⟩
      show (nI (gL (nA G q 6 10) q) ≤ nI k → _) ∧ (¬ nI (gL (nA G q 6 10) q) ≤ nI k → _)
      rw [kl]
      refine br_f (nI_ge (by omega) (by omega)) ⟨km, kv _ k rfl (by omega), hK2.c, ?_⟩
      rw [nI_clamp (by omega)]
      have er : gR (mW (gWd Γ G q) x ma sc ar) q k = some (Γ.2.2.2 (43 + k)) := by
        rw [gR_mW]
        exact gWd_r (Γ := Γ) (G := G) (q := q) k (by omega)
      rw [er]
      have hz : pWoF t a e (k + 1) n (if pIsW t a e (pW k) then some k else o) = pWord t a e := hz
      refine cI.det (t_isWord hK2 hX ht a e he hae het (Γ.2.2.2 (43 + k)) (pW k) (hW2 k (by omega))) (by decide) ?_
      rw [bI_0, nI_1]
      refine ⟨fun h => ?_, fun h => ?_⟩
      · rw [h] at hz
        exact ih (k + 1) o (by omega) hz ho
      · simp only [Bool.not_eq_false] at h
        rw [h] at hz
        exact ih (k + 1) (some k) (by omega) hz (fun j hj => by cases hj; omega)
  exact key 10 0 none rfl rfl (fun j hj => by cases hj)
theorem t_readNumber (hK : MK G x ma) {t : List Nat} (hX : MX (sc 26) (ar 25) t) (ht : ∀ (j c : Nat), t[j]? = some c → c < 128) (k i : Nat) (hk : sc 27 = nI k) (hkt : k ≤ 60) (hi : i < 4) : TrV Γ l mX2_readNumber 2 0 0 [.ref x, .int (nI i)] (mW G x ma sc ar) (fun G' => ∃ sc' ar', G' = mW G x ma sc' ar' ∧ Fr [27, 28] [29] sc ar sc' ar' ∧ sc' 27 = nI (pNum t k).1 ∧ sc' 28 = bI (!(pNum t k).2.2) ∧ ((pNum t k).2.2 = true → ar' 29 i = nI (pNum t k).2.1) ∧ ∀ j, j ≠ i → ar' 29 j = ar 29 j) := by
  have hat : ∀ k, pAt t k < 128 := by
    intro k
    unfold pAt
    rw [List.getD_eq_getElem?_getD]
    cases h : t[k]? with
    | none => decide
    | some c => exact ht k c h
  refine Tr.intro (by decide +kernel) (Nat.le_of_ble_eq_true rfl) ?_
  refine rX2_readNumber_0 x _ ⟨hK.c, cI.det (t_here hK hX k hk (by omega)) (by decide) ?_⟩
  have h0 := hat k
  rw [li_ 32, nI_eq (by omega) (by decide)]
  refine ⟨fun h => ⟨hK.c, hK.m, ?_⟩, fun h => ⟨hK.c, hK.m, ?_⟩⟩
  · rw [mW_x hK, hk, nI_1, hK.sx]
    refine ⟨ma 29, hK.r 29 (by decide), hK.t 29 0 (by decide) rfl, hK.w 29 (by decide), hK.inb 29 (by decide) _ rfl (by show _ < 4; omega), ?_⟩
    rw [nI_clamp (by omega), hK.sa 29 (by decide)]
    have N : pNum t k = ((pDigF t 4 (k + 1) 0).1, (pDigF t 4 (k + 1) 0).2, decide ((pDigF t 4 (k + 1) 0).1 ≠ k + 1)) := by unfold pNum; rw [if_pos h]
    rw [N]
    have key : ∀ n d p v sc1 ar1, n + d = 4 → p = k + 1 + d → v < 10 ^ d → Fr [27, 28] [29] sc ar sc1 ar1 → sc1 27 = nI p → ar1 29 i = nI v → (∀ j, j ≠ i → ar1 29 j = ar 29 j) → pDigF t n p v = pDigF t 4 (k + 1) 0 → GW Γ l mX2_readNumber 2 0 0 (fun w G' => w = none ∧ ∃ sc' ar', G' = mW G x ma sc' ar' ∧ Fr [27, 28] [29] sc ar sc' ar' ∧ sc' 27 = nI (pDigF t 4 (k + 1) 0).1 ∧ sc' 28 = bI (!decide ((pDigF t 4 (k + 1) 0).1 ≠ k + 1)) ∧ (decide ((pDigF t 4 (k + 1) 0).1 ≠ k + 1) = true → ar' 29 i = nI (pDigF t 4 (k + 1) 0).2) ∧ ∀ j, j ≠ i → ar' 29 j = ar 29 j) 34 [(0, va_rf (some x)), (1, .int (nI i)), (2, .int (nI d))] [] (mW G x ma sc1 ar1) 0 0 := by
      intro n
      induction n with
      | zero =>
        intro d p v sc1 ar1 hd hp hv f1 e1 e2 e3 he
        have he : (p, v) = pDigF t 4 (k + 1) 0 := he
        refine rX2_readNumber_34 x _ _ (br_t (nI_le (a := 4) (by omega) (by omega)) ⟨fun _ => ⟨hK.c, hK.m, ?_⟩, fun z => absurd z (nI_ne0 (by omega) (by omega))⟩)
        rw [hK.sx, ← he]
        refine ⟨rfl, _, _, rfl, f1.us 28 _ (by decide), e1, ?_, fun _ => e2, e3⟩
        show (0 : Int32) = bI (!decide (p ≠ k + 1))
        rw [decide_eq_true (by omega)]; rfl
      | succ n ih =>
        intro d p v sc1 ar1 hd hp hv f1 e1 e2 e3 he
        have hX1 : MX (sc1 26) (ar1 25) t := by rw [f1.1 26 (by decide), f1.2 25 (by decide)]; exact hX
        have hc := hat p
        have hpw : (10 : Nat) ^ d ≤ 1000 := by
          rcases (show d = 0 ∨ d = 1 ∨ d = 2 ∨ d = 3 by omega) with rfl | rfl | rfl | rfl <;> decide
        refine rX2_readNumber_34 x _ _ (br_f (nI_ge (b := 4) (by omega) (by decide)) ⟨hK.c, cI.det (t_here hK hX1 p e1 (by omega)) (by decide) (cI.det (t_in _ _ _) (by decide) ?_)⟩)
        have E : pIn (nI (pAt t p)) 48 57 = decide (48 ≤ pAt t p ∧ pAt t p ≤ 57) := by
          unfold pIn
          rw [li_ 48, li_ 57]
          simp only [nI_ltI (show pAt t p < 2 ^ 31 by omega) (show (48 : Nat) < 2 ^ 31 by decide), nI_ltI (show (57 : Nat) < 2 ^ 31 by decide) (show pAt t p < 2 ^ 31 by omega), Nat.not_lt, ← decide_not, ← Bool.decide_and]
        have D : pDigF t (n + 1) p v = if 48 ≤ pAt t p ∧ pAt t p ≤ 57 then pDigF t n (p + 1) (10 * v + pAt t p - 48) else (p, v) := rfl
        rw [D] at he
        rw [E, bI_0, decide_eq_false_iff_not]
        refine ⟨fun h1 => ?_, fun h1 => ?_⟩
        · rw [if_neg h1] at he
          rw [li_ 0, nI_eq (by omega) (by decide)]
          refine ⟨fun h2 => ⟨hK.c, hK.m, ?_⟩, fun h2 => ⟨hK.c, hK.m, ?_⟩⟩
          · rw [hK.sx, ← he]
            refine ⟨rfl, _, _, rfl, f1.us 28 _ (by decide), e1, ?_, fun _ => e2, e3⟩
            show (0 : Int32) = bI (!decide (p ≠ k + 1))
            rw [decide_eq_true (by omega)]; rfl
          · rw [hK.sx, ← he]
            refine ⟨rfl, _, _, rfl, f1.us 28 _ (by decide), e1, ?_, fun _ => e2, e3⟩
            show (1 : Int32) = bI (!decide (p ≠ k + 1))
            rw [decide_eq_false (by omega)]; rfl
        · have h1 : 48 ≤ pAt t p ∧ pAt t p ≤ 57 := Decidable.not_not.mp h1
          rw [if_pos h1] at he
          refine ⟨hK.c, ma 29, hK.r 29 (by decide), hK.t 29 0 (by decide) rfl, hK.inb 29 (by decide) _ rfl (by show _ < 4; omega), cI.det (t_here hK hX1 p e1 (by omega)) (by decide) ⟨hK.t 29 0 (by decide) rfl, hK.w 29 (by decide), hK.inb 29 (by decide) _ rfl (by show _ < 4; omega), ?_⟩⟩
          have ev : ((10 * nI v) + nI (pAt t p)) - 48 = nI (10 * v + pAt t p - 48) := by
            rw [li_ 10, li_ 48, pk_mul, nI_add, pk_sub (by omega)]
          rw [hK.rd 29 (by decide) _ rfl (by omega), e2, ev, nI_clamp (by omega), hK.sa 29 (by decide), mW_x hK, e1, nI_1, nI_1, hK.sx]
          refine ⟨hK.c, hK.m, ih (d + 1) (p + 1) (10 * v + pAt t p - 48) _ _ (by omega) (by omega) (by rw [Nat.pow_succ]; omega) ((f1.ua 29 _ (by decide)).us 27 _ (by decide)) rfl ?_ (fun j hj => ?_) he⟩
          · show u1 (ar1 29) i _ i = _
            unfold u1; rw [if_pos rfl]
          · show u1 (ar1 29) i _ j = _
            unfold u1; rw [if_neg hj]; exact e3 j hj
    refine key 4 0 (k + 1) 0 _ _ rfl rfl (by decide) ((Fr.rf.us 27 _ (by decide)).ua 29 _ (by decide)) rfl ?_ (fun j hj => ?_) rfl
    · show u1 (ar 29) i 0 i = _
      unfold u1; rw [if_pos rfl]; rfl
    · show u1 (ar 29) i 0 j = _
      unfold u1; rw [if_neg hj]
  · rw [hK.sx]
    have N : pNum t k = (k, 0, false) := by unfold pNum; rw [if_neg h]
    rw [N]
    exact ⟨rfl, _, _, rfl, Fr.rf.us 28 _ (by decide), hk, rfl, fun z => Bool.noConfusion z, fun j _ => rfl⟩
end MC21
