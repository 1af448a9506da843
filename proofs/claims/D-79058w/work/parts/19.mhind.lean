/-! M's contracts: hinders, enter, the history -/
set_option maxRecDepth 100000
def hcode (p : Nat × Nat) : Nat := 100 * p.1 + p.2
/-- all crews' rows stand on legs that are there -/
def RVA (A : AS) : Prop := ∀ c, c < (aC A).length → RV A (cT (cw A c))
theorem MR.fr {S T : List Nat} {sc sc' : Nat → Int32} {ar ar' : Nat → Nat → Int32} {A : AS} (h : MR (ar 0) A) (f : Fr S T sc ar sc' ar') (h0 : 0 ∉ T) : MR (ar' 0) A := by rw [f.2 0 h0]; exact h
/-- the state of M: legs and crews, history, what is saved, quiet, what was removed (crew, leg, flown, called), text -/
abbrev Rm : Type := Nat × Nat × Bool × Int32
abbrev SS : Type := AS × List AS × Option AS × Bool × List Rm × (List Nat × Int32 × Int32)
def sA (S : SS) : AS := S.1
def sH (S : SS) : List AS := S.2.1
def sV (S : SS) : Option AS := S.2.2.1
def sQ (S : SS) : Bool := S.2.2.2.1
def sM (S : SS) : List Rm := S.2.2.2.2.1
def sX (S : SS) : List Nat := S.2.2.2.2.2.1
def sY (S : SS) : List Nat × Int32 × Int32 := S.2.2.2.2.2
def MH (f : Nat → Int32) (n : Int32) (H : List AS) : Prop := n = nI H.length ∧ H.length ≤ 8 ∧ ∀ j B, H[j]? = some B → MR (fun k => f (298 * j + k)) B
def MV (b : Int32) (f : Nat → Int32) (o : Option AS) : Prop := match o with
  | none => b = 0
  | some B => b = 1 ∧ MR f B
def MM (n : Int32) (f : Nat → Int32) (m : List Rm) : Prop := n = nI m.length ∧ m.length ≤ 144 ∧ ∀ j p, m[j]? = some p → f (4 * j + 0) = nI p.1 ∧ f (4 * j + 1) = nI p.2.1 ∧ f (4 * j + 2) = bI p.2.2.1 ∧ f (4 * j + 3) = p.2.2.2
def MX (n : Int32) (f : Nat → Int32) (t : List Nat) : Prop := n = nI t.length ∧ t.length ≤ 60 ∧ ∀ (j c : Nat), t[j]? = some c → f j = nI c
/-- the text, where one reads it, whether it is wrong -/
def MXX (sc : Nat → Int32) (ar : Nat → Nat → Int32) (y : List Nat × Int32 × Int32) : Prop := MX (sc 26) (ar 25) y.1 ∧ sc 27 = y.2.1 ∧ sc 28 = y.2.2
theorem MXX.fr {S T : List Nat} {sc sc' : Nat → Int32} {ar ar' : Nat → Nat → Int32} {y : List Nat × Int32 × Int32} (h : MXX sc ar y) (f : Fr S T sc ar sc' ar') (h1 : 26 ∉ S) (h2 : 27 ∉ S) (h3 : 28 ∉ S) (h4 : 25 ∉ T) : MXX sc' ar' y := by
  unfold MXX
  rw [f.1 26 h1, f.1 27 h2, f.1 28 h3, f.2 25 h4]
  exact h
def MT (sc : Nat → Int32) (ar : Nat → Nat → Int32) (S : SS) : Prop := MR (ar 0) (sA S) ∧ MH (ar 3) (sc 4) (sH S) ∧ MV (sc 2) (ar 1) (sV S) ∧ sc 6 = bI (sQ S) ∧ MM (sc 18) (ar 17) (sM S) ∧ MXX sc ar (sY S)
/-- what is only scratch -/
def xS : List Nat := [8, 9, 11, 12, 13, 14, 15, 21, 22, 24]
def xT : List Nat := [7, 10, 16, 19, 20, 23, 29]
theorem MT.fr {sc sc' : Nat → Int32} {ar ar' : Nat → Nat → Int32} {S : SS} (h : MT sc ar S) (f : Fr xS xT sc ar sc' ar') : MT sc' ar' S := by
  obtain ⟨h1, h2, h3, h4, h5, h6⟩ := h
  unfold MT
  rw [f.2 0 (by decide), f.2 3 (by decide), f.1 4 (by decide), f.1 2 (by decide), f.2 1 (by decide), f.1 6 (by decide), f.1 18 (by decide), f.2 17 (by decide)]
  exact ⟨h1, h2, h3, h4, h5, h6.fr f (by decide) (by decide) (by decide) (by decide)⟩
def sPush (H : List AS) (A : AS) : List AS := (if H.length = 8 then H.drop 1 else H) ++ [A]
def sChg (S : SS) : SS := if sQ S then S else (sA S, sPush (sH S) (sA S), sV S, sQ S, sM S, sY S)
section MC4
variable {Γ : GE} {l : Launch} {G : GH} {x : Nat} {ma : Nat → Nat} {sc : Nat → Int32} {ar : Nat → Nat → Int32} {A : AS} {b : Int32} {r : List It}
theorem t_give (hK : MK G x ma) (hs : MR (ar 0) A) (hw : MW sc ar b r) (h24r : r.length ≤ 24) (c : Nat) (hc : c < (aC A).length) : TrV Γ l mX2_give 2 0 0 [.ref x, .int (nI c)] (mW G x ma sc ar) (fun G' => ∃ sc' ar', G' = mW G x ma sc' ar' ∧ Fr [] [0] sc ar sc' ar' ∧ MW sc' ar' b r ∧ MR (ar' 0) (aSetC A c (wT (cw A c) r))) := by
  have h6 := hs.2.1
  have h24 := hs.1
  refine Tr.intro (by decide +kernel) (Nat.le_of_ble_eq_true rfl) ?_
  refine rX2_give_0 x _ ⟨hK.c, cI.det (t_crewAt c 3) (by decide) ⟨hK.c, ma 0, hK.r 0 (by decide), hK.t 0 0 (by decide) rfl, hK.w 0 (by decide), hK.inb 0 (by decide) _ rfl (by show _ < 298; omega), ?_⟩⟩
  rw [mW_x hK, hw.1, nI_clamp (by omega), hK.sa 0 (by decide)]
  refine cI.det (t_crewAt c 4) (by decide) ⟨hK.c, ma 7, hK.r 7 (by decide), hK.t 7 0 (by decide) rfl, hK.w 7 (by decide), ma 0, hK.r 0 (by decide), hK.t 0 0 (by decide) rfl, hK.w 0 (by decide), ?_⟩
  rw [mW_x hK, hw.1, nI_clamp (by omega), nI_clamp (by omega), hK.n 0 (by decide), hK.n 7 (by decide)]
  refine ⟨nI_pos (by omega), nI_pos (by omega), by show (0 : Nat) + _ ≤ 48; omega, by show _ ≤ 298; omega, by decide, fun H e => ?_⟩
  subst e
  rw [hK.wa 0 (by decide)]
  refine ⟨rfl, _, _, rfl, (Fr.rf.ua 0 _ (by decide)).ua 0 _ (by decide), ⟨hw.1, hw.2.1, hw.2.2.1, hw.2.2.2⟩, ?_⟩
  have e : (u1 (u1 ar 0 (u1 (ar 0) (130 + (28 * c + 3)) (nI r.length))) 0 (va_cpy (gI (mW G x ma sc (u1 ar 0 (u1 (ar 0) (130 + (28 * c + 3)) (nI r.length)))) (ma 7)) (gI (mW G x ma sc (u1 ar 0 (u1 (ar 0) (130 + (28 * c + 3)) (nI r.length)))) (ma 0)) (Int32.toNatClampNeg 0) (130 + (28 * c + 4)) r.length)) 0 = va_cpy (ar 7) (u1 (ar 0) (130 + (28 * c + 3)) (nI r.length)) 0 (130 + (28 * c + 4)) r.length := by
    show va_cpy _ _ _ _ _ = _
    have e1 : gI (mW G x ma sc (u1 ar 0 (u1 (ar 0) (130 + (28 * c + 3)) (nI r.length)))) (ma 7) = ar 7 := funext fun j => mW_a hK 7 (by decide) j
    have e2 : gI (mW G x ma sc (u1 ar 0 (u1 (ar 0) (130 + (28 * c + 3)) (nI r.length)))) (ma 0) = u1 (ar 0) (130 + (28 * c + 3)) (nI r.length) := funext fun j => mW_a hK 0 (by decide) j
    rw [e1, e2]
    rfl
  rw [e]
  have out : ∀ k, k ≠ 130 + (28 * c + 3) → (k < 130 + (28 * c + 4) ∨ 130 + (28 * c + 4) + r.length ≤ k) → va_cpy (ar 7) (u1 (ar 0) (130 + (28 * c + 3)) (nI r.length)) 0 (130 + (28 * c + 4)) r.length k = ar 0 k := by
    intro k h1 h2
    rw [pk_cpy_out h2]
    unfold u1
    rw [if_neg h1]
  refine ⟨h24, by rw [aC_set]; exact h6, ?_, ?_, fun q hq => ?_, fun i f hi hf => ?_, fun d hd => ?_⟩
  · rw [out 0 (by omega) (by omega)]; exact hs.nl
  · rw [out 1 (by omega) (by omega), aC_set]; exact hs.nc
  · rw [out _ (by omega) (by omega)]; exact hs.ru q hq
  · have hi' : i < aN A := hi
    rw [out _ (by omega) (by omega)]; exact hs.lg i f hi hf
  · rw [aC_set] at hd
    rw [cw_set hc]
    have hd6 : d < 6 := by omega
    have L := hs.l24 d hd
    by_cases hdc : d = c
    · subst hdc
      rw [if_pos rfl]
      have o := hs.crew d hd
      refine ⟨?_, ?_, ?_, ?_, h24r, fun i hi => ?_⟩
      · rw [out _ (by omega) (by omega)]; exact o.1
      · rw [out _ (by omega) (by omega)]; exact o.2.1
      · rw [out _ (by omega) (by omega)]; exact o.2.2.1
      · rw [pk_cpy_out (by omega)]
        unfold u1
        rw [if_pos (by omega)]
        rfl
      · have hi' : i < r.length := hi
        rw [pk_cpy_in (by omega) (by omega)]
        exact (congrArg (ar 7) (by omega)).trans (hw.2.2.2 i hi')
    · rw [if_neg hdc]
      have o := hs.crew d hd
      refine ⟨?_, ?_, ?_, ?_, L, fun i hi => ?_⟩
      · rw [out _ (by omega) (by omega)]; exact o.1
      · rw [out _ (by omega) (by omega)]; exact o.2.1
      · rw [out _ (by omega) (by omega)]; exact o.2.2.1
      · rw [out _ (by omega) (by omega)]; exact o.2.2.2.1
      · rw [out _ (by omega) (by omega)]; exact o.2.2.2.2.2 i hi
theorem pFind_no {r : List It} {i : Nat} : ∀ n k, (∀ j, k ≤ j → j < k + n → rl r j ≠ i) → pFind r i k n = none := by
  intro n
  induction n with
  | zero => intro k _; rfl
  | succ n ih =>
    intro k h
    unfold pFind
    rw [if_neg (h k (Nat.le_refl _) (by omega))]
    exact ih (k + 1) (fun j h1 h2 => h j (by omega) (by omega))
theorem pPl_isSome {r : List It} {i k : Nat} (hk : k < r.length) (h : rl r k = i) : (pPl r i).isSome = true := by
  cases hp : pPl r i with
  | some _ => rfl
  | none => exact absurd h (pFind_none _ _ hp k (Nat.zero_le _) (by omega))
theorem oI_neg {o : Option Nat} (h : ∀ k, o = some k → k < 2 ^ 31) : oI o (-2) < 0 ↔ o.isSome = false := by
  cases o with
  | none => exact ⟨fun _ => rfl, fun _ => by decide⟩
  | some k => exact ⟨fun z => absurd z (nI_pos (h k rfl)), fun z => by cases z⟩
theorem pFlyF_lt {A : AS} {i j : Nat} : ∀ n c, pFlyF A i c n = some j → c ≤ j ∧ j < c + n := by
  intro n
  induction n with
  | zero => intro c h; cases h
  | succ n ih =>
    intro c h
    unfold pFlyF at h
    split at h
    · have := ih (c + 1) h; omega
    · split at h
      · cases h; omega
      · have := ih (c + 1) h; omega
theorem pFly_lt {A : AS} {i j : Nat} (h : pFly A i = some j) : j < (aC A).length := by have := pFlyF_lt _ _ h; omega
theorem hvc {A : AS} {b : Int32} {r : List It} : vcode ((pVs A b r)[0]?) = hcode (((pVs A b r).head?).getD (0, 0)) := by
  rw [List.head?_eq_getElem?]
  cases (pVs A b r)[0]? <;> rfl
theorem t_hinders2 (hK : MK G x ma) (hs : MR (ar 0) A) (hw : MW sc ar b r) (hv : RV A r) (hva : RVA A) (h47 : r.length < 48) (i : Nat) (fl : Bool) (hi : i < aN A) : TrI Γ l mX2_hinders_2 8 0 0 [.ref x, .int (nI i), .int (bI fl)] (mW G x ma sc ar) (fun v G' => v = nI (hcode (pHin A b r i fl)) ∧ ∃ sc' ar', G' = mW G x ma sc' ar' ∧ Fr [8] [7] sc ar sc' ar' ∧ MW sc' ar' b r) := by
  have h24 := hs.1
  have h6 := hs.2.1
  have hle := pPos_le A r i
  have hplen := pPut_len A r i fl
  refine Tr.intro (by decide +kernel) (Nat.le_of_ble_eq_true rfl) ?_
  refine rX2_hinders_2_0 x _ _ ⟨hK.c, cI.det (t_of hK hs i 4 hi (by decide)) (by decide) ⟨fun h1 => ?_, fun h1 => ⟨_, rfl, by unfold pHin; rw [if_pos h1]; rfl, sc, ar, rfl, Fr.rf, hw⟩⟩⟩
  have fin : ∀ {K : Int32 → GH → Nat → Nat → Prop}, (∀ sc' ar', Fr [8] [7] sc ar sc' ar' → MW sc' ar' b r → K (nI (vcode ((pVs A b (pPut A r i fl))[0]?))) (mW G x ma sc' ar') 0 0) → cI Γ l 8 mX2_put [.ref x, .int (nI i), .int (bI fl)] (mW G x ma sc ar) 0 0 (fun r2 Gr2 br2 sr2 => gC Gr2 x = kO 1 ∧ cI Γ l 8 mX2_violationAt [.ref x, .int 0] Gr2 br2 sr2 fun r4 Gr4 br4 sr4 => gC Gr4 x = kO 1 ∧ cV Γ l 8 mX2_takeOut [.ref x, .int r2] Gr4 br4 sr4 fun Gr7 br7 sr7 => K r4 Gr7 br7 sr7) := by
    intro K k
    refine cI.mk0 (t_put hK hs hw hv h47 i fl hi) (by decide) ?_
    rintro v G1 ⟨rfl, sc1, ar1, rfl, f1, w1⟩
    have hs1 : MR (ar1 0) A := hs.fr f1 (by decide)
    refine ⟨hK.c, cI.det (t_violationAt hK hs1 w1 (hv.put hi) 0 (by decide)) (by decide) ⟨hK.c, ?_⟩⟩
    refine cV.mk0 (t_takeOut hK w1 (pPos A r i) (by omega)) (by decide) ?_
    rintro G2 ⟨sc2, ar2, rfl, f2, w2⟩
    rw [put_ers] at w2
    exact k sc2 ar2 (f1.tr f2) w2
  have key : ∀ n k, k + n = r.length → (∀ j, j < k → rl r j ≠ i) → GW Γ l mX2_hinders_2 8 0 0 (fun v G' => ∃ q, v = some (.int q) ∧ q = nI (hcode (pHin A b r i fl)) ∧ ∃ sc' ar', G' = mW G x ma sc' ar' ∧ Fr [8] [7] sc ar sc' ar' ∧ MW sc' ar' b r) 16 [(0, va_rf (some x)), (1, .int (nI i)), (2, .int (bI fl)), (3, .int (nI k))] [] (mW G x ma sc ar) 0 0 := by
    intro n
    induction n with
    | zero =>
      intro k hk hno
      have hp : pPl r i = none := pFind_no _ _ (fun j _ hj => hno j (by omega))
      refine rX2_hinders_2_16 x _ _ _ ⟨hK.c, ?_⟩
      rw [mW_x hK, hw.1]
      refine br_t (nI_le (by omega) (by omega)) ⟨fun h => ?_, fun h => ?_⟩
      · have h := bI_0.mp h
        refine fin fun sc' ar' f w => ⟨_, rfl, ?_, sc', ar', rfl, f, w⟩
        rw [hvc]
        unfold pHin
        rw [if_neg h1, if_neg (by rw [hp]; decide), if_neg (by rw [h]; simp)]
      · have h := bI_1.mp h
        refine cI.det (t_flierOf hK hs hva i (by omega)) (by decide) ?_
        rw [oI_neg (fun k hk => by have := pFly_lt hk; omega)]
        refine ⟨fun h2 => ⟨hK.c, fin fun sc' ar' f w => ⟨_, rfl, ?_, sc', ar', rfl, f, w⟩⟩, fun h2 => ⟨_, rfl, ?_, sc, ar, rfl, Fr.rf, hw⟩⟩
        · rw [hvc]
          unfold pHin
          rw [if_neg h1, if_neg (by rw [hp]; decide), if_neg (by rw [h2]; simp)]
        · unfold pHin
          rw [if_neg h1, if_neg (by rw [hp]; decide), if_pos (by rw [h]; exact eq_true_of_ne_false h2)]
          rfl
    | succ n ih =>
      intro k hk hno
      refine rX2_hinders_2_16 x _ _ _ ⟨hK.c, ?_⟩
      rw [mW_x hK, hw.1]
      have h48 := hw.2.2.1
      have hkl := RV.lt hs hv k (by omega)
      refine br_f (nI_ge (by omega) (by omega)) (cI.det (t_legAt hK hs hw hv k (by omega)) (by decide) ?_)
      rw [nI_eq (by omega) (by omega), nI_1]
      refine ⟨fun h => ih (k + 1) (by omega) (fun j hj => ?_), fun h => ⟨_, rfl, ?_, sc, ar, rfl, Fr.rf, hw⟩⟩
      · by_cases hjk : j = k
        · rw [hjk]; exact h
        · exact hno j (by omega)
      · unfold pHin
        rw [if_neg h1, if_pos (pPl_isSome (k := k) (by omega) h)]
        rfl
  exact key r.length 0 (by omega) (fun j hj => by omega)
theorem t_hinders (hK : MK G x ma) (hs : MR (ar 0) A) (hva : RVA A) (c i : Nat) (fl : Bool) (hc : c < (aC A).length) (hi : i < aN A) : TrI Γ l mX2_hinders 9 0 0 [.ref x, .int (nI c), .int (nI i), .int (bI fl)] (mW G x ma sc ar) (fun v G' => v = nI (hcode (pHin A (cB (cw A c)) (cT (cw A c)) i fl)) ∧ ∃ sc' ar', G' = mW G x ma sc' ar' ∧ Fr [8, 9] [7] sc ar sc' ar' ∧ MW sc' ar' (cB (cw A c)) (cT (cw A c))) := by
  have h24 := hs.l24 c hc
  refine Tr.intro (by decide +kernel) (Nat.le_of_ble_eq_true rfl) ?_
  refine rX2_hinders_0 x _ _ _ ⟨hK.c, cV.mk0 (t_take hK hs c hc) (by decide) ?_⟩
  rintro G1 ⟨sc1, ar1, rfl, f1, w1⟩
  have hs1 : MR (ar1 0) A := hs.fr f1 (by decide)
  refine ⟨hK.c, cI.mk0 (t_hinders2 hK hs1 w1 (hva c hc) hva (by omega) i fl hi) (by decide) ?_⟩
  rintro v G2 ⟨rfl, sc2, ar2, rfl, f2, w2⟩
  exact ⟨_, rfl, rfl, sc2, ar2, rfl, f1.tr (f2.wide (by decide) (by decide)), w2⟩
/-- a leg put into a crew's row -/
def aPut (A : AS) (c i : Nat) (fl : Bool) : AS := aSetC A c (wT (cw A c) (pPut A (cT (cw A c)) i fl))
theorem t_enter (hK : MK G x ma) (hs : MR (ar 0) A) (hva : RVA A) (c i : Nat) (fl : Bool) (hc : c < (aC A).length) (hi : i < aN A) (h23 : (cT (cw A c)).length < 24) : TrI Γ l mX2_enter 3 0 0 [.ref x, .int (nI c), .int (nI i), .int (bI fl)] (mW G x ma sc ar) (fun v G' => v = nI (pPos A (cT (cw A c)) i) ∧ ∃ sc' ar', G' = mW G x ma sc' ar' ∧ Fr [8, 9] [0, 7] sc ar sc' ar' ∧ MR (ar' 0) (aPut A c i fl)) := by
  refine Tr.intro (by decide +kernel) (Nat.le_of_ble_eq_true rfl) ?_
  refine rX2_enter_0 x _ _ _ ⟨hK.c, cV.mk0 (t_take hK hs c hc) (by decide) ?_⟩
  rintro G1 ⟨sc1, ar1, rfl, f1, w1⟩
  have hs1 : MR (ar1 0) A := hs.fr f1 (by decide)
  refine ⟨hK.c, cI.mk0 (t_put hK hs1 w1 (hva c hc) (by omega) i fl hi) (by decide) ?_⟩
  rintro v G2 ⟨rfl, sc2, ar2, rfl, f2, w2⟩
  have hs2 : MR (ar2 0) A := hs1.fr f2 (by decide)
  refine ⟨hK.c, cV.mk0 (t_give hK hs2 w2 (by rw [pPut_len]; omega) c hc) (by decide) ?_⟩
  rintro G3 ⟨sc3, ar3, rfl, f3, w3, m3⟩
  exact ⟨_, rfl, rfl, sc3, ar3, rfl, ((f1.wide (by decide) (by decide)).tr (f2.wide (by decide) (by decide))).tr (f3.wide (by decide) (by decide)), m3⟩
end MC4
