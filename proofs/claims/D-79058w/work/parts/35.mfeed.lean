/-! M's contracts: letter, feed, here, words -/
set_option maxRecDepth 100000
theorem pIn_btw {p : Int32} {a b : Nat} (hb : b < 2 ^ 30) (ha : a ≤ b) (h : pIn p (nI a) (nI b) = true) : a ≤ ix p ∧ ix p ≤ b ∧ p = nI (ix p) := by
  unfold pIn at h
  simp only [Bool.and_eq_true, Bool.not_eq_true', decide_eq_false_iff_not] at h
  have h0 : ¬ p < 0 := by
    intro z
    apply h.1
    rw [Int32.lt_iff_toInt_lt] at z ⊢
    rw [nI_toInt (by omega)]
    have : (0 : Int32).toInt = 0 := rfl
    omega
  obtain ⟨j, hj, rfl⟩ := nI_of h0
  rw [nI_ltI hj (by omega), nI_ltI (by omega) hj] at h
  rw [ix_nI hj]
  exact ⟨by omega, by omega, rfl⟩
def sSetX (S : SS) (t : List Nat) : SS := (sA S, sH S, sV S, sQ S, sM S, (t, (sY S).2))
def xFeed (S : SS) (p : Int32) : Int32 × SS := if pIn p 32 126 then (if (sX S).length = 60 then (-3, S) else (nI ((sX S).length + 1), sSetX S (sX S ++ [ix p]))) else (-1, S)
section MC19
variable {Γ : GE} {l : Launch} {G : GH} {x : Nat} {ma : Nat → Nat} {sc : Nat → Int32} {ar : Nat → Nat → Int32} {A : AS} {b : Int32} {r : List It} {S : SS}
theorem t_letter (hK : MK G x ma) (hKS : KS Γ G) (hs : MR (ar 0) A) (hva : RVA A) (hL : LIA A) (p i : Int32) : TrI Γ l mX2_letter 6 0 0 [.ref x, .int p, .int i] (mW G x ma sc ar) (fun v G' => v = oLetter A p i ∧ ∃ sc' ar', G' = mW G x ma sc' ar' ∧ Fr [8, 9, 24] [7, 23] sc ar sc' ar') := by
  refine Tr.intro (by decide +kernel) (Nat.le_of_ble_eq_true rfl) ?_
  refine rX2_letter_0 x _ _ ⟨hK.c, c_isCrew hK hs p (by decide) ?_⟩
  rw [bI_0]
  refine ⟨fun h => ⟨hK.c, ?_⟩, fun h => ⟨_, rfl, by simp [oLetter, h], sc, ar, rfl, Fr.rf⟩⟩
  simp only [Bool.not_eq_false] at h
  obtain ⟨g1, g2⟩ := okC.ix hs h
  have h24 := hs.l24 _ g1
  have T := t_take (Γ := Γ) (l := l) (sc := sc) (ar := ar) hK hs (ix p) g1
  rw [← g2] at T
  refine cV.mk0 T (by decide) ?_
  rintro G1 ⟨sc1, ar1, rfl, f1, w1⟩
  refine ⟨hK.c, hK.m, ?_⟩
  rw [hK.sx]
  have hv := hva _ g1
  have E : oLetter A p i = if i = -1 then nI (pText A (cT (cw A (ix p))) (cT (cw A (ix p))).length).length else if pIn i 0 (nI (pText A (cT (cw A (ix p))) (cT (cw A (ix p))).length).length - 1) then nI ((pText A (cT (cw A (ix p))) (cT (cw A (ix p))).length).getD (ix i) 0) else -2 := by
    unfold oLetter
    rw [if_pos h]
  rw [E]
  generalize cT (cw A (ix p)) = r at *
  generalize cB (cw A (ix p)) = b at *
  have key : ∀ n k sc2 ar2, k + n = r.length → Fr [8, 9, 24] [7, 23] sc ar sc2 ar2 → MW sc2 ar2 b r → MZ sc2 ar2 (pText A r k) → GW Γ l mX2_letter 6 0 0 (fun v G' => ∃ q, v = some (.int q) ∧ q = (if i = -1 then nI (pText A r r.length).length else if pIn i 0 (nI (pText A r r.length).length - 1) then nI ((pText A r r.length).getD (ix i) 0) else -2) ∧ ∃ sc' ar', G' = mW G x ma sc' ar' ∧ Fr [8, 9, 24] [7, 23] sc ar sc' ar') 22 [(0, va_rf (some x)), (1, .int p), (2, .int i), (3, .int (nI k))] [] (mW G x ma sc2 ar2) 0 0 := by
    intro n
    induction n with
    | zero =>
      intro k sc2 ar2 hk f2 w2 z2
      have hkl : k = r.length := by omega
      subst hkl
      have hl := pText_len A r r.length
      refine rX2_letter_22 x _ _ _ ⟨hK.c, ?_⟩
      rw [mW_x hK, mW_x hK, w2.1, z2.1]
      refine br_t (nI_le (by omega) (by omega)) ⟨fun h1 => cI.det (t_in _ _ _) (by decide) ?_, fun h1 => ⟨_, rfl, by rw [if_pos h1], sc2, ar2, rfl, f2⟩⟩
      rw [bI_0, if_neg h1]
      refine ⟨fun h2 => ⟨_, rfl, by rw [h2]; rfl, sc2, ar2, rfl, f2⟩, fun h2 => ?_⟩
      simp only [Bool.not_eq_false] at h2
      obtain ⟨g3, g4⟩ := pIn_ix (by omega) h2
      refine ⟨hK.c, ma 23, hK.r 23 (by decide), hK.t 23 3 (by decide) rfl, hK.inb 23 (by decide) _ g4 (by show _ < 768; omega), _, rfl, ?_, sc2, ar2, rfl, f2⟩
      rw [hK.rd 23 (by decide) _ g4 (by omega), if_pos h2, z2.2 (ix i) _ (List.getElem?_eq_getElem g3), List.getD_eq_getElem?_getD, List.getElem?_eq_getElem g3]
      rfl
    | succ n ih =>
      intro k sc2 ar2 hk f2 w2 z2
      have hs2 : MR (ar2 0) A := hs.fr f2 (by decide)
      have hl := pText_len A r k
      refine rX2_letter_22 x _ _ _ ⟨hK.c, ?_⟩
      rw [mW_x hK, w2.1]
      refine br_f (nI_ge (by omega) (by omega)) (cV.mk0 (t_writeItem hK hKS hs2 hL w2 hv z2 (by omega) k (by omega)) (by decide) ?_)
      rintro G3 ⟨sc3, ar3, rfl, f3, z3⟩
      rw [nI_1]
      exact ih (k + 1) sc3 ar3 (by omega) (f2.tr (f3.wide (by decide) (by decide))) ⟨(f3.1 8 (by decide)).trans w2.1, (f3.1 9 (by decide)).trans w2.2.1, w2.2.2.1, by rw [f3.2 7 (by decide)]; exact w2.2.2.2⟩ z3
  exact key r.length 0 _ ar1 (by omega) ((f1.wide (by decide) (by decide)).us 24 _ (by decide)) w1 ⟨rfl, fun j c hj => by cases hj⟩
theorem t_feed (hK : MK G x ma) (hT : MT sc ar S) (p : Int32) : TrI Γ l mX2_feed 2 0 0 [.ref x, .int p] (mW G x ma sc ar) (fun v G' => v = (xFeed S p).1 ∧ ∃ sc' ar', G' = mW G x ma sc' ar' ∧ MT sc' ar' (xFeed S p).2) := by
  obtain ⟨h1, h2, h3, h4, h5, ⟨x1, x2, x3⟩, x4, x5⟩ := hT
  refine Tr.intro (by decide +kernel) (Nat.le_of_ble_eq_true rfl) ?_
  refine rX2_feed_0 x _ (cI.det (t_in _ _ _) (by decide) ?_)
  rw [bI_0]
  refine ⟨fun h => ⟨hK.c, ?_⟩, fun h => ⟨_, rfl, by simp [xFeed, h], sc, ar, rfl, by simp [xFeed, h]; exact ⟨h1, h2, h3, h4, h5, ⟨x1, x2, x3⟩, x4, x5⟩⟩⟩
  simp only [Bool.not_eq_false] at h
  obtain ⟨g1, g2, g3⟩ := pIn_btw (a := 32) (b := 126) (by decide) (by decide) h
  have x1 : sc 26 = nI (sX S).length := x1
  have x2 : (sX S).length ≤ 60 := x2
  rw [mW_x hK, x1, li_ 60, nI_eq (by omega) (by decide)]
  refine ⟨fun h6 => ⟨ma 25, hK.r 25 (by decide), hK.t 25 3 (by decide) rfl, hK.w 25 (by decide), hK.inb 25 (by decide) _ rfl (by show _ < 60; omega), ?_⟩, fun h6 => ⟨_, rfl, by simp [xFeed, h, h6], sc, ar, rfl, by simp [xFeed, h, h6]; exact ⟨h1, h2, h3, h4, h5, ⟨x1, x2, x3⟩, x4, x5⟩⟩⟩
  have X : xFeed S p = (nI ((sX S).length + 1), sSetX S (sX S ++ [ix p])) := by unfold xFeed; rw [if_pos h, if_neg h6]
  have hch : vp_nar .char ((p.toUInt32 % 65536).toInt32) = nI (ix p) := by
    conv => lhs; rw [g3]
    exact nI_vchar (by omega)
  rw [X, hch, nI_clamp (by omega), hK.sa 25 (by decide), mW_x hK, hK.sx, x1, nI_1]
  refine ⟨hK.m, _, rfl, ?_, _, _, rfl, h1, h2, h3, h4, h5, ⟨?_, ?_, fun j c hj => ?_⟩, x4, x5⟩
  · rw [mW_x hK]; rfl
  · show nI _ = nI (sX S ++ [ix p]).length
    rw [List.length_append]; rfl
  · show (sX S ++ [ix p]).length ≤ 60
    rw [List.length_append]; show _ + 1 ≤ 60; omega
  · show u1 (ar 25) (sX S).length (nI (ix p)) j = nI c
    have hj : (sX S ++ [ix p])[j]? = some c := hj
    unfold u1
    by_cases hjl : j < (sX S).length
    · rw [if_neg (by omega)]
      rw [List.getElem?_append_left hjl] at hj
      exact x3 j c hj
    · rw [List.getElem?_append_right (by omega)] at hj
      have h7 := (List.getElem?_eq_some_iff.mp hj).1
      have h8 : j = (sX S).length := by
        have : j - (sX S).length < 1 := h7
        omega
      rw [if_pos h8]
      rw [h8, Nat.sub_self] at hj
      cases hj
      rfl
/-- the letter at a place, 0 behind the text -/
def pAt (t : List Nat) (k : Nat) : Nat := t.getD k 0
theorem t_here (hK : MK G x ma) {t : List Nat} (hX : MX (sc 26) (ar 25) t) (k : Nat) (hk : sc 27 = nI k) (hk6 : k < 2 ^ 20) : TrI Γ l mX2_here 1 0 0 [.ref x] (mW G x ma sc ar) (fun v G' => v = nI (pAt t k) ∧ G' = (mW G x ma sc ar)) := by
  obtain ⟨x1, x2, x3⟩ := hX
  refine Tr.intro (by decide +kernel) (Nat.le_of_ble_eq_true rfl) ?_
  refine rX2_here_0 x ⟨hK.c, ?_⟩
  rw [mW_x hK, mW_x hK, x1, hk, nI_leI (by omega) (by omega)]
  unfold pAt
  rw [List.getD_eq_getElem?_getD]
  refine ⟨fun h => ⟨_, rfl, ?_, rfl⟩, fun h => ⟨ma 25, hK.r 25 (by decide), hK.t 25 3 (by decide) rfl, hK.inb 25 (by decide) _ rfl (by show _ < 60; omega), _, rfl, ?_, rfl⟩⟩
  · rw [List.getElem?_eq_none h]; rfl
  · rw [hK.rd 25 (by decide) _ rfl (by omega), List.getElem?_eq_getElem (by omega)]
    exact x3 k _ (List.getElem?_eq_getElem (by omega))
end MC19
