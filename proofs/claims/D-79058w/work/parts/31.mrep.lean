/-! M's contracts: repair -/
set_option maxRecDepth 100000
theorem MM.app {n : Int32} {f g : Nat → Int32} {m : List Rm} (h : MM n f m) (h144 : m.length < 144) (p : Rm) (h0 : g (4 * m.length + 0) = nI p.1) (h1 : g (4 * m.length + 1) = nI p.2.1) (h2 : g (4 * m.length + 2) = bI p.2.2.1) (h3 : g (4 * m.length + 3) = p.2.2.2) (ho : ∀ k, k < 4 * m.length → g k = f k) : MM (nI (m.length + 1)) g (m ++ [p]) := by
  obtain ⟨a1, a2, a3⟩ := h
  refine ⟨by rw [List.length_append]; rfl, by rw [List.length_append]; show _ + 1 ≤ 144; omega, fun j q hj => ?_⟩
  by_cases hjl : j < m.length
  · rw [List.getElem?_append_left hjl] at hj
    obtain ⟨c0, c1, c2, c3⟩ := a3 j q hj
    exact ⟨(ho _ (by omega)).trans c0, (ho _ (by omega)).trans c1, (ho _ (by omega)).trans c2, (ho _ (by omega)).trans c3⟩
  · rw [List.getElem?_append_right (by omega)] at hj
    have h5 := (List.getElem?_eq_some_iff.mp hj).1
    have h6 : j = m.length := by
      have : j - m.length < 1 := h5
      omega
    subst h6
    rw [Nat.sub_self] at hj
    cases hj
    exact ⟨h0, h1, h2, h3⟩
/-- removed entries and A change -/
theorem MT.frM {sc sc' : Nat → Int32} {ar ar' : Nat → Nat → Int32} {S : SS} {A : AS} {m : List Rm} (h : MT sc ar S) (f : Fr (18 :: xS) (0 :: 17 :: xT) sc ar sc' ar') (hA : MR (ar' 0) A) (hM : MM (sc' 18) (ar' 17) m) : MT sc' ar' (sSetM S A m) := by
  obtain ⟨h1, h2, h3, h4, h5, h6⟩ := h
  refine ⟨hA, ?_, ?_, ?_, hM, ?_⟩
  · rw [f.2 3 (by decide), f.1 4 (by decide)]; exact h2
  · rw [f.1 2 (by decide), f.2 1 (by decide)]; exact h3
  · rw [f.1 6 (by decide)]; exact h4
  · exact h6.fr f (by decide) (by decide) (by decide) (by decide)
theorem pRem_none {A : AS} {b : Int32} {c n : Nat} {r : List It} {m : List Rm} (h : (pVs A b r)[0]? = none) : pRemF A b c n r m = (r, m) := by
  cases n with
  | zero => rfl
  | succ n => conv => lhs; unfold pRemF
              rw [h]
theorem pRem_some {A : AS} {b : Int32} {c n : Nat} {r : List It} {m : List Rm} {v : Nat × Nat} (h : (pVs A b r)[0]? = some v) : pRemF A b c (n + 1) r m = pRemF A b c n (r.eraseIdx v.2) (m ++ [(c, rl r v.2, rf r v.2, -2)]) := by
  conv => lhs; unfold pRemF
  rw [h]
theorem pRemF_ok {A : AS} {b : Int32} {c : Nat} : ∀ n r m, r.length = n → RV A r → RD r → RV A (pRemF A b c n r m).1 ∧ RD (pRemF A b c n r m).1 ∧ (pRemF A b c n r m).1.length ≤ n ∧ (pRemF A b c n r m).2.length + (pRemF A b c n r m).1.length = m.length + n := by
  intro n
  induction n with
  | zero => intro r m h h1 h2; exact ⟨h1, h2, by show r.length ≤ 0; omega, by show m.length + r.length = m.length + 0; omega⟩
  | succ n ih =>
    intro r m h h1 h2
    cases hv : (pVs A b r)[0]? with
    | none => rw [pRem_none hv]; exact ⟨h1, h2, by show r.length ≤ _; omega, by show m.length + r.length = _; omega⟩
    | some v =>
      have := (pVs_le A b r).2 v (List.mem_of_getElem? hv)
      rw [pRem_some hv]
      obtain ⟨o1, o2, o3, o4⟩ := ih (r.eraseIdx v.2) (m ++ [(c, rl r v.2, rf r v.2, -2)]) (by rw [List.length_eraseIdx, if_pos (by omega)]; omega) (h1.ers (by omega)) (h2.ers (by omega))
      refine ⟨o1, o2, by omega, ?_⟩
      rw [o4, List.length_append]
      show m.length + 1 + n = _
      omega
theorem pCan_hin {A : AS} {c i : Nat} (h : pCan A c i = true) : pHin A (cB (cw A c)) (cT (cw A c)) i true = (0, 0) := by
  unfold pCan at h
  simp only [Bool.and_eq_true, decide_eq_true_eq] at h
  exact h.2.2.2
theorem pCallF_ok {A : AS} {i : Nat} : ∀ n c o, c + n ≤ (aC A).length → (∀ q, o = some q → q.1 < (aC A).length ∧ pCan A q.1 i = true) → ∀ q, pCallF A i c n o = some q → q.1 < (aC A).length ∧ pCan A q.1 i = true := by
  intro n
  induction n with
  | zero => intro c o _ h; exact h
  | succ n ih =>
    intro c o hc h
    show ∀ q, pCallF A i (c + 1) n (if pCan A c i then pCSt A c o else o) = some q → _
    refine ih _ _ (by omega) ?_
    split
    · rename_i hcan
      intro q hq
      unfold pCSt at hq
      cases o with
      | none => cases hq; exact ⟨by show c < _; omega, hcan⟩
      | some z =>
        dsimp only at hq
        split at hq
        · exact h q hq
        · cases hq; exact ⟨by show c < _; omega, hcan⟩
    · exact h
theorem pCall_ok {A : AS} {i : Nat} {q : Nat × Int32} (h : pCall A i = some q) : q.1 < (aC A).length ∧ pCan A q.1 i = true := pCallF_ok _ _ _ (by omega) (fun q hq => by cases hq) q h
theorem aCall_ok {A : AS} (h : WR A) {i : Nat} (hi : i < aN A) : WR (aCall A i) ∧ Same A (aCall A i) := by
  unfold aCall
  cases hq : pCall A i with
  | none => exact ⟨h, Same.rf⟩
  | some q =>
    obtain ⟨q1, q2⟩ := pCall_ok hq
    exact ⟨h.put q1 hi (pHin_none (pCan_hin q2)).1, Same.set⟩
section MC16
variable {Γ : GE} {l : Launch} {G : GH} {x : Nat} {ma : Nat → Nat} {sc : Nat → Int32} {ar : Nat → Nat → Int32} {A : AS} {b : Int32} {r : List It} {S : SS}
theorem t_callFor (hK : MK G x ma) (hs : MR (ar 0) A) (hw : WR A) {m : List Rm} (hm : MM (sc 18) (ar 17) m) (j i : Nat) (hj : j < m.length) (hi : i < aN A) : TrV Γ l mX2_callFor 11 0 0 [.ref x, .int (nI j), .int (nI i)] (mW G x ma sc ar) (fun G' => ∃ sc' ar', G' = mW G x ma sc' ar' ∧ Fr [8, 9] [0, 7, 17] sc ar sc' ar' ∧ MR (ar' 0) (aCall A i) ∧ MM (sc' 18) (ar' 17) (mCall A m j i)) := by
  have h6 := hs.2.1
  obtain ⟨a1, a2, a3⟩ := hm
  refine Tr.intro (by decide +kernel) (Nat.le_of_ble_eq_true rfl) ?_
  refine rX2_callFor_0 x _ _ ⟨hK.c, cI.mk0 (t_calledFor hK hs hw.2.1 i hi) (by decide) ?_⟩
  rintro v G1 ⟨rfl, sc1, ar1, rfl, f1⟩
  have hs1 : MR (ar1 0) A := hs.fr f1 (by decide)
  have e : (4 * nI j) + 3 = nI (4 * j + 3) := by simp only [li_, nI_add, pk_mul, nI_1, Nat.add_assoc]
  refine ⟨hK.c, ma 17, hK.r 17 (by decide), hK.t 17 0 (by decide) rfl, hK.w 17 (by decide), hK.inb 17 (by decide) _ e (by show _ < 576; omega), ?_⟩
  rw [e, nI_clamp (by omega), hK.sa 17 (by decide)]
  have hM : MM (sc1 18) (u1 (ar1 17) (4 * j + 3) (cN (pCall A i))) (mCall A m j i) := by
    refine ⟨by unfold mCall; rw [List.length_set, f1.1 18 (by decide)]; exact a1, by unfold mCall; rw [List.length_set]; exact a2, fun k q hk => ?_⟩
    unfold mCall at hk
    rw [List.getElem?_set] at hk
    rw [f1.2 17 (by decide)]
    by_cases hjk : j = k
    · subst hjk
      rw [if_pos rfl, if_pos hj] at hk
      cases hk
      have hg : m[j]? = some m[j] := List.getElem?_eq_getElem hj
      obtain ⟨c0, c1, c2, c3⟩ := a3 j _ hg
      have hd : m.getD j (0, 0, false, 0) = m[j] := by rw [List.getD_eq_getElem?_getD, hg]; rfl
      rw [hd]
      unfold u1
      refine ⟨?_, ?_, ?_, ?_⟩
      · rw [if_neg (by omega)]; exact c0
      · rw [if_neg (by omega)]; exact c1
      · rw [if_neg (by omega)]; exact c2
      · rw [if_pos rfl]
    · rw [if_neg hjk] at hk
      obtain ⟨c0, c1, c2, c3⟩ := a3 k q hk
      unfold u1
      refine ⟨?_, ?_, ?_, ?_⟩
      · rw [if_neg (by omega)]; exact c0
      · rw [if_neg (by omega)]; exact c1
      · rw [if_neg (by omega)]; exact c2
      · rw [if_neg (by omega)]; exact c3
  have f1' := (f1.wide (S' := [8, 9]) (T' := [0, 7, 17]) (by decide) (by decide)).ua 17 (u1 (ar1 17) (4 * j + 3) (cN (pCall A i))) (by decide)
  have hs2 : MR ((u1 ar1 17 (u1 (ar1 17) (4 * j + 3) (cN (pCall A i)))) 0) A := hs1
  cases hq : pCall A i with
  | none =>
    rw [hq] at hM f1' hs2
    refine br_t (by decide) ⟨rfl, _, _, rfl, f1', ?_, hM⟩
    unfold aCall
    rw [hq]
    exact hs2
  | some q =>
    obtain ⟨q1, q2⟩ := pCall_ok hq
    have hn := (pHin_none (pCan_hin q2)).1
    rw [hq] at hM f1' hs2
    refine br_f (nI_pos (by omega)) (cI.mk0 (t_enter hK hs2 hw.2.1 q.1 i true q1 hi (hw.rlen _ _ q1 hi hn)) (by decide) ?_)
    rintro v G3 ⟨rfl, sc3, ar3, rfl, f3, hs3⟩
    refine ⟨rfl, sc3, ar3, rfl, f1'.tr (f3.wide (by decide) (by decide)), ?_, ?_⟩
    · unfold aCall
      rw [hq]
      exact hs3
    · rw [f3.1 18 (by decide), f3.2 17 (by decide)]
      exact hM
end MC16
