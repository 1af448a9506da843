/-! M's contract: command, the numbers -/
set_option maxRecDepth 100000
theorem pNums_ok {t : List Nat} {n k : Nat} (h : (pNum t k).2.2 = true) : pNums t (n + 1) k = ((pNums t n (pNum t k).1).1, (pNums t n (pNum t k).1).2.1, (pNum t k).2.1 :: (pNums t n (pNum t k).1).2.2) := by
  conv => lhs; unfold pNums
  rw [if_pos h]
theorem pNums_no {t : List Nat} {n k : Nat} (h : (pNum t k).2.2 = false) : pNums t (n + 1) k = ((pNum t k).1, false, []) := by
  conv => lhs; unfold pNums
  rw [if_neg (by rw [h]; simp)]
section MC24
variable {Γ : GE} {l : Launch} {G : GH} {x : Nat} {ma : Nat → Nat} {sc : Nat → Int32} {ar : Nat → Nat → Int32} {A : AS} {b : Int32} {r : List It} {S : SS}
theorem u_nums (hK : MK G x ma) {t : List Nat} (ht : ∀ (j c : Nat), t[j]? = some c → c < 128) (hX : MX (sc 26) (ar 25) t) {h MC MS : Nat} {Q : Option Value → GH → Prop} (p q w : Int32) (m : Nat) (hm : m ≤ 4) (hh : 2 < h) :
    ∀ n i k sc1 ar1, i + n = m → Fr [27, 28] [29] sc ar sc1 ar1 → sc1 27 = nI k → sc1 28 = 0 → k ≤ t.length →
    (∀ (i' : Nat) sc2 ar2, Fr [27, 28] [29] sc ar sc2 ar2 → sc2 27 = nI (pNums t n k).1 → sc2 28 = bI (!(pNums t n k).2.1) → ((pNums t n k).2.1 = true → ∀ (j v : Nat), (pNums t n k).2.2[j]? = some v → ar2 29 (i + j) = nI v) → (∀ j, j < i → ar2 29 j = ar1 29 j) → GW Γ l mX2_command h MC MS Q 119 [(0, va_rf (some x)), (1, .int p), (2, .int q), (3, .int w), (4, .int (nI m)), (5, .int (nI i'))] [] (mW G x ma sc2 ar2) 0 0) →
    GW Γ l mX2_command h MC MS Q 93 [(0, va_rf (some x)), (1, .int p), (2, .int q), (3, .int w), (4, .int (nI m)), (5, .int (nI i))] [] (mW G x ma sc1 ar1) 0 0 := by
  have h60 := hX.2.1
  intro n
  induction n with
  | zero =>
    intro i k sc1 ar1 hi f1 e1 e2 hk fin
    refine rX2_command_93 x _ _ _ _ _ (br_t (nI_le (by omega) (by omega)) ?_)
    exact fin i sc1 ar1 f1 e1 (by rw [e2]; rfl) (fun _ j v hj => by cases hj) (fun j _ => rfl)
  | succ n ih =>
    intro i k sc1 ar1 hi f1 e1 e2 hk fin
    have hX1 : MX (sc1 26) (ar1 25) t := by rw [f1.1 26 (by decide), f1.2 25 (by decide)]; exact hX
    refine rX2_command_93 x _ _ _ _ _ (br_f (nI_ge (by omega) (by omega)) ⟨hK.c, ?_⟩)
    rw [mW_x hK, e2]
    refine ⟨fun z => absurd rfl z, fun _ => cV.mk0 (t_readNumber hK hX1 ht k i e1 (by omega) (by omega)) hh ?_⟩
    rintro G2 ⟨sc2, ar2, rfl, f2, n1, n2, n3, n4⟩
    have f12 := f1.tr f2
    have hle := pNum_le hk
    rw [nI_1]
    cases hb : (pNum t k).2.2 with
    | false =>
      rw [hb] at n2
      have P := pNums_no (t := t) (n := n) hb
      rw [P] at fin
      -- wrong: the loop ends at once
      by_cases hn : n = 0
      · subst hn
        refine rX2_command_93 x _ _ _ _ _ (br_t (nI_le (by omega) (by omega)) ?_)
        exact fin (i + 1) sc2 ar2 f12 n1 n2 (fun z => by cases z) (fun j hj => n4 j (by omega))
      · refine rX2_command_93 x _ _ _ _ _ (br_f (nI_ge (by omega) (by omega)) ⟨hK.c, ?_⟩)
        rw [mW_x hK, n2]
        exact ⟨fun _ => fin (i + 1) sc2 ar2 f12 n1 n2 (fun z => by cases z) (fun j hj => n4 j (by omega)), fun z => absurd z (by decide)⟩
    | true =>
      rw [hb] at n2
      have P := pNums_ok (t := t) (n := n) hb
      rw [P] at fin
      refine ih (i + 1) (pNum t k).1 sc2 ar2 (by omega) f12 n1 n2 hle.2 (fun i' sc3 ar3 f3 q1 q2 q3 q4 => ?_)
      refine fin i' sc3 ar3 f3 q1 q2 (fun hz j v hj => ?_) (fun j hj => (q4 j (by omega)).trans (n4 j (by omega)))
      cases j with
      | zero =>
        have hj : some (pNum t k).2.1 = some v := hj
        cases hj
        exact (q4 i (by omega)).trans (n3 hb)
      | succ j =>
        have := q3 hz j v hj
        rw [show i + (j + 1) = i + 1 + j by omega]
        exact this
end MC24
