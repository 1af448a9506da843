/-! M's contract: command, the reading -/
set_option maxRecDepth 100000
def pEwF (t : List Nat) : Nat → Nat → Nat
  | 0, k => k
  | n + 1, k => if 97 ≤ pAt t k ∧ pAt t k ≤ 122 then pEwF t n (k + 1) else k
def pEw (t : List Nat) (k : Nat) : Nat := pEwF t (t.length - k) k
def pNeed (w : Nat) : Nat := if w = 0 then 4 else if w = 1 ∨ w = 6 then 1 else if 7 < w then 0 else 2
/-- n numbers from k on: where they end, are they all there, their values -/
def pNums (t : List Nat) : Nat → Nat → Nat × Bool × List Nat
  | 0, k => (k, true, [])
  | n + 1, k => if (pNum t k).2.2 then ((pNums t n (pNum t k).1).1, (pNums t n (pNum t k).1).2.1, (pNum t k).2.1 :: (pNums t n (pNum t k).1).2.2) else ((pNum t k).1, false, [])
def pCmd (t : List Nat) (k : Nat) : Nat × Option (Nat × List Nat) := match pWord t k (pEw t k) with
  | none => (k, none)
  | some w => ((pNums t (pNeed w) (pEw t k)).1, if (pNums t (pNeed w) (pEw t k)).2.1 then some (w, (pNums t (pNeed w) (pEw t k)).2.2) else none)
theorem pEwF_le (t : List Nat) : ∀ n k, k ≤ pEwF t n k ∧ pEwF t n k ≤ k + n := by
  intro n
  induction n with
  | zero => intro k; exact ⟨Nat.le_refl _, Nat.le_refl _⟩
  | succ n ih =>
    intro k
    unfold pEwF
    have := ih (k + 1)
    split <;> omega
theorem pEw_le {t : List Nat} {k : Nat} (h : k ≤ t.length) : k ≤ pEw t k ∧ pEw t k ≤ t.length := by
  have := pEwF_le t (t.length - k) k
  unfold pEw
  omega
theorem pDigF_le (t : List Nat) : ∀ n k v, k ≤ t.length → k ≤ (pDigF t n k v).1 ∧ (pDigF t n k v).1 ≤ t.length := by
  intro n
  induction n with
  | zero => intro k v h; exact ⟨Nat.le_refl _, h⟩
  | succ n ih =>
    intro k v h
    unfold pDigF
    split
    · rename_i hc
      have hk : k < t.length := by
        apply Classical.byContradiction
        intro z
        unfold pAt at hc
        rw [List.getD_eq_getElem?_getD, List.getElem?_eq_none (by omega)] at hc
        exact absurd hc.1 (by decide)
      have := ih (k + 1) (10 * v + pAt t k - 48) (by omega)
      omega
    · exact ⟨Nat.le_refl _, h⟩
theorem pAt_lt {t : List Nat} {k : Nat} (h : 0 < pAt t k) : k < t.length := by
  apply Classical.byContradiction
  intro z
  unfold pAt at h
  rw [List.getD_eq_getElem?_getD, List.getElem?_eq_none (by omega)] at h
  exact absurd h (by decide)
theorem pNum_le {t : List Nat} {k : Nat} (h : k ≤ t.length) : k ≤ (pNum t k).1 ∧ (pNum t k).1 ≤ t.length := by
  unfold pNum
  split
  · rename_i hs
    have hk := pAt_lt (t := t) (k := k) (by omega)
    have := pDigF_le t 4 (k + 1) 0 (by omega)
    show k ≤ (pDigF t 4 (k + 1) 0).1 ∧ (pDigF t 4 (k + 1) 0).1 ≤ t.length
    omega
  · exact ⟨Nat.le_refl _, h⟩
theorem pNums_le {t : List Nat} : ∀ n k, k ≤ t.length → k ≤ (pNums t n k).1 ∧ (pNums t n k).1 ≤ t.length := by
  intro n
  induction n with
  | zero => intro k h; exact ⟨Nat.le_refl _, h⟩
  | succ n ih =>
    intro k h
    unfold pNums
    have h1 := pNum_le h
    split
    · have := ih (pNum t k).1 h1.2
      show k ≤ (pNums t n (pNum t k).1).1 ∧ (pNums t n (pNum t k).1).1 ≤ t.length
      omega
    · exact h1
theorem pCmd_le {t : List Nat} {k : Nat} (h : k ≤ t.length) : k ≤ (pCmd t k).1 ∧ (pCmd t k).1 ≤ t.length := by
  unfold pCmd
  split
  · exact ⟨Nat.le_refl _, h⟩
  · have h1 := pEw_le h
    rename_i w _
    have := pNums_le (t := t) (pNeed w) (pEw t k) h1.2
    show k ≤ (pNums t (pNeed w) (pEw t k)).1 ∧ _
    omega
section MC23
variable {Γ : GE} {l : Launch} {G : GH} {x : Nat} {ma : Nat → Nat} {sc : Nat → Int32} {ar : Nat → Nat → Int32} {A : AS} {b : Int32} {r : List It} {S : SS}
/-- the word's end: from 5 on until the letters end -/
theorem u_word (hK : MK G x ma) {t : List Nat} (ht : ∀ (j c : Nat), t[j]? = some c → c < 128) {h MC MS : Nat} {Q : Option Value → GH → Prop} {bc bs : Nat} (p : Int32) (k : Nat) (hh : 1 < h) (hX : MX (sc 26) (ar 25) t)
    (fin : ∀ sc1, Fr [27] [] sc ar sc1 ar → sc1 27 = nI (pEw t k) → cI Γ l h mX2_wordOf [.ref x, .int (nI k)] (mW G x ma sc1 ar) bc bs (fun r6 Gr6 br6 sr6 => (((0 : Int32) ≤ r6 → ((¬ r6 = 0 → ((r6 = 1 → (GW Γ l mX2_command h MC MS Q 93 [(0, va_rf (some x)), (1, .int p), (2, .int (nI k)), (3, .int r6), (4, .int 1), (5, .int 0)] [] Gr6 br6 sr6)) ∧ (¬ r6 = 1 → ((¬ r6 = 6 → ((r6 ≤ 7 → (GW Γ l mX2_command h MC MS Q 93 [(0, va_rf (some x)), (1, .int p), (2, .int (nI k)), (3, .int r6), (4, .int 2), (5, .int 0)] [] Gr6 br6 sr6)) ∧ (¬ r6 ≤ 7 → (GW Γ l mX2_command h MC MS Q 93 [(0, va_rf (some x)), (1, .int p), (2, .int (nI k)), (3, .int r6), (4, .int 0), (5, .int 0)] [] Gr6 br6 sr6)))) ∧ (r6 = 6 → (GW Γ l mX2_command h MC MS Q 93 [(0, va_rf (some x)), (1, .int p), (2, .int (nI k)), (3, .int r6), (4, .int 1), (5, .int 0)] [] Gr6 br6 sr6)))))) ∧ (r6 = 0 → (GW Γ l mX2_command h MC MS Q 93 [(0, va_rf (some x)), (1, .int p), (2, .int (nI k)), (3, .int r6), (4, .int 4), (5, .int 0)] [] Gr6 br6 sr6)))) ∧ (¬ (0 : Int32) ≤ r6 → (gC Gr6 x = kO 1 ∧ gM Gr6 x = true ∧ Q (some (.int 0)) (sI (sI Gr6 x 27 (nI k)) x 28 1)))))) :
    ∀ n j sc1, j + n = t.length → Fr [27] [] sc ar sc1 ar → sc1 27 = nI j → pEwF t n j = pEw t k → GW Γ l mX2_command h MC MS Q 5 [(0, va_rf (some x)), (1, .int p), (2, .int (nI k))] [] (mW G x ma sc1 ar) bc bs := by
  have h60 := hX.2.1
  have hat : ∀ k, pAt t k < 128 := by
    intro k
    unfold pAt
    rw [List.getD_eq_getElem?_getD]
    cases h : t[k]? with
    | none => decide
    | some c => exact ht k c h
  have E : ∀ j, pIn (nI (pAt t j)) 97 122 = decide (97 ≤ pAt t j ∧ pAt t j ≤ 122) := by
    intro j
    have := hat j
    unfold pIn
    rw [li_ 97, li_ 122]
    simp only [nI_ltI (show pAt t j < 2 ^ 31 by omega) (show (97 : Nat) < 2 ^ 31 by decide), nI_ltI (show (122 : Nat) < 2 ^ 31 by decide) (show pAt t j < 2 ^ 31 by omega), Nat.not_lt, ← decide_not, ← Bool.decide_and]
  intro n
  induction n with
  | zero =>
    intro j sc1 hj f1 e1 he
    have hX1 : MX (sc1 26) (ar 25) t := by rw [f1.1 26 (by decide)]; exact hX
    have hz : pAt t j = 0 := by unfold pAt; rw [List.getD_eq_getElem?_getD, List.getElem?_eq_none (by omega)]; rfl
    refine rX2_command_5 x _ _ ⟨hK.c, cI.det (t_here hK hX1 j e1 (by omega)) hh (cI.det (t_in _ _ _) hh ?_)⟩
    rw [E, hz]
    exact br_t (by decide) ⟨hK.c, fin sc1 f1 (by rw [e1, ← he]; rfl)⟩
  | succ n ih =>
    intro j sc1 hj f1 e1 he
    have hX1 : MX (sc1 26) (ar 25) t := by rw [f1.1 26 (by decide)]; exact hX
    refine rX2_command_5 x _ _ ⟨hK.c, cI.det (t_here hK hX1 j e1 (by omega)) hh (cI.det (t_in _ _ _) hh ?_)⟩
    rw [E, bI_0, decide_eq_false_iff_not]
    unfold pEwF at he
    refine ⟨fun h1 => ⟨hK.c, ?_⟩, fun h1 => ⟨hK.c, hK.m, ?_⟩⟩
    · rw [if_neg h1] at he
      exact fin sc1 f1 (by rw [e1, ← he])
    · rw [if_pos (Decidable.not_not.mp h1)] at he
      rw [mW_x hK, e1, nI_1, hK.sx]
      exact ih (j + 1) _ (by omega) (f1.us 27 _ (by decide)) rfl he
end MC23
