/-! M's contract: execute, the reading of all commands -/
set_option maxRecDepth 100000
/-- commands from k on, n of them at most: where it ends, is it well, how many -/
def pAllF (t : List Nat) : Nat → Nat → Nat × Bool × Nat
  | 0, k => (k, false, 0)
  | n + 1, k => match (pCmd t k).2 with
    | none => ((pCmd t k).1, false, 1)
    | some _ => if pAt t (pCmd t k).1 = 59 then ((pAllF t n ((pCmd t k).1 + 1)).1, (pAllF t n ((pCmd t k).1 + 1)).2.1, (pAllF t n ((pCmd t k).1 + 1)).2.2 + 1) else ((pCmd t k).1, true, 1)
theorem pAllF_none {t : List Nat} {n k : Nat} (h : (pCmd t k).2 = none) : pAllF t (n + 1) k = ((pCmd t k).1, false, 1) := by
  conv => lhs; unfold pAllF
  rw [h]
theorem pAllF_end {t : List Nat} {n k : Nat} {z : Nat × List Nat} (h : (pCmd t k).2 = some z) (h2 : pAt t (pCmd t k).1 ≠ 59) : pAllF t (n + 1) k = ((pCmd t k).1, true, 1) := by
  conv => lhs; unfold pAllF
  rw [h]
  show (if _ then _ else _) = _
  rw [if_neg h2]
theorem pAllF_more {t : List Nat} {n k : Nat} {z : Nat × List Nat} (h : (pCmd t k).2 = some z) (h2 : pAt t (pCmd t k).1 = 59) : pAllF t (n + 1) k = ((pAllF t n ((pCmd t k).1 + 1)).1, (pAllF t n ((pCmd t k).1 + 1)).2.1, (pAllF t n ((pCmd t k).1 + 1)).2.2 + 1) := by
  conv => lhs; unfold pAllF
  rw [h]
  show (if _ then _ else _) = _
  rw [if_pos h2]
section MC27
variable {Γ : GE} {l : Launch} {G : GH} {x : Nat} {ma : Nat → Nat} {sc : Nat → Int32} {ar : Nat → Nat → Int32} {A : AS} {b : Int32} {r : List It} {S : SS}
/-- all commands are read: from 14 with more = 1 to 14 with more = 0 -/
theorem u_read {t : List Nat} (ht : ∀ (j c : Nat), t[j]? = some c → c < 128) {h MC MS : Nat} {Q : Option Value → GH → Prop} (hh : 14 < h) (bc bs : Nat) (Z : Nat × Bool × Nat)
    (fin : ∀ G2 sc2 ar2 (bc' bs' : Nat), bc ≤ bc' → bs ≤ bs' → Ext G G2 → Fr [27, 28] [29] sc ar sc2 ar2 → sc2 27 = nI Z.1 → sc2 28 = bI (!Z.2.1) → GW Γ l mX2_execute h MC MS Q 14 [(0, va_rf (some x)), (1, .int (nI Z.2.2)), (2, .int 0)] [] (mW G2 x ma sc2 ar2) bc' bs') :
    ∀ n k c G1 sc1 ar1, MK G1 x ma → KW Γ G1 → Ext G G1 → MX (sc1 26) (ar1 25) t → Fr [27, 28] [29] sc ar sc1 ar1 → sc1 27 = nI k → sc1 28 = 0 → k ≤ t.length → t.length + 1 ≤ k + n → ((pAllF t n k).1, (pAllF t n k).2.1, (pAllF t n k).2.2 + c) = Z → GW Γ l mX2_execute h MC MS Q 14 [(0, va_rf (some x)), (1, .int (nI c)), (2, .int 1)] [] (mW G1 x ma sc1 ar1) (bc + n) (bs + 10 * n) := by
  intro n
  induction n with
  | zero =>
    intro k c G1 sc1 ar1 hK hW hE hX f1 e1 e2 hkl hk hz
    omega
  | succ n ih =>
    intro k c G1 sc1 ar1 hK hW hE hX f1 e1 e2 hkl hk hz
    have h60 := hX.2.1
    have hc := pCmd_le hkl
    refine rX2_execute_14 x _ _ (br_f (by decide) ⟨hK.c, cI.mk (t_cmdR hK hW ht hX k e1 e2 hkl) hh (by omega) (by omega) ?_⟩)
    rintro v G2 ⟨rfl, G3, sc2, ar2, hE2, rfl, f2, n1, n2⟩
    have hK3 := hK.ext hE2
    have hE3 := hE.tr hE2
    have f12 := f1.tr f2
    have hX2 : MX (sc2 26) (ar2 25) t := by rw [f2.1 26 (by decide), f2.2 25 (by decide)]; exact hX
    rw [show bc + (n + 1) - 1 = bc + n by omega, show bs + 10 * (n + 1) - 10 = bs + 10 * n by omega]
    -- no more
    have stop : ∀ q : Bool, ((pCmd t k).1, q, 1 + c) = Z → sc2 28 = bI (!q) → GW Γ l mX2_execute h MC MS Q 48 [(0, va_rf (some x)), (1, .int (nI c + 1)), (2, .int 1), (3, .int 0)] [.int 0] (mW G3 x ma sc2 ar2) (bc + n) (bs + 10 * n) := by
      intro q hq h28
      refine rX2_execute_48 x _ _ _ _ ⟨hK3.c, br_t rfl ⟨hK3.m, ?_⟩⟩
      rw [mW_x hK3, Int32.add_zero, hK3.sx, nI_1]
      have := fin G3 (u1 sc2 27 (sc2 27)) ar2 (bc + n) (bs + 10 * n) (by omega) (by omega) hE3 (f12.us 27 _ (by decide)) (by rw [← hq]; exact n1) (by rw [← hq]; exact h28)
      rw [← hq] at this
      rw [show c + 1 = 1 + c by omega]
      exact this
    refine ⟨hK3.c, ?_⟩
    rw [mW_x hK3, n2, bI_0]
    cases hp : (pCmd t k).2 with
    | none =>
      rw [hp] at n2
      rw [pAllF_none hp] at hz
      exact ⟨fun _ => stop false hz n2, fun z => by cases z⟩
    | some z =>
      rw [hp] at n2
      refine ⟨fun z => absurd rfl z, fun _ => cI.det (t_here hK3 hX2 (pCmd t k).1 n1 (by omega)) (by omega) ?_⟩
      have hat : pAt t (pCmd t k).1 < 128 := by
        unfold pAt
        rw [List.getD_eq_getElem?_getD]
        cases h : t[(pCmd t k).1]? with
        | none => decide
        | some c => exact ht _ c h
      rw [li_ 59, nI_eq (by omega) (by decide)]
      refine ⟨fun h2 => ?_, fun h2 => ?_⟩
      · rw [pAllF_end hp h2] at hz
        exact stop true hz n2
      · rw [pAllF_more hp h2] at hz
        have hlt := pAt_lt (t := t) (k := (pCmd t k).1) (by omega)
        refine rX2_execute_48 x _ _ _ _ ⟨hK3.c, br_f (by decide) ⟨hK3.m, ?_⟩⟩
        rw [mW_x hK3, n1, nI_1, nI_1, hK3.sx]
        exact ih ((pCmd t k).1 + 1) (c + 1) G3 _ ar2 hK3 (hW.ext hE2) hE3 hX2 (f12.us 27 _ (by decide)) rfl n2 (by omega) (by omega) (by rw [← hz, Nat.add_assoc, Nat.add_comm 1 c])
end MC27
