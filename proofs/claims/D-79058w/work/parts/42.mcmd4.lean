/-! M's contract: command, reading and performing -/
set_option maxRecDepth 100000
def sSetP (S : SS) (k w : Int32) : SS := (sA S, sH S, sV S, sQ S, sM S, (sX S, k, w))
theorem MT.pl {sc sc' : Nat → Int32} {ar ar' : Nat → Nat → Int32} {S : SS} {k w : Int32} (h : MT sc ar S) (f : Fr [27, 28] [29] sc ar sc' ar') (h1 : sc' 27 = k) (h2 : sc' 28 = w) : MT sc' ar' (sSetP S k w) := by
  obtain ⟨a1, a2, a3, a4, a5, a6, a7, a8⟩ := h
  refine ⟨?_, ?_, ?_, ?_, ?_, ?_, h1, h2⟩
  · rw [f.2 0 (by decide)]; exact a1
  · rw [f.2 3 (by decide), f.1 4 (by decide)]; exact a2
  · rw [f.1 2 (by decide), f.2 1 (by decide)]; exact a3
  · rw [f.1 6 (by decide)]; exact a4
  · rw [f.1 18 (by decide), f.2 17 (by decide)]; exact a5
  · rw [f.1 26 (by decide), f.2 25 (by decide)]; exact a6
section MC26
variable {Γ : GE} {l : Launch} {G : GH} {x : Nat} {ma : Nat → Nat} {sc : Nat → Int32} {ar : Nat → Nat → Int32} {A : AS} {b : Int32} {r : List It} {S : SS}
theorem t_cmdR (hK : MK G x ma) (hW : KW Γ G) {t : List Nat} (ht : ∀ (j c : Nat), t[j]? = some c → c < 128) (hX : MX (sc 26) (ar 25) t) (k : Nat) (hk : sc 27 = nI k) (h28 : sc 28 = 0) (hkt : k ≤ t.length) : TrI Γ l mX2_command 14 1 10 [.ref x, .int 0] (mW G x ma sc ar) (fun v G' => v = 0 ∧ ∃ G2 sc' ar', Ext G G2 ∧ G' = mW G2 x ma sc' ar' ∧ Fr [27, 28] [29] sc ar sc' ar' ∧ sc' 27 = nI (pCmd t k).1 ∧ sc' 28 = bI (pCmd t k).2.isNone) := by
  refine Tr.intro (by decide +kernel) (Nat.le_of_ble_eq_true rfl) ?_
  refine u_cmd hK hW ht hX 0 k hk h28 hkt (by decide) (fun G2 sc' hE f e1 e2 hw => ?_) (fun w m i' G2 sc' ar' hw hE f e1 e2 e3 => ?_)
  · have C : pCmd t k = (k, none) := by unfold pCmd; rw [hw]
    rw [C]
    exact ⟨_, rfl, rfl, G2, sc', ar, hE, rfl, f, e1, e2⟩
  · have C : pCmd t k = ((pNums t (pNeed w) (pEw t k)).1, if (pNums t (pNeed w) (pEw t k)).2.1 then some (w, (pNums t (pNeed w) (pEw t k)).2.2) else none) := by unfold pCmd; rw [hw]
    rw [C]
    have e4 : sc' 28 = bI (if (pNums t (pNeed w) (pEw t k)).2.1 then some (w, (pNums t (pNeed w) (pEw t k)).2.2) else none).isNone := by
      rw [e2]
      cases (pNums t (pNeed w) (pEw t k)).2.1 <;> rfl
    have hK2 := hK.ext hE
    refine rX2_command_119 x _ _ _ _ _ ⟨hK2.c, ?_⟩
    exact ⟨fun _ => ⟨_, rfl, rfl, G2, sc', ar', hE, rfl, f, e1, e4⟩, fun _ => ⟨fun z => absurd rfl z, fun _ => ⟨_, rfl, rfl, G2, sc', ar', hE, rfl, f, e1, e4⟩⟩⟩
theorem t_cmdP (hK : MK G x ma) (hW : KW Γ G) (hC : KC Γ G) (hT : MT sc ar S) (hw : WR (sA S)) (ht : ∀ (j c : Nat), (sX S)[j]? = some c → c < 128) (k : Nat) (hk : sc 27 = nI k) (h28 : sc 28 = 0) (hkt : k ≤ (sX S).length) {w : Nat} (hwd : pWord (sX S) k (pEw (sX S) k) = some w) (hok : (pNums (sX S) (pNeed w) (pEw (sX S) k)).2.1 = true) :
    TrI Γ l mX2_command 14 1 10 [.ref x, .int 1] (mW G x ma sc ar) (fun v G' => ∃ n : Nat → Int32, (∀ (j u : Nat), (pNums (sX S) (pNeed w) (pEw (sX S) k)).2.2[j]? = some u → n j = nI u) ∧ v = (xPerf (sSetP S (nI (pNums (sX S) (pNeed w) (pEw (sX S) k)).1) 0) w n).1 ∧ ∃ G2 sc' ar', Ext G G2 ∧ G' = mW G2 x ma sc' ar' ∧ MT sc' ar' (xPerf (sSetP S (nI (pNums (sX S) (pNeed w) (pEw (sX S) k)).1) 0) w n).2) := by
  have hX : MX (sc 26) (ar 25) (sX S) := hT.2.2.2.2.2.1
  refine Tr.intro (by decide +kernel) (Nat.le_of_ble_eq_true rfl) ?_
  refine u_cmd hK hW ht hX 1 k hk h28 hkt (by decide) (fun G2 sc' hE f e1 e2 hw2 => ?_) (fun w2 m i' G2 sc' ar' hw2 hE f e1 e2 e3 => ?_)
  · rw [hwd] at hw2; cases hw2
  · rw [hwd] at hw2
    cases hw2
    have hK2 := hK.ext hE
    rw [hok] at e2
    have hT2 : MT sc' ar' (sSetP S (nI (pNums (sX S) (pNeed w) (pEw (sX S) k)).1) 0) := hT.pl f e1 e2
    have hw10 := pWord_lt hwd
    refine rX2_command_119 x _ _ _ _ _ ⟨hK2.c, ?_⟩
    rw [mW_x hK2, e2]
    refine ⟨fun z => absurd rfl z, fun _ => ⟨fun _ => cI.mk0 (t_perform hK2 (hC.ext hE) hT2 hw w hw10) (by decide) ?_, fun z => absurd z (by decide)⟩⟩
    rintro v G3 ⟨rfl, sc3, ar3, rfl, m3⟩
    exact ⟨_, rfl, ar' 29, e3 hok, rfl, G2, sc3, ar3, hE, rfl, m3⟩
end MC26
