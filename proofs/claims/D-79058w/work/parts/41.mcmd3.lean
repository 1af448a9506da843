/-! M's contract: command -/
set_option maxRecDepth 100000
section MC25
variable {Γ : GE} {l : Launch} {G : GH} {x : Nat} {ma : Nat → Nat} {sc : Nat → Int32} {ar : Nat → Nat → Int32} {A : AS} {b : Int32} {r : List It} {S : SS}
theorem u_cmd (hK : MK G x ma) (hW : KW Γ G) {t : List Nat} (ht : ∀ (j c : Nat), t[j]? = some c → c < 128) (hX : MX (sc 26) (ar 25) t) {h : Nat} {Q : Option Value → GH → Prop} (p : Int32) (k : Nat) (hk : sc 27 = nI k) (h28 : sc 28 = 0) (hkt : k ≤ t.length) (hh : 6 < h)
    (no : ∀ G2 sc', Ext G G2 → Fr [27, 28] [29] sc ar sc' ar → sc' 27 = nI k → sc' 28 = 1 → pWord t k (pEw t k) = none → Q (some (.int 0)) (mW G2 x ma sc' ar))
    (yes : ∀ (w m i' : Nat) G2 sc' ar', pWord t k (pEw t k) = some w → Ext G G2 → Fr [27, 28] [29] sc ar sc' ar' → sc' 27 = nI (pNums t (pNeed w) (pEw t k)).1 → sc' 28 = bI (!(pNums t (pNeed w) (pEw t k)).2.1) → ((pNums t (pNeed w) (pEw t k)).2.1 = true → ∀ (j v : Nat), (pNums t (pNeed w) (pEw t k)).2.2[j]? = some v → ar' 29 j = nI v) → GW Γ l mX2_command h 1 10 Q 119 [(0, va_rf (some x)), (1, .int p), (2, .int (nI k)), (3, .int (nI w)), (4, .int (nI m)), (5, .int (nI i'))] [] (mW G2 x ma sc' ar') 0 0) :
    GW Γ l mX2_command h 1 10 Q 0 [(0, va_rf (some x)), (1, .int p)] [] (mW G x ma sc ar) 1 10 := by
  have hle := pEw_le hkt
  refine rX2_command_0 x _ ⟨hK.c, ?_⟩
  rw [mW_x hK, hk]
  refine u_word hK ht p k (by omega) hX (fun sc1 f1 e1 => ?_) (t.length - k) k sc (by omega) Fr.rf hk rfl
  have hX1 : MX (sc1 26) (ar 25) t := by rw [f1.1 26 (by decide)]; exact hX
  refine cI.mk (t_wordOf (Γ := Γ) (l := l) hK hW hX1 ht k (pEw t k) e1 hle.1 hle.2) hh (Nat.le_refl _) (Nat.le_refl _) ?_
  rintro v G2 ⟨rfl, G3, hE, rfl⟩
  have hK3 := hK.ext hE
  have f1' : Fr [27, 28] [29] sc ar sc1 ar := f1.wide (by decide) (by decide)
  cases hw : pWord t k (pEw t k) with
  | none =>
    refine ⟨fun z => absurd z (by decide), fun _ => ⟨hK3.c, hK3.m, ?_⟩⟩
    rw [hK3.sx, hK3.sx]
    exact no G3 _ hE ((f1'.us 27 _ (by decide)).us 28 _ (by decide)) rfl rfl hw
  | some w =>
    have hw10 := pWord_lt hw
    have go : ∀ m, m = pNeed w → GW Γ l mX2_command h 1 10 Q 93 [(0, va_rf (some x)), (1, .int p), (2, .int (nI k)), (3, .int (nI w)), (4, .int (nI m)), (5, .int (nI 0))] [] (mW G3 x ma sc1 ar) 0 0 := by
      intro m hm
      subst hm
      have hm4 : pNeed w ≤ 4 := by unfold pNeed; split <;> (try split) <;> (try split) <;> omega
      refine u_nums hK3 ht hX1 p (nI k) (nI w) (pNeed w) hm4 (by omega) (pNeed w) 0 (pEw t k) sc1 ar (by omega) Fr.rf e1 ((f1.1 28 (by decide)).trans h28) hle.2 (fun i' sc2 ar2 f2 n1 n2 n3 n4 => ?_)
      exact yes w (pNeed w) i' G3 sc2 ar2 hw hE (f1'.tr f2) n1 n2 (fun hz j v hj => by have := n3 hz j v hj; rw [Nat.zero_add] at this; exact this)
    show ((0 : Int32) ≤ nI w → _) ∧ (¬ (0 : Int32) ≤ nI w → _)
    refine ⟨fun _ => ?_, fun z => absurd (nI_pos' (by omega)) z⟩
    show (¬ nI w = 0 → (nI w = 1 → _) ∧ (¬ nI w = 1 → (¬ nI w = 6 → (nI w ≤ 7 → _) ∧ (¬ nI w ≤ 7 → _)) ∧ (nI w = 6 → _))) ∧ (nI w = 0 → _)
    rw [li_ 0, li_ 1, li_ 6, li_ 7, nI_eq (by omega) (by decide), nI_eq (by omega) (by decide), nI_eq (by omega) (by decide), nI_leI (by omega) (by decide)]
    refine ⟨fun h0 => ⟨fun h1 => go 1 (by unfold pNeed; simp [h1]), fun h1 => ⟨fun h6 => ⟨fun h7 => go 2 ?_, fun h7 => go 0 ?_⟩, fun h6 => go 1 (by unfold pNeed; simp [h6])⟩⟩, fun h0 => go 4 (by unfold pNeed; simp [h0])⟩
    · unfold pNeed
      rw [if_neg h0, if_neg (by omega), if_neg (by omega)]
    · unfold pNeed
      rw [if_neg h0, if_neg (by omega), if_pos (by omega)]
end MC25
