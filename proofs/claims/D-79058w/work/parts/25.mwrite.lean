/-! M's contracts: what changes legs, crews, rules -/
set_option maxRecDepth 100000
def aSetR (A : AS) (k : Nat) (v : Int32) : AS := (aN A, aL A, u1 (aR A) k v, aC A)
def aSetL (A : AS) (i f : Nat) (v : Int32) : AS := (aN A, u1 (aL A) i (u1 (aL A i) f v), aR A, aC A)
def aAddL (A : AS) (g : Nat → Int32) : AS := (aN A + 1, u1 (aL A) (aN A) g, aR A, aC A)
def aAddC (A : AS) (k : Cw) : AS := (aN A, aL A, aR A, aC A ++ [k])
def sSet (S : SS) (A : AS) : SS := (A, sH S, sV S, sQ S, sM S, sY S)
def leastR (k : Nat) : Int32 := ([10, 300, 300, 120, 1, 120, 0, 0] : List Int32).getD k 0
def mostR (k : Nat) : Int32 := ([120, 900, 960, 720, 8, 1200, 99, 9999] : List Int32).getD k 0
def firstR (k : Nat) : Int32 := ([30, 600, 720, 480, 4, 600, 10, 500] : List Int32).getD k 0
/-- the class's constant rows -/
def KC (Γ : GE) (G : GH) : Prop := ∀ i, 6 ≤ i → i ≤ 8 → gC G (Γ.2.2.2 i) = kA 0 ∧ gM G (Γ.2.2.2 i) = false ∧ gL G (Γ.2.2.2 i) = 8 ∧ ∀ j, j < 8 → gI G (Γ.2.2.2 i) j = if i = 6 then firstR j else if i = 7 then leastR j else mostR j
def pThF (A : AS) (but a b d : Int32) : Nat → Nat → Bool
  | _, 0 => false
  | k, n + 1 => (!decide (nI k = but) && (decide (aL A k 0 = a) && (decide (aL A k 1 = b) && decide (aL A k 2 = d)))) || pThF A but a b d (k + 1) n
def pThere (A : AS) (but a b d : Int32) : Bool := pThF A but a b d 0 (aN A)
section MRU
variable {σ : Nat → Int32} {A : AS}
theorem MR.mk' {τ : Nat → Int32} {B : AS} (h : MR σ A) (n24 : aN B ≤ 24) (hC : aC B = aC A) (h0 : τ 0 = nI (aN B)) (h1 : τ 1 = σ 1) (hR : ∀ r, r < 8 → τ (2 + r) = aR B r) (hL : ∀ i f, i < aN B → f < 5 → τ (10 + (5 * i + f)) = aL B i f) (hc : ∀ k, 130 ≤ k → τ k = σ k) : MR τ B := by
  refine ⟨n24, by rw [hC]; exact h.2.1, h0, by rw [h1, hC]; exact h.nc, hR, hL, fun c hcl => ?_⟩
  rw [hC] at hcl
  have o := h.crew c hcl
  have e : cw B c = cw A c := by unfold cw; rw [hC]
  rw [e]
  exact ⟨(hc _ (by omega)).trans o.1, (hc _ (by omega)).trans o.2.1, (hc _ (by omega)).trans o.2.2.1, (hc _ (by omega)).trans o.2.2.2.1, o.2.2.2.2.1, fun i hi => (hc _ (by omega)).trans (o.2.2.2.2.2 i hi)⟩
theorem MR.setR (h : MR σ A) (k : Nat) (hk : k < 8) (v : Int32) : MR (u1 σ (2 + k) v) (aSetR A k v) := by
  refine MR.mk' h h.1 rfl ?_ ?_ (fun r hr => ?_) (fun i f hi hf => ?_) (fun j hj => ?_)
  · unfold u1; rw [if_neg (by omega)]; exact h.nl
  · unfold u1; rw [if_neg (by omega)]
  · show _ = u1 (aR A) k v r
    unfold u1
    by_cases e : r = k
    · rw [if_pos (by omega), if_pos e]
    · rw [if_neg (by omega), if_neg e]; exact h.ru r hr
  · unfold u1; rw [if_neg (by omega)]; exact h.lg i f hi hf
  · unfold u1; rw [if_neg (by omega)]
theorem MR.setL (h : MR σ A) (i f : Nat) (hi : i < aN A) (hf : f < 5) (v : Int32) : MR (u1 σ (10 + (5 * i + f)) v) (aSetL A i f v) := by
  have h24 := h.1
  refine MR.mk' h h.1 rfl ?_ ?_ (fun r hr => ?_) (fun j g hj hg => ?_) (fun j hj => ?_)
  · unfold u1; rw [if_neg (by omega)]; exact h.nl
  · unfold u1; rw [if_neg (by omega)]
  · unfold u1; rw [if_neg (by omega)]; exact h.ru r hr
  · show _ = u1 (aL A) i (u1 (aL A i) f v) j g
    unfold u1
    by_cases e : j = i
    · subst e
      rw [if_pos rfl]
      by_cases e2 : g = f
      · rw [if_pos (by omega), if_pos e2]
      · rw [if_neg (by omega), if_neg e2]; exact h.lg j g hi hg
    · rw [if_neg (by omega), if_neg e]; exact h.lg j g hj hg
  · unfold u1; rw [if_neg (by omega)]
theorem MR.freeL (h : MR σ A) (k : Nat) (h1 : 10 + 5 * aN A ≤ k) (h2 : k < 130) (v : Int32) : MR (u1 σ k v) A := by
  have h24 := h.1
  refine MR.mk' h h.1 rfl ?_ ?_ (fun r hr => ?_) (fun j g hj hg => ?_) (fun j hj => ?_)
  · unfold u1; rw [if_neg (by omega)]; exact h.nl
  · unfold u1; rw [if_neg (by omega)]
  · unfold u1; rw [if_neg (by omega)]; exact h.ru r hr
  · unfold u1; rw [if_neg (by omega)]; exact h.lg j g hj hg
  · unfold u1; rw [if_neg (by omega)]
theorem MR.addL (h : MR σ A) (h24 : aN A < 24) {g : Nat → Int32} (hg : ∀ f, f < 5 → σ (10 + (5 * aN A + f)) = g f) : MR (u1 σ 0 (nI (aN A + 1))) (aAddL A g) := by
  refine MR.mk' h (by show aN A + 1 ≤ 24; omega) rfl rfl ?_ (fun r hr => ?_) (fun j f hj hf => ?_) (fun j hj => ?_)
  · unfold u1; rw [if_neg (by omega)]
  · unfold u1; rw [if_neg (by omega)]; exact h.ru r hr
  · have hj' : j < aN A + 1 := hj
    show _ = u1 (aL A) (aN A) g j f
    unfold u1
    rw [if_neg (by omega)]
    by_cases e : j = aN A
    · subst e
      rw [if_pos rfl]
      exact hg f hf
    · rw [if_neg e]
      exact h.lg j f (by omega) hf
  · unfold u1; rw [if_neg (by omega)]
theorem MR.freeC (h : MR σ A) (k : Nat) (h1 : 130 + 28 * (aC A).length ≤ k) (v : Int32) : MR (u1 σ k v) A := by
  have h24 := h.1
  have o : ∀ j, j < 130 + 28 * (aC A).length → u1 σ k v j = σ j := fun j hj => by unfold u1; rw [if_neg (by omega)]
  refine ⟨h.1, h.2.1, (o 0 (by omega)).trans h.nl, (o 1 (by omega)).trans h.nc, fun r hr => (o _ (by omega)).trans (h.ru r hr), fun i f hi hf => (o _ (by omega)).trans (h.lg i f hi hf), fun c hc => ?_⟩
  have q := h.crew c hc
  have ql := h.l24 c hc
  exact ⟨(o _ (by omega)).trans q.1, (o _ (by omega)).trans q.2.1, (o _ (by omega)).trans q.2.2.1, (o _ (by omega)).trans q.2.2.2.1, q.2.2.2.2.1, fun i hi => (o _ (by omega)).trans (q.2.2.2.2.2 i hi)⟩
theorem cw_add {k : Cw} (c : Nat) : cw (aAddC A k) c = if c = (aC A).length then k else cw A c := by
  show (aC A ++ [k]).getD c _ = _
  rw [List.getD_eq_getElem?_getD]
  by_cases h : c < (aC A).length
  · rw [List.getElem?_append_left h, if_neg (by omega)]
    unfold cw
    rw [List.getD_eq_getElem?_getD]
  · rw [List.getElem?_append_right (by omega)]
    by_cases e : c = (aC A).length
    · rw [if_pos e, e, Nat.sub_self]; rfl
    · rw [if_neg e]
      unfold cw
      rw [List.getD_eq_getElem?_getD, List.getElem?_eq_none (by show 1 ≤ _; omega), List.getElem?_eq_none (by omega)]
theorem MR.addC (h : MR σ A) (h6 : (aC A).length < 6) {b s e : Int32} (hb : σ (130 + (28 * (aC A).length + 0)) = b) (hs : σ (130 + (28 * (aC A).length + 1)) = s) (he : σ (130 + (28 * (aC A).length + 2)) = e) (hn : σ (130 + (28 * (aC A).length + 3)) = 0) : MR (u1 σ 1 (nI ((aC A).length + 1))) (aAddC A (b, s, e, [])) := by
  have h24 := h.1
  have hl : (aC (aAddC A (b, s, e, []))).length = (aC A).length + 1 := by show (aC A ++ [_]).length = _; rw [List.length_append]; rfl
  have o : ∀ j, j ≠ 1 → u1 σ 1 (nI ((aC A).length + 1)) j = σ j := fun j hj => by unfold u1; rw [if_neg hj]
  refine ⟨h.1, by omega, (o 0 (by omega)).trans h.nl, by rw [hl]; rfl, fun r hr => (o _ (by omega)).trans (h.ru r hr), fun i f hi hf => (o _ (by omega)).trans (h.lg i f hi hf), fun c hc => ?_⟩
  rw [cw_add]
  by_cases ec : c = (aC A).length
  · subst ec
    rw [if_pos rfl]
    exact ⟨(o _ (by omega)).trans hb, (o _ (by omega)).trans hs, (o _ (by omega)).trans he, (o _ (by omega)).trans hn, Nat.zero_le _, fun i hi => by cases hi⟩
  · rw [if_neg ec]
    have q := h.crew c (by omega)
    exact ⟨(o _ (by omega)).trans q.1, (o _ (by omega)).trans q.2.1, (o _ (by omega)).trans q.2.2.1, (o _ (by omega)).trans q.2.2.2.1, q.2.2.2.2.1, fun i hi => (o _ (by omega)).trans (q.2.2.2.2.2 i hi)⟩
theorem MR.setSE (h : MR σ A) (c : Nat) (hc : c < (aC A).length) (s e : Int32) : MR (u1 (u1 σ (130 + (28 * c + 1)) s) (130 + (28 * c + 2)) e) (aSetC A c (cB (cw A c), s, e, cT (cw A c))) := by
  have h24 := h.1
  have o : ∀ j, j ≠ 130 + (28 * c + 1) → j ≠ 130 + (28 * c + 2) → u1 (u1 σ (130 + (28 * c + 1)) s) (130 + (28 * c + 2)) e j = σ j := fun j h1 h2 => by unfold u1; rw [if_neg h2, if_neg h1]
  have hl := aC_set (A := A) (c := c) (k := (cB (cw A c), s, e, cT (cw A c)))
  refine ⟨h.1, by rw [hl]; exact h.2.1, (o 0 (by omega) (by omega)).trans h.nl, by rw [hl]; exact (o 1 (by omega) (by omega)).trans h.nc, fun r hr => (o _ (by omega) (by omega)).trans (h.ru r hr), fun i f hi hf => by have hi' : i < aN A := hi; exact (o _ (by omega) (by omega)).trans (h.lg i f hi hf), fun d hd => ?_⟩
  rw [hl] at hd
  rw [cw_set hc]
  have q := h.crew d hd
  have ql := h.l24 d hd
  by_cases e1 : d = c
  · subst e1
    rw [if_pos rfl]
    refine ⟨(o _ (by omega) (by omega)).trans q.1, ?_, ?_, (o _ (by omega) (by omega)).trans q.2.2.2.1, q.2.2.2.2.1, fun i hi => (o _ (by omega) (by omega)).trans (q.2.2.2.2.2 i hi)⟩
    · unfold u1; rw [if_neg (by omega), if_pos (by omega)]; rfl
    · unfold u1; rw [if_pos (by omega)]; rfl
  · rw [if_neg e1]
    exact ⟨(o _ (by omega) (by omega)).trans q.1, (o _ (by omega) (by omega)).trans q.2.1, (o _ (by omega) (by omega)).trans q.2.2.1, (o _ (by omega) (by omega)).trans q.2.2.2.1, q.2.2.2.2.1, fun i hi => (o _ (by omega) (by omega)).trans (q.2.2.2.2.2 i hi)⟩
end MRU
theorem sChg_A (S : SS) : sA (sChg S) = sA S := by unfold sChg; split <;> rfl
/-- a new row s -/
theorem MT.set {sc : Nat → Int32} {ar : Nat → Nat → Int32} {S : SS} {f : Nat → Int32} {A : AS} (h : MT sc ar S) (hA : MR f A) : MT sc (u1 ar 0 f) (sSet S A) := ⟨hA, h.2.1, h.2.2.1, h.2.2.2.1, h.2.2.2.2.1, h.2.2.2.2.2⟩
def xSetRule (S : SS) (p q : Int32) : Int32 × SS := if pIn p 0 7 && pIn q (leastR (ix p)) (mostR (ix p)) then (aR (sA S) (ix p), sSet (sChg S) (aSetR (sA S) (ix p) q)) else (-1, S)
def xSetReserve (S : SS) (p q w : Int32) : Int32 × SS := if okC (sA S) p && (pIn q 0 5999 && pIn w q 6000) then (bI (pRes (cw (sA S) (ix p))), sSet (sChg S) (aSetC (sA S) (ix p) (cB (cw (sA S) (ix p)), q, w, cT (cw (sA S) (ix p))))) else (-1, S)
def xAddCrew (S : SS) (p : Int32) : Int32 × SS := if pIn p 0 5 then (if (aC (sA S)).length = 6 then (-3, S) else (nI (aC (sA S)).length, sSet (sChg S) (aAddC (sA S) (p, 0, 0, [])))) else (-1, S)
def legF (a b d e : Int32) (f : Nat) : Int32 := ([a, b, d, e] : List Int32).getD f 0
def xAddLeg (S : SS) (a b d e : Int32) : Int32 × SS := if (pIn a 0 5 && (pIn b 0 5 && (!decide (a = b) && pIn d 0 5999))) && pIn e (d + 1) (iMin (d + 600) 5999) then (if pThere (sA S) (-1) a b d then (-4, S) else if aN (sA S) = 24 then (-3, S) else (nI (aN (sA S)), sSet (sChg S) (aAddL (sA S) (legF a b d e)))) else (-1, S)
section MC10
variable {Γ : GE} {l : Launch} {G : GH} {x : Nat} {ma : Nat → Nat} {sc : Nat → Int32} {ar : Nat → Nat → Int32} {A : AS} {b : Int32} {r : List It} {S : SS}
theorem KC.rd {Γ : GE} {G : GH} {x : Nat} {ma : Nat → Nat} {sc : Nat → Int32} {ar : Nat → Nat → Int32} (hK : MK G x ma) (hC : KC Γ G) (i : Nat) (h6 : 6 ≤ i) (h8 : i ≤ 8) (j : Nat) : gI (mW G x ma sc ar) (Γ.2.2.2 i) j = gI G (Γ.2.2.2 i) j := by
  obtain ⟨-, h2, -, -⟩ := hC i h6 h8
  refine mW_o hK _ (fun z => ?_) (fun k hk z => ?_) j
  · have := hK.2.1
    rw [← z, h2] at this
    cases this
  · have := (hK.2.2.1 k hk).2.2.2
    rw [z, h2] at this
    cases this
theorem t_setRule (hK : MK G x ma) (hC : KC Γ G) (hT : MT sc ar S) (p q : Int32) : TrI Γ l mX2_setRule 3 0 0 [.ref x, .int p, .int q] (mW G x ma sc ar) (fun v G' => v = (xSetRule S p q).1 ∧ ∃ sc' ar', G' = mW G x ma sc' ar' ∧ MT sc' ar' (xSetRule S p q).2) := by
  refine Tr.intro (by decide +kernel) (Nat.le_of_ble_eq_true rfl) ?_
  refine rX2_setRule_0 x _ _ (cI.det (t_in _ _ _) (by decide) ?_)
  rw [bI_0]
  refine ⟨fun h => ⟨_, rfl, by simp [xSetRule, h], sc, ar, rfl, by simp [xSetRule, h]; exact hT⟩, fun h => ?_⟩
  simp only [Bool.not_eq_false] at h
  obtain ⟨g1, g2⟩ := pIn_nI (n := 7) (by decide) h
  obtain ⟨a1, a2, a3, a4⟩ := hC 7 (by decide) (by decide)
  obtain ⟨b1, b2, b3, b4⟩ := hC 8 (by decide) (by decide)
  refine ⟨a1, by show vp_in p (gL G _); rw [a3, g2]; exact vp_in_nI (by omega) (by decide), b1, by show vp_in p (gL G _); rw [b3, g2]; exact vp_in_nI (by omega) (by decide), ?_⟩
  rw [KC.rd hK hC 7 (by decide) (by decide), KC.rd hK hC 8 (by decide) (by decide)]
  show cI Γ l 3 mX2_in [.int q, .int (gI G (Γ.2.2.2 7) (ix p)), .int (gI G (Γ.2.2.2 8) (ix p))] _ _ _ _
  rw [a4 (ix p) (by omega), b4 (ix p) (by omega)]
  refine cI.det (t_in _ _ _) (by decide) ?_
  show (¬ bI (pIn q (leastR (ix p)) (mostR (ix p))) = 0 → _) ∧ (bI (pIn q (leastR (ix p)) (mostR (ix p))) = 0 → _)
  rw [bI_0]
  refine ⟨fun h2 => ⟨hK.c, cV.mk0 (t_change hK hT) (by decide) ?_⟩, fun h2 => ⟨_, rfl, by simp [xSetRule, h2], sc, ar, rfl, by simp [xSetRule, h2]; exact hT⟩⟩
  simp only [Bool.not_eq_false] at h2
  rintro G1 ⟨sc1, ar1, rfl, f1, m1⟩
  have e : 2 + p = nI (2 + ix p) := by
    conv => lhs; rw [g2]
    simp only [li_, nI_add, pk_mul, nI_1, Nat.add_assoc]
  have hs1 := m1.1
  rw [sChg_A] at hs1
  have X : xSetRule S p q = (aR (sA S) (ix p), sSet (sChg S) (aSetR (sA S) (ix p) q)) := by unfold xSetRule; rw [if_pos (by simp [h, h2])]
  rw [X]
  refine ⟨hK.c, ma 0, hK.r 0 (by decide), hK.t 0 0 (by decide) rfl, hK.inb 0 (by decide) _ e (by show _ < 298; omega), hK.w 0 (by decide), hK.inb 0 (by decide) _ e (by show _ < 298; omega), _, rfl, ?_, ?_⟩
  · rw [hK.rd 0 (by decide) _ e (by omega), hs1.ru (ix p) (by omega)]
  · rw [e, nI_clamp (by omega), hK.sa 0 (by decide)]
    exact ⟨_, _, rfl, m1.set (hs1.setR (ix p) (by omega) q)⟩
theorem t_setReserve (hK : MK G x ma) (hT : MT sc ar S) (p q w : Int32) : TrI Γ l mX2_setReserve 3 0 0 [.ref x, .int p, .int q, .int w] (mW G x ma sc ar) (fun v G' => v = (xSetReserve S p q w).1 ∧ ∃ sc' ar', G' = mW G x ma sc' ar' ∧ MT sc' ar' (xSetReserve S p q w).2) := by
  have hs := hT.1
  have h6 := hs.2.1
  refine Tr.intro (by decide +kernel) (Nat.le_of_ble_eq_true rfl) ?_
  refine rX2_setReserve_0 x _ _ _ ⟨hK.c, c_isCrew hK hs p (by decide) ?_⟩
  rw [bI_0]
  refine ⟨fun h => ⟨_, rfl, by simp [xSetReserve, h], sc, ar, rfl, by simp [xSetReserve, h]; exact hT⟩, fun h => cI.det (t_in _ _ _) (by decide) ?_⟩
  simp only [Bool.not_eq_false] at h
  obtain ⟨g1, g2⟩ := okC.ix hs h
  rw [bI_0]
  refine ⟨fun h2 => ⟨_, rfl, by simp [xSetReserve, h2], sc, ar, rfl, by simp [xSetReserve, h2]; exact hT⟩, fun h2 => cI.det (t_in _ _ _) (by decide) ?_⟩
  simp only [Bool.not_eq_false] at h2
  rw [bI_0]
  refine ⟨fun h3 => ⟨hK.c, cV.mk0 (t_change hK hT) (by decide) ?_⟩, fun h3 => ⟨_, rfl, by simp [xSetReserve, h3], sc, ar, rfl, by simp [xSetReserve, h3]; exact hT⟩⟩
  simp only [Bool.not_eq_false] at h3
  rintro G1 ⟨sc1, ar1, rfl, f1, m1⟩
  have hs1 := m1.1
  rw [sChg_A] at hs1
  have X : xSetReserve S p q w = (bI (pRes (cw (sA S) (ix p))), sSet (sChg S) (aSetC (sA S) (ix p) (cB (cw (sA S) (ix p)), q, w, cT (cw (sA S) (ix p))))) := by unfold xSetReserve; rw [if_pos (by simp [h, h2, h3])]
  rw [X]
  have T := t_isReserve (Γ := Γ) (l := l) (sc := sc1) hK hs1 (ix p) g1
  rw [← g2] at T
  refine ⟨hK.c, cI.det T (by decide) ?_⟩
  have fin : ∀ v, v = bI (pRes (cw (sA S) (ix p))) → GW Γ l mX2_setReserve 3 0 0 (fun v G' => ∃ q_1, v = some (.int q_1) ∧ q_1 = bI (pRes (cw (sA S) (ix p))) ∧ ∃ sc' ar', G' = mW G x ma sc' ar' ∧ MT sc' ar' (sSet (sChg S) (aSetC (sA S) (ix p) (cB (cw (sA S) (ix p)), q, w, cT (cw (sA S) (ix p)))))) 49 [(0, va_rf (some x)), (1, .int p), (2, .int q), (3, .int w)] [.int v] (mW G x ma sc1 ar1) 0 0 := by
    intro v hv
    have T1 := t_crewAt (Γ := Γ) (l := l) (G := mW G x ma sc1 ar1) (ix p) 1
    rw [← g2] at T1
    refine rX2_setReserve_49 x _ _ _ _ ⟨hK.c, cI.det T1 (by decide) ⟨ma 0, hK.r 0 (by decide), hK.t 0 0 (by decide) rfl, hK.w 0 (by decide), hK.inb 0 (by decide) _ rfl (by show _ < 298; omega), ?_⟩⟩
    rw [nI_clamp (by omega), hK.sa 0 (by decide)]
    have T2 := t_crewAt (Γ := Γ) (l := l) (G := mW G x ma sc1 (u1 ar1 0 (u1 (ar1 0) (130 + (28 * ix p + 1)) q))) (ix p) 2
    rw [← g2] at T2
    refine ⟨hK.c, cI.det T2 (by decide) ⟨ma 0, hK.r 0 (by decide), hK.t 0 0 (by decide) rfl, hK.w 0 (by decide), hK.inb 0 (by decide) _ rfl (by show _ < 298; omega), ?_⟩⟩
    rw [nI_clamp (by omega), hK.sa 0 (by decide)]
    exact ⟨_, rfl, hv, _, _, rfl, m1.set (hs1.setSE (ix p) g1 q w)⟩
  rw [bI_0]
  exact ⟨fun h4 => fin 0 (by rw [h4]; rfl), fun h4 => fin 1 (by simp only [Bool.not_eq_false] at h4; rw [h4]; rfl)⟩
theorem t_addCrew (hK : MK G x ma) (hT : MT sc ar S) (p : Int32) : TrI Γ l mX2_addCrew 3 0 0 [.ref x, .int p] (mW G x ma sc ar) (fun v G' => v = (xAddCrew S p).1 ∧ ∃ sc' ar', G' = mW G x ma sc' ar' ∧ MT sc' ar' (xAddCrew S p).2) := by
  have hs := hT.1
  have h6 := hs.2.1
  refine Tr.intro (by decide +kernel) (Nat.le_of_ble_eq_true rfl) ?_
  refine rX2_addCrew_0 x _ (cI.det (t_in _ _ _) (by decide) ?_)
  rw [bI_0]
  refine ⟨fun h => ⟨hK.c, ma 0, hK.r 0 (by decide), hK.t 0 0 (by decide) rfl, hK.inb 0 (by decide) 1 rfl (by decide), ?_⟩, fun h => ⟨_, rfl, by simp [xAddCrew, h], sc, ar, rfl, by simp [xAddCrew, h]; exact hT⟩⟩
  simp only [Bool.not_eq_false] at h
  rw [hK.rd (i := 1) 0 (by decide) 1 rfl (by decide), hs.nc, li_ 6, nI_eq (by omega) (by decide)]
  refine ⟨fun h2 => cV.mk0 (t_change hK hT) (by decide) ?_, fun h2 => ⟨_, rfl, by simp [xAddCrew, h, h2], sc, ar, rfl, by simp [xAddCrew, h, h2]; exact hT⟩⟩
  rintro G1 ⟨sc1, ar1, rfl, f1, m1⟩
  have hs1 := m1.1
  rw [sChg_A] at hs1
  have X : xAddCrew S p = (nI (aC (sA S)).length, sSet (sChg S) (aAddC (sA S) (p, 0, 0, []))) := by unfold xAddCrew; rw [if_pos h, if_neg h2]
  rw [X]
  refine ⟨hK.c, ma 0, hK.r 0 (by decide), hK.t 0 0 (by decide) rfl, hK.inb 0 (by decide) 1 rfl (by decide), ?_⟩
  rw [hK.rd (i := 1) 0 (by decide) 1 rfl (by decide), hs1.nc]
  have key : ∀ n k f, k + n = 28 → MR f (sA S) → (∀ j, j < k → f (130 + (28 * (aC (sA S)).length + j)) = 0) → GW Γ l mX2_addCrew 3 0 0 (fun v G' => ∃ q, v = some (.int q) ∧ q = nI (aC (sA S)).length ∧ ∃ sc' ar', G' = mW G x ma sc' ar' ∧ MT sc' ar' (sSet (sChg S) (aAddC (sA S) (p, 0, 0, [])))) 38 [(0, va_rf (some x)), (1, .int p), (2, .int (nI (aC (sA S)).length)), (3, .int (nI k))] [] (mW G x ma sc1 (u1 ar1 0 f)) 0 0 := by
    intro n
    induction n with
    | zero =>
      intro k f hk hf h0
      refine rX2_addCrew_38 x _ _ _ (br_t (nI_le (a := 28) (by omega) (by omega)) ⟨hK.c, cI.det (t_crewAt _ 0) (by decide) ⟨ma 0, hK.r 0 (by decide), hK.t 0 0 (by decide) rfl, hK.w 0 (by decide), hK.inb 0 (by decide) _ rfl (by show _ < 298; omega), ?_⟩⟩)
      rw [nI_clamp (by omega), hK.sa 0 (by decide)]
      refine ⟨hK.c, ma 0, hK.r 0 (by decide), hK.t 0 0 (by decide) rfl, hK.inb 0 (by decide) 1 rfl (by decide), hK.w 0 (by decide), hK.inb 0 (by decide) 1 rfl (by decide), ?_⟩
      have hf1 : MR (u1 f (130 + (28 * (aC (sA S)).length + 0)) p) (sA S) := hf.freeC _ (by omega) p
      have e : sI (mW G x ma sc1 (u1 (u1 ar1 0 f) 0 (u1 (u1 ar1 0 f 0) (130 + (28 * (aC (sA S)).length + 0)) p))) (ma 0) (1 : Int32).toNatClampNeg ((gI (mW G x ma sc1 (u1 (u1 ar1 0 f) 0 (u1 (u1 ar1 0 f 0) (130 + (28 * (aC (sA S)).length + 0)) p))) (ma 0) (1 : Int32).toNatClampNeg) + 1) = mW G x ma sc1 (u1 (u1 (u1 ar1 0 f) 0 (u1 f (130 + (28 * (aC (sA S)).length + 0)) p)) 0 (u1 (u1 f (130 + (28 * (aC (sA S)).length + 0)) p) 1 (nI ((aC (sA S)).length + 1)))) := by
        rw [hK.rd (i := 1) 0 (by decide) 1 rfl (by decide), hK.sa 0 (by decide)]
        have e1 : (u1 (u1 ar1 0 f) 0 (u1 (u1 ar1 0 f 0) (130 + (28 * (aC (sA S)).length + 0)) p)) 0 1 = nI (aC (sA S)).length := hf1.nc
        rw [e1, nI_1]
        rfl
      rw [e]
      have e2 : MT sc1 (u1 (u1 (u1 ar1 0 f) 0 (u1 f (130 + (28 * (aC (sA S)).length + 0)) p)) 0 (u1 (u1 f (130 + (28 * (aC (sA S)).length + 0)) p) 1 (nI ((aC (sA S)).length + 1)))) (sSet (sChg S) (aAddC (sA S) (p, 0, 0, []))) := by
        have A1 := hf1.addC (b := p) (s := 0) (e := 0) (by omega) (by unfold u1; rw [if_pos rfl]) (by unfold u1; rw [if_neg (by omega)]; exact h0 1 (by omega)) (by unfold u1; rw [if_neg (by omega)]; exact h0 2 (by omega)) (by unfold u1; rw [if_neg (by omega)]; exact h0 3 (by omega))
        exact ⟨A1, m1.2.1, m1.2.2.1, m1.2.2.2.1, m1.2.2.2.2.1, m1.2.2.2.2.2⟩
      exact ⟨_, rfl, rfl, _, _, rfl, e2⟩
    | succ n ih =>
      intro k f hk hf h0
      refine rX2_addCrew_38 x _ _ _ (br_f (nI_ge (b := 28) (by omega) (by decide)) ⟨hK.c, cI.det (t_crewAt _ k) (by decide) ⟨ma 0, hK.r 0 (by decide), hK.t 0 0 (by decide) rfl, hK.w 0 (by decide), hK.inb 0 (by decide) _ rfl (by show _ < 298; omega), ?_⟩⟩)
      rw [nI_clamp (by omega), hK.sa 0 (by decide), nI_1]
      have e3 : u1 (u1 ar1 0 f) 0 (u1 (u1 ar1 0 f 0) (130 + (28 * (aC (sA S)).length + k)) 0) = u1 ar1 0 (u1 f (130 + (28 * (aC (sA S)).length + k)) 0) := by
        funext j
        unfold u1
        split <;> rfl
      rw [e3]
      refine ih (k + 1) _ (by omega) (hf.freeC _ (by omega) 0) (fun j hj => ?_)
      unfold u1
      by_cases ej : j = k
      · rw [if_pos (by omega)]
      · rw [if_neg (by omega)]; exact h0 j (by omega)
  have e0 : u1 ar1 0 (ar1 0) = ar1 := by
    funext j
    unfold u1
    split
    · rename_i q; rw [q]
    · rfl
  have := key 28 0 (ar1 0) (by omega) hs1 (fun j hj => by omega)
  rw [e0] at this
  exact this
theorem t_isThere (hK : MK G x ma) (hs : MR (ar 0) A) (but a b d : Int32) : TrI Γ l mX2_isThere 2 0 0 [.ref x, .int but, .int a, .int b, .int d] (mW G x ma sc ar) (fun v G' => v = bI (pThere A but a b d) ∧ G' = (mW G x ma sc ar)) := by
  have h24 := hs.1
  refine Tr.intro (by decide +kernel) (Nat.le_of_ble_eq_true rfl) ?_
  refine rX2_isThere_0 x _ _ _ _ ?_
  have key : ∀ n k (q : Bool), k + n = aN A → (q || pThF A but a b d k n) = pThere A but a b d → GW Γ l mX2_isThere 2 0 0 (fun v G' => ∃ w, v = some (.int w) ∧ w = bI (pThere A but a b d) ∧ G' = (mW G x ma sc ar)) 6 [(0, va_rf (some x)), (1, .int but), (2, .int a), (3, .int b), (4, .int d), (5, .int (bI q)), (6, .int (nI k))] [] (mW G x ma sc ar) 0 0 := by
    intro n
    induction n with
    | zero =>
      intro k q hk hq
      refine rX2_isThere_6 x _ _ _ _ _ _ ⟨hK.c, ma 0, hK.r 0 (by decide), hK.t 0 0 (by decide) rfl, hK.inb 0 (by decide) 0 rfl (by decide), ?_⟩
      rw [hK.rd (i := 0) 0 (by decide) 0 rfl (by decide), hs.nl]
      refine br_t (nI_le (by omega) (by omega)) ⟨bI_n _, _, rfl, ?_, rfl⟩
      rw [← hq]
      show bI q = bI (q || false)
      rw [Bool.or_false]
    | succ n ih =>
      intro k q hk hq
      have hkl : k < aN A := by omega
      have hq : (q || ((!decide (nI k = but) && (decide (aL A k 0 = a) && (decide (aL A k 1 = b) && decide (aL A k 2 = d)))) || pThF A but a b d (k + 1) n)) = pThere A but a b d := hq
      refine rX2_isThere_6 x _ _ _ _ _ _ ⟨hK.c, ma 0, hK.r 0 (by decide), hK.t 0 0 (by decide) rfl, hK.inb 0 (by decide) 0 rfl (by decide), ?_⟩
      rw [hK.rd (i := 0) 0 (by decide) 0 rfl (by decide), hs.nl]
      have no : q = false → (!decide (nI k = but) && (decide (aL A k 0 = a) && (decide (aL A k 1 = b) && decide (aL A k 2 = d)))) = false → GW Γ l mX2_isThere 2 0 0 (fun v G' => ∃ w, v = some (.int w) ∧ w = bI (pThere A but a b d) ∧ G' = (mW G x ma sc ar)) 6 [(0, va_rf (some x)), (1, .int but), (2, .int a), (3, .int b), (4, .int d), (5, .int 0), (6, .int (nI k + 1))] [] (mW G x ma sc ar) 0 0 := by
        intro h1 h2
        rw [nI_1]
        exact ih (k + 1) false (by omega) (by rw [← hq, h1, h2]; simp)
      have yes : (q = true ∨ (!decide (nI k = but) && (decide (aL A k 0 = a) && (decide (aL A k 1 = b) && decide (aL A k 2 = d)))) = true) → GW Γ l mX2_isThere 2 0 0 (fun v G' => ∃ w, v = some (.int w) ∧ w = bI (pThere A but a b d) ∧ G' = (mW G x ma sc ar)) 6 [(0, va_rf (some x)), (1, .int but), (2, .int a), (3, .int b), (4, .int d), (5, .int 1), (6, .int (nI k + 1))] [] (mW G x ma sc ar) 0 0 := by
        intro h1
        rw [nI_1]
        refine ih (k + 1) true (by omega) ?_
        rw [← hq]
        rcases h1 with h1 | h1
        · rw [h1]; rfl
        · rw [h1]; simp
      refine br_f (nI_ge (by omega) (by omega)) ?_
      rw [bI_0]
      refine ⟨fun h => yes (Or.inl (by simpa using h)), fun h => ⟨fun h1 => no h (by simp [h1]), fun h1 => cI.det (t_of hK hs k 0 hkl (by decide)) (by decide) ⟨fun h2 => no h (by simp [h2]), fun h2 => ⟨hK.c, cI.det (t_of hK hs k 1 hkl (by decide)) (by decide) ⟨fun h3 => no h (by simp [h3]), fun h3 => ⟨hK.c, cI.det (t_of hK hs k 2 hkl (by decide)) (by decide) ⟨fun h4 => no h (by simp [h4]), fun h4 => yes (Or.inr (by simp [h1, h2, h3, h4]))⟩⟩⟩⟩⟩⟩⟩
  exact key (aN A) 0 false (by omega) rfl
end MC10
