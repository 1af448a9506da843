/-! M's contracts: writing the row, crews' rows -/
set_option maxRecDepth 100000
def wT (k : Cw) (r : List It) : Cw := (k.1, k.2.1, k.2.2.1, r)
def aSetC (A : AS) (c : Nat) (k : Cw) : AS := (aN A, aL A, aR A, (aC A).set c k)
theorem cw_set {A : AS} {c : Nat} {k : Cw} (hc : c < (aC A).length) (d : Nat) : cw (aSetC A c k) d = if d = c then k else cw A d := by
  show ((aC A).set c k).getD d _ = _
  rw [List.getD_eq_getElem?_getD, List.getElem?_set]
  by_cases h : d = c
  · subst h
    rw [if_pos rfl, if_pos rfl, if_pos hc]
    rfl
  · rw [if_neg (Ne.symm h), if_neg h]
    unfold cw
    rw [List.getD_eq_getElem?_getD]
theorem aC_set {A : AS} {c : Nat} {k : Cw} : (aC (aSetC A c k)).length = (aC A).length := List.length_set
section MC3
variable {Γ : GE} {l : Launch} {G : GH} {x : Nat} {ma : Nat → Nat} {sc : Nat → Int32} {ar : Nat → Nat → Int32} {A : AS} {b : Int32} {r : List It}
theorem t_legAt0 (hK : MK G x ma) (i : Nat) (hi : i < 48) : TrI Γ l mX2_legAt 1 0 0 [.ref x, .int (nI i)] (mW G x ma sc ar) (fun v G' => v = ar 7 i / 2 ∧ G' = (mW G x ma sc ar)) := by
  refine Tr.intro (by decide +kernel) (Nat.le_of_ble_eq_true rfl) ?_
  refine rX2_legAt_0 x _ ⟨hK.c, ma 7, hK.r 7 (by decide), hK.t 7 0 (by decide) rfl, hK.inb 7 (by decide) i rfl (by show _ < 48; omega), _, rfl, ?_, rfl⟩
  rw [hK.rd 7 (by decide) i rfl (by omega)]
/-- the row while a place is made at k -/
def PutI (f : Nat → Int32) (r : List It) (k : Nat) : Prop := (∀ i, i < k → f i = nI (2 * rl r i + bN (rf r i))) ∧ ∀ i, k < i → i ≤ r.length → f i = nI (2 * rl r (i - 1) + bN (rf r (i - 1)))
theorem PutI.row {f : Nat → Int32} {r : List It} {i : Nat} {fl : Bool} (h : PutI f r (pPos A r i)) : RowF (u1 f (pPos A r i) (nI (2 * i + bN fl))) (pPut A r i fl) := by
  intro j hj
  rw [pPut_len] at hj
  unfold u1
  rw [rl_put, rf_put]
  by_cases h1 : j = pPos A r i
  · rw [if_pos h1, if_neg (by omega), if_pos h1, if_neg (by omega), if_pos h1]
  · rw [if_neg h1]
    by_cases h2 : j < pPos A r i
    · rw [if_pos h2, if_pos h2]; exact h.1 j h2
    · rw [if_neg h2, if_neg h1, if_neg h2, if_neg h1]; exact h.2 j (by omega) (by omega)
theorem t_put (hK : MK G x ma) (hs : MR (ar 0) A) (hw : MW sc ar b r) (hv : RV A r) (h47 : r.length < 48) (i : Nat) (fl : Bool) (hi : i < aN A) : TrI Γ l mX2_put 2 0 0 [.ref x, .int (nI i), .int (bI fl)] (mW G x ma sc ar) (fun v G' => v = nI (pPos A r i) ∧ ∃ sc' ar', G' = mW G x ma sc' ar' ∧ Fr [8] [7] sc ar sc' ar' ∧ MW sc' ar' b (pPut A r i fl)) := by
  have h24 := hs.1
  have hle := pPos_le A r i
  refine Tr.intro (by decide +kernel) (Nat.le_of_ble_eq_true rfl) ?_
  refine rX2_put_0 x _ _ ⟨hK.c, ?_⟩
  rw [mW_x hK, hw.1]
  have fin : ∀ f, PutI f r (pPos A r i) → GW Γ l mX2_put 2 0 0 (fun v G' => ∃ q, v = some (.int q) ∧ q = nI (pPos A r i) ∧ ∃ sc' ar', G' = mW G x ma sc' ar' ∧ Fr [8] [7] sc ar sc' ar' ∧ MW sc' ar' b (pPut A r i fl)) 82 [(0, va_rf (some x)), (1, .int (nI i)), (2, .int (bI fl)), (3, .int (nI (pPos A r i)))] [] (mW G x ma sc (u1 ar 7 f)) 0 0 := by
    intro f hf
    refine rX2_put_82 x _ _ _ ⟨hK.c, ?_⟩
    have e : ∀ v, v = nI (2 * i + bN fl) → sI (sI (mW G x ma sc (u1 ar 7 f)) (ma 7) (nI (pPos A r i)).toNatClampNeg v) x 8 ((gI (sI (mW G x ma sc (u1 ar 7 f)) (ma 7) (nI (pPos A r i)).toNatClampNeg v) x 8) + 1) = mW G x ma (u1 sc 8 (nI (r.length + 1))) (u1 (u1 ar 7 f) 7 (u1 f (pPos A r i) (nI (2 * i + bN fl)))) := by
      intro v hv
      rw [nI_clamp (by omega), hK.sa 7 (by decide), mW_x hK, hK.sx, hw.1, nI_1, hv]
      rfl
    have post : ∃ sc' ar', mW G x ma (u1 sc 8 (nI (r.length + 1))) (u1 (u1 ar 7 f) 7 (u1 f (pPos A r i) (nI (2 * i + bN fl)))) = mW G x ma sc' ar' ∧ Fr [8] [7] sc ar sc' ar' ∧ MW sc' ar' b (pPut A r i fl) :=
      ⟨_, _, rfl, ((Fr.rf.us 8 _ (by decide)).ua 7 _ (by decide)).ua 7 _ (by decide), by rw [pPut_len]; rfl, hw.2.1, by rw [pPut_len]; omega, hf.row⟩
    have hm : ∀ v, gM (sI (mW G x ma sc (u1 ar 7 f)) (ma 7) (nI (pPos A r i)).toNatClampNeg v) x = true := fun v => hK.2.1
    refine ⟨fun h => ⟨ma 7, hK.r 7 (by decide), hK.t 7 0 (by decide) rfl, hK.w 7 (by decide), hK.inb 7 (by decide) _ rfl (by show _ < 48; omega), hm _, _, rfl, rfl, ?_⟩, fun h => ⟨ma 7, hK.r 7 (by decide), hK.t 7 0 (by decide) rfl, hK.w 7 (by decide), hK.inb 7 (by decide) _ rfl (by show _ < 48; omega), hm _, _, rfl, rfl, ?_⟩⟩
    · rw [e _ (by rw [bI_0.mp h]; show (2 * nI i) + 0 = nI (2 * i + 0); simp only [li_, nI_add, pk_mul, nI_1, Nat.add_assoc])]
      exact post
    · rw [e _ (by rw [bI_1.mp h]; show (2 * nI i) + 1 = nI (2 * i + 1); simp only [li_, nI_add, pk_mul, nI_1, Nat.add_assoc])]
      exact post
  have key : ∀ n f, n ≤ r.length → PutI f r n → pPosF A r i n = pPos A r i → GW Γ l mX2_put 2 0 0 (fun v G' => ∃ q, v = some (.int q) ∧ q = nI (pPos A r i) ∧ ∃ sc' ar', G' = mW G x ma sc' ar' ∧ Fr [8] [7] sc ar sc' ar' ∧ MW sc' ar' b (pPut A r i fl)) 5 [(0, va_rf (some x)), (1, .int (nI i)), (2, .int (bI fl)), (3, .int (nI n))] [] (mW G x ma sc (u1 ar 7 f)) 0 0 := by
    intro n
    induction n with
    | zero =>
      intro f _ hf hp
      refine rX2_put_5 x _ _ _ (br_t (by decide) ?_)
      rw [show (nI 0) = nI (pPos A r i) by rw [← hp]; rfl]
      exact fin f (by rw [← hp]; exact hf)
    | succ n ih =>
      intro f hn hf hp
      have e1 : nI (n + 1) - 1 = nI n := nI_pred n
      have hs' : MR (u1 ar 7 f 0) A := hs
      have hvn := hv n (by omega)
      have hleg : ∀ {h : Nat} {K : Int32 → GH → Nat → Nat → Prop}, 1 < h → K (nI (rl r n)) (mW G x ma sc (u1 ar 7 f)) 0 0 → cI Γ l h mX2_legAt [.ref x, .int (nI (n + 1) - 1)] (mW G x ma sc (u1 ar 7 f)) 0 0 K := by
        intro h K hh k
        rw [e1]
        refine cI.det (t_legAt0 hK n (by omega)) hh ?_
        show K (f n / 2) _ _ _
        rw [hf.1 n (by omega), code_div (RV.lt hs hv n (by omega))]
        exact k
      have stop : pPosF A r i (n + 1) = n + 1 → GW Γ l mX2_put 2 0 0 (fun v G' => ∃ q, v = some (.int q) ∧ q = nI (pPos A r i) ∧ ∃ sc' ar', G' = mW G x ma sc' ar' ∧ Fr [8] [7] sc ar sc' ar' ∧ MW sc' ar' b (pPut A r i fl)) 82 [(0, va_rf (some x)), (1, .int (nI i)), (2, .int (bI fl)), (3, .int (nI (n + 1)))] [] (mW G x ma sc (u1 ar 7 f)) 0 0 := by
        intro he
        rw [show n + 1 = pPos A r i by rw [← hp, he]] at hf ⊢
        exact fin f hf
      have go : pPosF A r i (n + 1) = pPosF A r i n → ∃ a11, (gR (mW G x ma sc (u1 ar 7 f)) x 7) = some a11 ∧ gC (mW G x ma sc (u1 ar 7 f)) a11 = kA 0 ∧ vp_in (nI (n + 1) - 1) (gL (mW G x ma sc (u1 ar 7 f)) a11) ∧ gM (mW G x ma sc (u1 ar 7 f)) a11 = true ∧ vp_in (nI (n + 1)) (gL (mW G x ma sc (u1 ar 7 f)) a11) ∧ GW Γ l mX2_put 2 0 0 (fun v G' => ∃ q, v = some (.int q) ∧ q = nI (pPos A r i) ∧ ∃ sc' ar', G' = mW G x ma sc' ar' ∧ Fr [8] [7] sc ar sc' ar' ∧ MW sc' ar' b (pPut A r i fl)) 5 [(0, va_rf (some x)), (1, .int (nI i)), (2, .int (bI fl)), (3, .int (nI (n + 1) + (-1)))] [] (sI (mW G x ma sc (u1 ar 7 f)) a11 (nI (n + 1)).toNatClampNeg (gI (mW G x ma sc (u1 ar 7 f)) a11 (nI (n + 1) - 1).toNatClampNeg)) 0 0 := by
        intro he
        refine ⟨ma 7, hK.r 7 (by decide), hK.t 7 0 (by decide) rfl, hK.inb 7 (by decide) n e1 (by show _ < 48; omega), hK.w 7 (by decide), hK.inb 7 (by decide) (n + 1) rfl (by show _ < 48; omega), ?_⟩
        rw [pk_m1, hK.rd 7 (by decide) n e1 (by omega), nI_clamp (by omega), hK.sa 7 (by decide)]
        have hf2 : PutI (u1 f (n + 1) (f n)) r n := by
          refine ⟨fun j hj => ?_, fun j h1 h2 => ?_⟩
          · unfold u1
            rw [if_neg (by omega)]
            exact hf.1 j (by omega)
          · unfold u1
            by_cases hj : j = n + 1
            · rw [if_pos hj, hj]
              exact hf.1 n (by omega)
            · rw [if_neg hj]
              exact hf.2 j (by omega) h2
        have := ih (u1 f (n + 1) (f n)) (by omega) hf2 (by rw [← hp, he])
        have e3 : u1 (u1 ar 7 f) 7 (u1 f (n + 1) (f n)) = u1 ar 7 (u1 f (n + 1) (f n)) := by
          funext k
          unfold u1
          split <;> rfl
        rw [← e3] at this
        exact this
      refine rX2_put_5 x _ _ _ (br_f (nI_nle (by omega) (by omega)) ⟨hK.c, hleg (by decide) ⟨hK.c, cI.det (t_of hK hs' _ 2 hvn (by decide)) (by decide) ⟨hK.c, cI.det (t_of hK hs' _ 2 hi (by decide)) (by decide) ⟨fun h => ⟨hK.c, ?_⟩, fun h => ⟨hK.c, hleg (by decide) ⟨hK.c, cI.det (t_of hK hs' _ 2 hvn (by decide)) (by decide) ⟨hK.c, cI.det (t_of hK hs' _ 2 hi (by decide)) (by decide) ⟨fun h2 => ?_, fun h2 => ⟨hK.c, hleg (by decide) ?_⟩⟩⟩⟩⟩⟩⟩⟩⟩)
      · exact go (by conv => lhs; unfold pPosF
                     rw [if_pos (by simp [pBef, h])])
      · exact stop (by unfold pPosF; rw [if_neg (by simp [pBef, h]; intro z; exact absurd z.symm h2)])
      · rw [nI_leI (by omega) (by omega)]
        refine ⟨fun h3 => ?_, fun h3 => ⟨hK.c, ?_⟩⟩
        · exact stop (by unfold pPosF; rw [if_neg (by simp [pBef, h]; intro _; omega)])
        · exact go (by conv => lhs; unfold pPosF
                       rw [if_pos (by simp [pBef, h2]; omega)])
  have e0 : u1 ar 7 (ar 7) = ar := by
    funext k
    unfold u1
    split
    · rename_i h; rw [h]
    · rfl
  have := key r.length (ar 7) (Nat.le_refl _) ⟨hw.2.2.2, fun j h1 h2 => by omega⟩ rfl
  rw [e0] at this
  exact this
theorem t_takeOut (hK : MK G x ma) (hw : MW sc ar b r) (k : Nat) (hk : k < r.length) : TrV Γ l mX2_takeOut 1 0 0 [.ref x, .int (nI k)] (mW G x ma sc ar) (fun G' => ∃ sc' ar', G' = mW G x ma sc' ar' ∧ Fr [8] [7] sc ar sc' ar' ∧ MW sc' ar' b (r.eraseIdx k)) := by
  have h48 := hw.2.2.1
  have hlen : (r.eraseIdx k).length = r.length - 1 := by rw [List.length_eraseIdx, if_pos hk]
  refine Tr.intro (by decide +kernel) (Nat.le_of_ble_eq_true rfl) ?_
  refine rX2_takeOut_0 x _ ⟨hK.c, hK.m, ?_⟩
  rw [mW_x hK, hw.1, li_ 1, pk_sub (by omega), hK.sx]
  have key : ∀ n i f, i + n = r.length - 1 → k ≤ i → (∀ j, j < i → f j = nI (2 * rl (r.eraseIdx k) j + bN (rf (r.eraseIdx k) j))) → (∀ j, i < j → j < r.length → f j = nI (2 * rl r j + bN (rf r j))) → GW Γ l mX2_takeOut 1 0 0 (fun v G' => v = none ∧ ∃ sc' ar', G' = mW G x ma sc' ar' ∧ Fr [8] [7] sc ar sc' ar' ∧ MW sc' ar' b (r.eraseIdx k)) 12 [(0, va_rf (some x)), (1, .int (nI k)), (2, .int (nI i))] [] (mW G x ma (u1 sc 8 (nI (r.length - 1))) (u1 ar 7 f)) 0 0 := by
    intro n
    induction n with
    | zero =>
      intro i f hi hki h1 h2
      refine rX2_takeOut_12 x _ _ ⟨hK.c, ?_⟩
      rw [mW_x hK]
      refine br_t (nI_le (a := r.length - 1) (by omega) (by omega)) ⟨rfl, _, _, rfl, (Fr.rf.us 8 _ (by decide)).ua 7 _ (by decide), by rw [hlen]; rfl, hw.2.1, by omega, fun j hj => h1 j (by omega)⟩
    | succ n ih =>
      intro i f hi hki h1 h2
      refine rX2_takeOut_12 x _ _ ⟨hK.c, ?_⟩
      rw [mW_x hK]
      refine br_f (nI_ge (b := r.length - 1) (by omega) (by omega)) ⟨ma 7, hK.r 7 (by decide), hK.t 7 0 (by decide) rfl, hK.inb 7 (by decide) (i + 1) (nI_1 i) (by show _ < 48; omega), hK.w 7 (by decide), hK.inb 7 (by decide) i rfl (by show _ < 48; omega), ?_⟩
      rw [hK.rd 7 (by decide) (i + 1) (nI_1 i) (by omega), nI_clamp (by omega), hK.sa 7 (by decide), nI_1]
      have := ih (i + 1) (u1 f i (f (i + 1))) (by omega) (by omega) (fun j hj => ?_) (fun j h3 h4 => ?_)
      · have e3 : u1 (u1 ar 7 f) 7 (u1 f i (f (i + 1))) = u1 ar 7 (u1 f i (f (i + 1))) := by
          funext k
          unfold u1
          split <;> rfl
        rw [← e3] at this
        exact this
      · unfold u1
        by_cases hj2 : j = i
        · rw [if_pos hj2, hj2, rl_ers, rf_ers, if_neg (by omega), if_neg (by omega)]
          exact h2 (i + 1) (by omega) (by omega)
        · rw [if_neg hj2]
          exact h1 j (by omega)
      · unfold u1
        rw [if_neg (by omega)]
        exact h2 j (by omega) h4
  have e0 : u1 ar 7 (ar 7) = ar := by
    funext k
    unfold u1
    split
    · rename_i h; rw [h]
    · rfl
  have := key (r.length - 1 - k) k (ar 7) (by omega) (Nat.le_refl _) (fun j hj => by rw [rl_ers, rf_ers, if_pos hj, if_pos hj]; exact hw.2.2.2 j (by omega)) (fun j h1 h2 => hw.2.2.2 j h2)
  rw [e0] at this
  exact this
theorem t_take (hK : MK G x ma) (hs : MR (ar 0) A) (c : Nat) (hc : c < (aC A).length) : TrV Γ l mX2_take 2 0 0 [.ref x, .int (nI c)] (mW G x ma sc ar) (fun G' => ∃ sc' ar', G' = mW G x ma sc' ar' ∧ Fr [8, 9] [7] sc ar sc' ar' ∧ MW sc' ar' (cB (cw A c)) (cT (cw A c))) := by
  have h6 := hs.2.1
  have h24 := hs.l24 c hc
  refine Tr.intro (by decide +kernel) (Nat.le_of_ble_eq_true rfl) ?_
  refine rX2_take_0 x _ ⟨hK.c, cI.det (t_ofCrew hK c 3 (by omega) (by decide)) (by decide) ⟨hK.c, hK.m, ?_⟩⟩
  rw [hK.sx, hs.n c hc]
  refine cI.det (t_ofCrew hK c 0 (by omega) (by decide)) (by decide) ⟨hK.c, hK.m, ?_⟩
  rw [hK.sx, hs.b c hc]
  refine cI.det (t_crewAt c 4) (by decide) ⟨hK.c, ma 0, hK.r 0 (by decide), hK.t 0 0 (by decide) rfl, hK.w 0 (by decide), ma 7, hK.r 7 (by decide), hK.t 7 0 (by decide) rfl, hK.w 7 (by decide), ?_⟩
  rw [mW_x hK]
  show ¬ _ < 0 ∧ ¬ (nI (cT (cw A c)).length) < 0 ∧ _ + (nI (cT (cw A c)).length).toNatClampNeg ≤ _ ∧ _ + (nI (cT (cw A c)).length).toNatClampNeg ≤ _ ∧ _ ∧ ∀ H, H = wI _ _ (va_cpy _ _ _ _ (nI (cT (cw A c)).length).toNatClampNeg) → _
  rw [nI_clamp (by omega), nI_clamp (by omega), hK.n 0 (by decide), hK.n 7 (by decide)]
  refine ⟨nI_pos (by omega), nI_pos (by omega), by show _ ≤ 298; omega, by show (0 : Nat) + _ ≤ 48; omega, by decide, fun H e => ?_⟩
  subst e
  rw [hK.wa 7 (by decide)]
  refine ⟨rfl, _, _, rfl, ((Fr.rf.us 8 _ (by decide)).us 9 _ (by decide)).ua 7 _ (by decide), rfl, rfl, by omega, fun i hi => ?_⟩
  show va_cpy (gI (mW G x ma _ ar) (ma 0)) (gI (mW G x ma _ ar) (ma 7)) _ 0 _ i = _
  rw [pk_cpy_in (Nat.zero_le _) (by omega), mW_a hK 0 (by decide), ← hs.i c hc i hi]
  congr 1
  omega
end MC3
