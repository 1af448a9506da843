/-! M's contracts: violations, the row -/
set_option maxRecDepth 100000
/-- what may change: the numbers S, the rows T -/
def Fr (S T : List Nat) (sc : Nat → Int32) (ar : Nat → Nat → Int32) (sc' : Nat → Int32) (ar' : Nat → Nat → Int32) : Prop := (∀ k, k ∉ S → sc' k = sc k) ∧ ∀ k, k ∉ T → ar' k = ar k
section FRL
variable {S T S' T' : List Nat} {sc sc' sc2 : Nat → Int32} {ar ar' ar2 : Nat → Nat → Int32}
theorem Fr.rf : Fr S T sc ar sc ar := ⟨fun _ _ => rfl, fun _ _ => rfl⟩
theorem Fr.wide (h : Fr S T sc ar sc' ar') (h1 : ∀ k ∈ S, k ∈ S') (h2 : ∀ k ∈ T, k ∈ T') : Fr S' T' sc ar sc' ar' := ⟨fun k hk => h.1 k (fun z => hk (h1 k z)), fun k hk => h.2 k (fun z => hk (h2 k z))⟩
theorem Fr.tr (h : Fr S T sc ar sc' ar') (h2 : Fr S T sc' ar' sc2 ar2) : Fr S T sc ar sc2 ar2 := ⟨fun k hk => (h2.1 k hk).trans (h.1 k hk), fun k hk => (h2.2 k hk).trans (h.2 k hk)⟩
theorem Fr.us (h : Fr S T sc ar sc' ar') (k : Nat) (v : Int32) (hk : k ∈ S) : Fr S T sc ar (u1 sc' k v) ar' := ⟨fun j hj => by unfold u1; rw [if_neg (fun z => hj (by rw [z]; exact hk))]; exact h.1 j hj, h.2⟩
theorem Fr.ua (h : Fr S T sc ar sc' ar') (k : Nat) (f : Nat → Int32) (hk : k ∈ T) : Fr S T sc ar sc' (u1 ar' k f) := ⟨h.1, fun j hj => by unfold u1; rw [if_neg (fun z => hj (by rw [z]; exact hk))]; exact h.2 j hj⟩
end FRL
def RowF (f : Nat → Int32) (r : List It) : Prop := ∀ i, i < r.length → f i = nI (2 * rl r i + bN (rf r i))
theorem ins_at {α : Type} {r : List α} {k : Nat} {p d : α} (hk : k ≤ r.length) (i : Nat) : (r.take k ++ p :: r.drop k).getD i d = if i < k then r.getD i d else if i = k then p else r.getD (i - 1) d := by
  rw [List.getD_eq_getElem?_getD, List.getElem?_append]
  rw [List.length_take, Nat.min_eq_left hk]
  by_cases h : i < k
  · rw [if_pos h, if_pos h, List.getElem?_take_of_lt h, List.getD_eq_getElem?_getD]
  · rw [if_neg h, if_neg h]
    by_cases h2 : i = k
    · rw [if_pos h2, h2, Nat.sub_self]; rfl
    · rw [if_neg h2]
      obtain ⟨m, rfl⟩ : ∃ m, i = k + (m + 1) := ⟨i - k - 1, by omega⟩
      rw [show k + (m + 1) - k = m + 1 by omega, List.getElem?_cons_succ, List.getElem?_drop, List.getD_eq_getElem?_getD]
      rfl
theorem ers_at {α : Type} {r : List α} {k : Nat} {d : α} (i : Nat) : (r.eraseIdx k).getD i d = if i < k then r.getD i d else r.getD (i + 1) d := by
  rw [List.getD_eq_getElem?_getD, List.getElem?_eraseIdx]
  split <;> rw [List.getD_eq_getElem?_getD]
theorem rl_put {A : AS} {r : List It} {i : Nat} {f : Bool} (j : Nat) : rl (pPut A r i f) j = if j < pPos A r i then rl r j else if j = pPos A r i then i else rl r (j - 1) := by
  unfold rl pPut
  rw [ins_at (pPos_le A r i)]
  split
  · rfl
  · split <;> rfl
theorem rf_put {A : AS} {r : List It} {i : Nat} {f : Bool} (j : Nat) : rf (pPut A r i f) j = if j < pPos A r i then rf r j else if j = pPos A r i then f else rf r (j - 1) := by
  unfold rf pPut
  rw [ins_at (pPos_le A r i)]
  split
  · rfl
  · split <;> rfl
theorem rl_ers {r : List It} {k : Nat} (j : Nat) : rl (r.eraseIdx k) j = if j < k then rl r j else rl r (j + 1) := by
  unfold rl
  rw [ers_at]
  split <;> rfl
theorem rf_ers {r : List It} {k : Nat} (j : Nat) : rf (r.eraseIdx k) j = if j < k then rf r j else rf r (j + 1) := by
  unfold rf
  rw [ers_at]
  split <;> rfl
theorem RV.put {A : AS} {r : List It} {i : Nat} {f : Bool} (hv : RV A r) (hi : i < aN A) : RV A (pPut A r i f) := by
  have := pPos_le A r i
  intro j hj
  rw [pPut_len] at hj
  rw [rl_put]
  split
  · exact hv j (by omega)
  · split
    · exact hi
    · exact hv _ (by omega)
theorem RV.ers {A : AS} {r : List It} {k : Nat} (hv : RV A r) (hk : k < r.length) : RV A (r.eraseIdx k) := by
  intro j hj
  rw [List.length_eraseIdx, if_pos hk] at hj
  rw [rl_ers]
  split <;> exact hv _ (by omega)
theorem put_ers {A : AS} {r : List It} {i : Nat} {f : Bool} : (pPut A r i f).eraseIdx (pPos A r i) = r := by
  have hp := pPos_le A r i
  unfold pPut
  rw [List.eraseIdx_append_of_length_le (by rw [List.length_take]; omega), List.length_take, Nat.min_eq_left hp, Nat.sub_self]
  show r.take (pPos A r i) ++ r.drop (pPos A r i) = r
  exact List.take_append_drop _ _
section MC2
variable {Γ : GE} {l : Launch} {G : GH} {x : Nat} {ma : Nat → Nat} {sc : Nat → Int32} {ar : Nat → Nat → Int32} {A : AS} {b : Int32} {r : List It}
theorem t_violates (hK : MK G x ma) (hs : MR (ar 0) A) (hw : MW sc ar b r) (hv : RV A r) (k i : Nat) (h1 : 1 ≤ k) (h7 : k ≤ 7) (hi : i < r.length) : TrI Γ l mX2_violates 6 0 0 [.ref x, .int (nI k), .int (nI i)] (mW G x ma sc ar) (fun v G' => v = bI (pVio A b r k i) ∧ G' = (mW G x ma sc ar)) := by
  have h48 := hw.2.2.1
  obtain ⟨g1, g2⟩ := pEnd_le A r i hi
  refine Tr.intro (by decide +kernel) (Nat.le_of_ble_eq_true rfl) ?_
  have z0 : nI i ≤ 0 ↔ i = 0 := by
    rw [li_ 0, nI_leI (by omega) (by decide)]
    omega
  have z1 : nI i = 0 ↔ i = 0 := by rw [li_ 0, nI_eq (by omega) (by decide)]
  refine rX2_violates_0 x _ _ ⟨fun h => ?_, fun h => ?_, fun h => ?_, fun h => ?_, fun h => ?_, fun h => ?_, fun h => ?_⟩
  · have hk : k = 1 := nI_e (by omega) (by decide) h
    subst hk
    rw [z0]
    refine ⟨fun h2 => ⟨_, rfl, by simp [pVio, bI, h2], rfl⟩, fun h2 => ⟨hK.c, cI.det (t_gapBefore hK hs hw hv i hi (by omega)) (by decide) ⟨fun h3 => ⟨_, rfl, by simp [pVio, bI, h3], rfl⟩, fun h3 => ⟨_, rfl, ?_, rfl⟩⟩⟩⟩
    simp [pVio, bI, Nat.pos_of_ne_zero h2, h3]
  · have hk : k = 2 := nI_e (by omega) (by decide) h
    subst hk
    rw [z1]
    refine ⟨hK.c, cI.det (t_legAt hK hs hw hv i hi) (by decide) ⟨hK.c, cI.det (t_of hK hs _ 0 (hv i hi) (by decide)) (by decide) ⟨fun h2 => ⟨hK.c, ?_⟩, fun h2 => ⟨hK.c, ?_⟩⟩⟩⟩
    · have e : nI i - 1 = nI (i - 1) := by rw [li_ 1, pk_sub (by omega)]
      rw [e]
      refine cI.det (t_legAt hK hs hw hv (i - 1) (by omega)) (by decide) ⟨hK.c, cI.det (t_of hK hs _ 1 (hv _ (by omega)) (by decide)) (by decide) ⟨fun h3 => ⟨_, rfl, by simp [pVio, bI, h2, h3], rfl⟩, fun h3 => ⟨_, rfl, by simp [pVio, bI, h2, h3], rfl⟩⟩⟩
    · rw [mW_x hK, hw.2.1]
      refine ⟨fun h3 => ⟨_, rfl, ?_, rfl⟩, fun h3 => ⟨_, rfl, ?_, rfl⟩⟩
      · subst h2
        simp [pVio, bI, h3]
      · subst h2
        simp [pVio, bI, h3]
  · have hk : k = 3 := nI_e (by omega) (by decide) h
    subst hk
    rw [z0]
    refine ⟨fun h2 => ⟨_, rfl, by simp [pVio, bI, h2], rfl⟩, fun h2 => ⟨hK.c, cI.det (t_gapBefore hK hs hw hv i hi (by omega)) (by decide) ⟨hK.c, ma 0, hK.r 0 (by decide), hK.t 0 0 (by decide) rfl, hK.inb 0 (by decide) 2 rfl (by decide), ?_⟩⟩⟩
    rw [hK.rd (i := 2) 0 (by decide) 2 rfl (by decide), hs.ru 0 (by decide)]
    refine cI.det (t_in _ _ _) (by decide) ?_
    rw [bI_0]
    refine ⟨fun h3 => ⟨_, rfl, by simp [pVio, bI, h3], rfl⟩, fun h3 => ⟨_, rfl, ?_, rfl⟩⟩
    simp [pVio, bI, Nat.pos_of_ne_zero h2, h3]
  · have hk : k = 4 := nI_e (by omega) (by decide) h
    subst hk
    refine ⟨hK.c, cI.det (t_beginsDuty hK hs hw hv i hi) (by decide) ?_⟩
    rw [bI_0]
    refine ⟨fun h2 => ⟨_, rfl, by simp [pVio, bI, h2], rfl⟩, fun h2 => ⟨hK.c, cI.det (t_dutyMinutes hK hs hw hv i hi) (by decide) ⟨hK.c, ma 0, hK.r 0 (by decide), hK.t 0 0 (by decide) rfl, hK.inb 0 (by decide) 4 rfl (by decide), ?_⟩⟩⟩
    rw [hK.rd (i := 4) 0 (by decide) 4 rfl (by decide), hs.ru 2 (by decide)]
    simp at h2
    refine ⟨fun h3 => ⟨_, rfl, by simp [pVio, bI, h3], rfl⟩, fun h3 => ⟨_, rfl, by simp [pVio, bI, h2, h3], rfl⟩⟩
  · have hk : k = 5 := nI_e (by omega) (by decide) h
    subst hk
    refine ⟨hK.c, cI.det (t_beginsDuty hK hs hw hv i hi) (by decide) ?_⟩
    rw [bI_0]
    refine ⟨fun h2 => ⟨_, rfl, by simp [pVio, bI, h2], rfl⟩, fun h2 => ⟨hK.c, cI.det (t_dutyEnd hK hs hw hv i hi) (by decide) ⟨hK.c, cI.det (t_flownFrom hK hs hw hv i _ (by omega) g1) (by decide) ⟨hK.c, ma 0, hK.r 0 (by decide), hK.t 0 0 (by decide) rfl, hK.inb 0 (by decide) 5 rfl (by decide), ?_⟩⟩⟩⟩
    rw [hK.rd (i := 5) 0 (by decide) 5 rfl (by decide), hs.ru 3 (by decide)]
    simp at h2
    refine ⟨fun h3 => ⟨_, rfl, by simp [pVio, bI, h3], rfl⟩, fun h3 => ⟨_, rfl, by simp [pVio, bI, h2, h3], rfl⟩⟩
  · have hk : k = 6 := nI_e (by omega) (by decide) h
    subst hk
    refine ⟨hK.c, cI.det (t_beginsDuty hK hs hw hv i hi) (by decide) ?_⟩
    rw [bI_0]
    refine ⟨fun h2 => ⟨_, rfl, by simp [pVio, bI, h2], rfl⟩, fun h2 => ⟨hK.c, cI.det (t_dutyEnd hK hs hw hv i hi) (by decide) ⟨hK.c, ma 0, hK.r 0 (by decide), hK.t 0 0 (by decide) rfl, hK.inb 0 (by decide) 6 rfl (by decide), ?_⟩⟩⟩
    rw [hK.rd (i := 6) 0 (by decide) 6 rfl (by decide), hs.ru 4 (by decide), pk_sub (by omega)]
    simp at h2
    refine ⟨fun h3 => ⟨_, rfl, by simp [pVio, bI, h3], rfl⟩, fun h3 => ⟨_, rfl, by simp [pVio, bI, h2, h3], rfl⟩⟩
  · have hk : k = 7 := by
      rw [nI_toInt (by omega)] at h
      omega
    subst hk
    refine ⟨hK.c, cI.det (t_isFlown hK hs hw hv i hi) (by decide) ?_⟩
    rw [bI_0]
    refine ⟨fun h2 => ⟨_, rfl, by simp [pVio, bI, h2], rfl⟩, fun h2 => ⟨hK.c, cI.det (t_legAt hK hs hw hv i hi) (by decide) ⟨hK.c, cI.det (t_of hK hs _ 2 (hv i hi) (by decide)) (by decide) ⟨hK.c, cI.det (t_flownWithin hK hs hw hv _ _) (by decide) ⟨hK.c, ma 0, hK.r 0 (by decide), hK.t 0 0 (by decide) rfl, hK.inb 0 (by decide) 7 rfl (by decide), ?_⟩⟩⟩⟩⟩
    rw [hK.rd (i := 7) 0 (by decide) 7 rfl (by decide), hs.ru 5 (by decide)]
    simp at h2
    refine ⟨fun h3 => ⟨_, rfl, by simp [pVio, bI, h3], rfl⟩, fun h3 => ⟨_, rfl, by simp [pVio, bI, h2, h3], rfl⟩⟩
/-- a violation by its number, as M says it -/
def vcode (o : Option (Nat × Nat)) : Nat := match o with
  | none => 0
  | some p => 100 * p.1 + p.2
theorem pVk_at {A : AS} {b : Int32} {r : List It} {k i n : Nat} : pVk A b r k i (n + 1) = if pVio A b r k i then (k, i) :: pVk A b r k (i + 1) n else pVk A b r k (i + 1) n := rfl
theorem pVf_at {A : AS} {b : Int32} {r : List It} {k n : Nat} : pVf A b r k (n + 1) = pVk A b r k 0 r.length ++ pVf A b r (k + 1) n := rfl
theorem t_violationAt (hK : MK G x ma) (hs : MR (ar 0) A) (hw : MW sc ar b r) (hv : RV A r) (q : Nat) (hq : q < 2 ^ 31) : TrI Γ l mX2_violationAt 7 0 0 [.ref x, .int (nI q)] (mW G x ma sc ar) (fun v G' => v = nI (vcode ((pVs A b r)[q]?)) ∧ G' = (mW G x ma sc ar)) := by
  have h48 := hw.2.2.1
  refine Tr.intro (by decide +kernel) (Nat.le_of_ble_eq_true rfl) ?_
  refine rX2_violationAt_0 x _ ?_
  have key : ∀ n k t, k + n = 8 → t < 2 ^ 31 → 1 ≤ k → GW Γ l mX2_violationAt 7 0 0 (fun v G' => ∃ w, v = some (.int w) ∧ w = nI (vcode ((pVf A b r k n)[t]?)) ∧ G' = (mW G x ma sc ar)) 4 [(0, va_rf (some x)), (1, .int (nI q)), (2, .int (nI t)), (3, .int (nI k))] [] (mW G x ma sc ar) 0 0 := by
    intro n
    induction n with
    | zero =>
      intro k t hk ht h1
      refine rX2_violationAt_4 x _ _ _ (br_t ?_ ⟨_, rfl, rfl, rfl⟩)
      exact nI_lt (a := 7) (by omega) (by omega)
    | succ n ih =>
      intro k t hk ht h1
      refine rX2_violationAt_4 x _ _ _ (br_f ?_ ?_)
      · exact nI_nlt (b := k) (a := 7) (by omega) (by decide)
      · rw [pVf_at]
        have inner : ∀ m i t, i + m = r.length → t < 2 ^ 31 → GW Γ l mX2_violationAt 7 0 0 (fun v G' => ∃ w, v = some (.int w) ∧ w = nI (vcode ((pVk A b r k i m ++ pVf A b r (k + 1) n)[t]?)) ∧ G' = (mW G x ma sc ar)) 13 [(0, va_rf (some x)), (1, .int (nI q)), (2, .int (nI t)), (3, .int (nI k)), (4, .int (nI i))] [] (mW G x ma sc ar) 0 0 := by
          intro m
          induction m with
          | zero =>
            intro i t hm ht
            refine rX2_violationAt_13 x _ _ _ _ ⟨hK.c, ?_⟩
            rw [mW_x hK, hw.1, nI_1]
            exact br_t (nI_le (by omega) (by omega)) (ih (k + 1) t (by omega) ht (by omega))
          | succ m ihm =>
            intro i t hm ht
            refine rX2_violationAt_13 x _ _ _ _ ⟨hK.c, ?_⟩
            rw [mW_x hK, hw.1]
            refine br_f (nI_ge (by omega) (by omega)) ?_
            refine cI.det (t_violates hK hs hw hv k i h1 (by omega) (by omega)) (by decide) ?_
            rw [bI_0, pVk_at, nI_1]
            refine ⟨fun h => ?_, fun h => ?_⟩
            · rw [if_neg (by simp [h])]
              exact ihm (i + 1) t (by omega) ht
            · rw [if_pos (by simpa using h)]
              refine ⟨fun h2 => ?_, fun h2 => ⟨_, rfl, ?_, rfl⟩⟩
              · cases t with
                | zero => exact absurd rfl h2
                | succ t =>
                  rw [pk_m1, List.cons_append]
                  show GW _ _ _ _ _ _ (fun v G' => ∃ w, v = some (.int w) ∧ w = nI (vcode ((pVk A b r k (i + 1) m ++ pVf A b r (k + 1) n)[t]?)) ∧ G' = (mW G x ma sc ar)) _ _ _ _ _ _
                  exact ihm (i + 1) t (by omega) (by omega)
              · have : t = 0 := nI_e (by omega) (by decide) h2
                subst this
                show (100 * nI k) + nI i = nI (100 * k + i)
                simp only [li_, nI_add, pk_mul, nI_1, Nat.add_assoc]
        exact inner r.length 0 t (by omega) ht
  exact key 7 1 q rfl hq (by decide)
theorem pVk_le (A : AS) (b : Int32) (r : List It) (k : Nat) : ∀ n i, (pVk A b r k i n).length ≤ n ∧ ∀ p ∈ pVk A b r k i n, p.1 = k ∧ i ≤ p.2 ∧ p.2 < i + n := by
  intro n
  induction n with
  | zero => intro i; exact ⟨Nat.le_refl _, fun p hp => by cases hp⟩
  | succ n ih =>
    intro i
    rw [pVk_at]
    have h1 := ih (i + 1)
    split
    · refine ⟨by rw [List.length_cons]; omega, fun p hp => ?_⟩
      rcases List.mem_cons.mp hp with rfl | hp
      · exact ⟨rfl, Nat.le_refl _, by show i < _; omega⟩
      · have := h1.2 p hp
        omega
    · exact ⟨by omega, fun p hp => by have := h1.2 p hp; omega⟩
theorem pVf_le (A : AS) (b : Int32) (r : List It) : ∀ n k, (pVf A b r k n).length ≤ n * r.length ∧ ∀ p ∈ pVf A b r k n, k ≤ p.1 ∧ p.1 < k + n ∧ p.2 < r.length := by
  intro n
  induction n with
  | zero => intro k; exact ⟨Nat.zero_le _, fun p hp => by cases hp⟩
  | succ n ih =>
    intro k
    rw [pVf_at]
    have h1 := pVk_le A b r k r.length 0
    have h2 := ih (k + 1)
    refine ⟨by rw [List.length_append, Nat.succ_mul]; omega, fun p hp => ?_⟩
    rcases List.mem_append.mp hp with hp | hp
    · have := h1.2 p hp
      omega
    · have := h2.2 p hp
      omega
theorem pVs_le (A : AS) (b : Int32) (r : List It) : (pVs A b r).length ≤ 7 * r.length ∧ ∀ p ∈ pVs A b r, 1 ≤ p.1 ∧ p.1 < 8 ∧ p.2 < r.length := pVf_le A b r 7 1
theorem vcode_pos {A : AS} {b : Int32} {r : List It} (q : Nat) (h48 : r.length ≤ 48) : vcode ((pVs A b r)[q]?) < 800 ∧ (vcode ((pVs A b r)[q]?) = 0 ↔ (pVs A b r).length ≤ q) := by
  cases h : (pVs A b r)[q]? with
  | none => exact ⟨by decide, by simp [vcode]; exact List.getElem?_eq_none_iff.mp h⟩
  | some p =>
    have h1 := (pVs_le A b r).2 p (List.mem_of_getElem? h)
    have h2 := (List.getElem?_eq_some_iff.mp h).1
    show 100 * p.1 + p.2 < 800 ∧ (100 * p.1 + p.2 = 0 ↔ _)
    omega
theorem t_violations (hK : MK G x ma) (hs : MR (ar 0) A) (hw : MW sc ar b r) (hv : RV A r) : TrI Γ l mX2_violations 8 0 0 [.ref x] (mW G x ma sc ar) (fun v G' => v = nI (pVs A b r).length ∧ G' = (mW G x ma sc ar)) := by
  have h48 := hw.2.2.1
  have hl := (pVs_le A b r).1
  refine Tr.intro (by decide +kernel) (Nat.le_of_ble_eq_true rfl) ?_
  refine rX2_violations_0 x ?_
  have key : ∀ n k, k + n = (pVs A b r).length → GW Γ l mX2_violations 8 0 0 (fun v G' => ∃ w, v = some (.int w) ∧ w = nI (pVs A b r).length ∧ G' = (mW G x ma sc ar)) 2 [(0, va_rf (some x)), (1, .int (nI k))] [] (mW G x ma sc ar) 0 0 := by
    intro n
    induction n with
    | zero =>
      intro k hk
      refine rX2_violations_2 x _ ⟨hK.c, cI.det (t_violationAt hK hs hw hv k (by omega)) (by decide) (br_t ?_ ⟨_, rfl, ?_, rfl⟩)⟩
      · rw [((vcode_pos k h48).2).mpr (by omega)]
        decide
      · rw [← hk]; rfl
    | succ n ih =>
      intro k hk
      refine rX2_violations_2 x _ ⟨hK.c, cI.det (t_violationAt hK hs hw hv k (by omega)) (by decide) (br_f ?_ ?_)⟩
      · have h1 := vcode_pos (A := A) (b := b) (r := r) k h48
        exact nI_nle (by omega) (by omega)
      · rw [nI_1]
        exact ih (k + 1) (by omega)
  exact key (pVs A b r).length 0 (by omega)
end MC2
