/-! M's contracts: letters, feed -/
set_option maxRecDepth 100000
def LI (g : Nat → Int32) : Prop := ∃ a b d e c : Nat, a < 6 ∧ b < 6 ∧ d < e ∧ e < 6000 ∧ e ≤ d + 600 ∧ c < 2 ∧ g 0 = nI a ∧ g 1 = nI b ∧ g 2 = nI d ∧ g 3 = nI e ∧ g 4 = nI c
def LIA (A : AS) : Prop := ∀ i, i < aN A → LI (aL A i)
def pTwo (n : Nat) : List Nat := [48 + n / 10, 48 + n % 10]
def pTime (t : Nat) : List Nat := [100, 48 + t / 1440, 104] ++ (pTwo (t % 1440 / 60) ++ pTwo (t % 60))
def wFly : List Nat := [32, 102, 108, 121, 59]
def wRide : List Nat := [32, 114, 105, 100, 101, 59]
def pItem (A : AS) (i : Nat) (f : Bool) : List Nat := [48 + ix (aL A i 0), 62, 48 + ix (aL A i 1), 32] ++ (pTime (ix (aL A i 2)) ++ ([45] ++ (pTime (ix (aL A i 3)) ++ (if f then wFly else wRide))))
def pText (A : AS) (r : List It) : Nat → List Nat
  | 0 => []
  | n + 1 => pText A r n ++ pItem A (rl r n) (rf r n)
def oLetter (A : AS) (p i : Int32) : Int32 := if okC A p then (let t := pText A (cT (cw A (ix p))) (cT (cw A (ix p))).length; if i = -1 then nI t.length else if pIn i 0 (nI t.length - 1) then nI (t.getD (ix i) 0) else -2) else -1
/-- M's text -/
def MZ (sc : Nat → Int32) (ar : Nat → Nat → Int32) (t : List Nat) : Prop := sc 24 = nI t.length ∧ ∀ (j c : Nat), t[j]? = some c → ar 23 j = nI c
/-- the class's words -/
def KS (Γ : GE) (G : GH) : Prop := STR G (Γ.2.2.2 41) wFly ∧ STR G (Γ.2.2.2 42) wRide
theorem pItem_len (A : AS) (i : Nat) (f : Bool) : (pItem A i f).length ≤ 32 := by
  unfold pItem pTime pTwo wFly wRide
  cases f <;> simp
theorem pText_len (A : AS) (r : List It) : ∀ n, (pText A r n).length ≤ 32 * n := by
  intro n
  induction n with
  | zero => exact Nat.le_refl _
  | succ n ih =>
    show (pText A r n ++ pItem A (rl r n) (rf r n)).length ≤ _
    rw [List.length_append]
    have := pItem_len A (rl r n) (rf r n)
    omega
theorem div_s {a d : Nat} (k : Int32) (hk : k = nI d) (ha : a < 2 ^ 20) (h0 : 0 < d) (hd : d < 2 ^ 20) : nI a / k = nI (a / d) ∧ nI a - nI a / k * k = nI (a % d) := by
  rw [hk]
  exact ⟨pk_div (by omega) h0 (by omega), pk_rem (by omega) h0 (by omega)⟩
section MC18
variable {Γ : GE} {l : Launch} {G : GH} {x : Nat} {ma : Nat → Nat} {sc : Nat → Int32} {ar : Nat → Nat → Int32} {A : AS} {b : Int32} {r : List It} {S : SS}
theorem t_write (hK : MK G x ma) {t : List Nat} (hz : MZ sc ar t) (hl : t.length < 768) (c : Nat) (hc : c < 65536) : TrV Γ l mX2_write 1 0 0 [.ref x, .int (nI c)] (mW G x ma sc ar) (fun G' => ∃ sc' ar', G' = mW G x ma sc' ar' ∧ Fr [24] [23] sc ar sc' ar' ∧ MZ sc' ar' (t ++ [c])) := by
  obtain ⟨z1, z2⟩ := hz
  refine Tr.intro (by decide +kernel) (Nat.le_of_ble_eq_true rfl) ?_
  refine rX2_write_0 x _ ⟨hK.c, ma 23, hK.r 23 (by decide), hK.t 23 3 (by decide) rfl, hK.w 23 (by decide), ?_⟩
  rw [mW_x hK, z1, nI_vchar hc, nI_clamp (by omega), hK.sa 23 (by decide), hK.sx]
  refine ⟨hK.inb 23 (by decide) _ rfl hl, hK.m, rfl, _, _, rfl, (Fr.rf.ua 23 _ (by decide)).us 24 _ (by decide), ?_, fun j d hj => ?_⟩
  · rw [mW_x hK, z1, nI_1, List.length_append]; rfl
  · show u1 (ar 23) t.length (nI c) j = nI d
    unfold u1
    by_cases hjl : j < t.length
    · rw [if_neg (by omega)]
      rw [List.getElem?_append_left hjl] at hj
      exact z2 j d hj
    · rw [List.getElem?_append_right (by omega)] at hj
      have h5 := (List.getElem?_eq_some_iff.mp hj).1
      have h6 : j = t.length := by
        have : j - t.length < 1 := h5
        omega
      subst h6
      rw [Nat.sub_self] at hj
      cases hj
      rw [if_pos rfl]
theorem t_writeTwo (hK : MK G x ma) {t : List Nat} (hz : MZ sc ar t) (hl : t.length + 2 ≤ 768) (n : Nat) (hn : n < 100) : TrV Γ l mX2_writeTwo 2 0 0 [.ref x, .int (nI n)] (mW G x ma sc ar) (fun G' => ∃ sc' ar', G' = mW G x ma sc' ar' ∧ Fr [24] [23] sc ar sc' ar' ∧ MZ sc' ar' (t ++ pTwo n)) := by
  refine Tr.intro (by decide +kernel) (Nat.le_of_ble_eq_true rfl) ?_
  obtain ⟨d1, d2⟩ := div_s (a := n) (d := 10) 10 rfl (by omega) (by decide) (by decide)
  refine rX2_writeTwo_0 x _ ⟨hK.c, ?_⟩
  rw [d2, d1, show 48 + nI (n / 10) = nI (48 + n / 10) by simp only [li_, nI_add, pk_mul, nI_1, Nat.add_assoc], show 48 + nI (n % 10) = nI (48 + n % 10) by simp only [li_, nI_add, pk_mul, nI_1, Nat.add_assoc]]
  refine cV.mk0 (t_write hK hz (by omega) (48 + n / 10) (by omega)) (by decide) ?_
  rintro G1 ⟨sc1, ar1, rfl, f1, z1⟩
  refine ⟨hK.c, cV.mk0 (t_write hK z1 (by rw [List.length_append]; show _ + 1 < 768; omega) (48 + n % 10) (by omega)) (by decide) ?_⟩
  rintro G2 ⟨sc2, ar2, rfl, f2, z2⟩
  rw [List.append_assoc] at z2
  exact ⟨rfl, sc2, ar2, rfl, f1.tr f2, z2⟩
theorem t_writeTime (hK : MK G x ma) {t : List Nat} (hz : MZ sc ar t) (hl : t.length + 7 ≤ 768) (n : Nat) (hn : n < 6000) : TrV Γ l mX2_writeTime 3 0 0 [.ref x, .int (nI n)] (mW G x ma sc ar) (fun G' => ∃ sc' ar', G' = mW G x ma sc' ar' ∧ Fr [24] [23] sc ar sc' ar' ∧ MZ sc' ar' (t ++ pTime n)) := by
  refine Tr.intro (by decide +kernel) (Nat.le_of_ble_eq_true rfl) ?_
  obtain ⟨d1, d2⟩ := div_s (a := n) (d := 1440) 1440 rfl (by omega) (by decide) (by decide)
  obtain ⟨d3, d4⟩ := div_s (a := n) (d := 60) 60 rfl (by omega) (by decide) (by decide)
  obtain ⟨d5, d6⟩ := div_s (a := n % 1440) (d := 60) 60 rfl (by omega) (by decide) (by decide)
  refine rX2_writeTime_0 x _ ⟨hK.c, ?_⟩
  rw [d2, d4, d5, d1, show 48 + nI (n / 1440) = nI (48 + n / 1440) by simp only [li_, nI_add, pk_mul, nI_1, Nat.add_assoc]]
  refine cV.mk0 (t_write hK hz (by omega) 100 (by decide)) (by decide) ?_
  rintro G1 ⟨sc1, ar1, rfl, f1, z1⟩
  have l1 : (t ++ [100]).length = t.length + 1 := by rw [List.length_append]; rfl
  refine ⟨hK.c, cV.mk0 (t_write hK z1 (by omega) (48 + n / 1440) (by omega)) (by decide) ?_⟩
  rintro G2 ⟨sc2, ar2, rfl, f2, z2⟩
  have l2 : ((t ++ [100]) ++ [48 + n / 1440]).length = t.length + 2 := by rw [List.length_append, l1]; rfl
  refine ⟨hK.c, cV.mk0 (t_write hK z2 (by omega) 104 (by decide)) (by decide) ?_⟩
  rintro G3 ⟨sc3, ar3, rfl, f3, z3⟩
  have l3 : (((t ++ [100]) ++ [48 + n / 1440]) ++ [104]).length = t.length + 3 := by rw [List.length_append, l2]; rfl
  refine ⟨hK.c, cV.mk0 (t_writeTwo hK z3 (by omega) (n % 1440 / 60) (by omega)) (by decide) ?_⟩
  rintro G4 ⟨sc4, ar4, rfl, f4, z4⟩
  have l4 : ((((t ++ [100]) ++ [48 + n / 1440]) ++ [104]) ++ pTwo (n % 1440 / 60)).length = t.length + 5 := by rw [List.length_append, l3]; rfl
  refine ⟨hK.c, cV.mk0 (t_writeTwo hK z4 (by omega) (n % 60) (by omega)) (by decide) ?_⟩
  rintro G5 ⟨sc5, ar5, rfl, f5, z5⟩
  refine ⟨rfl, sc5, ar5, rfl, (((f1.tr f2).tr f3).tr f4).tr f5, ?_⟩
  simp only [List.append_assoc] at z5
  exact z5
theorem t_writeItem (hK : MK G x ma) (hKS : KS Γ G) (hs : MR (ar 0) A) (hL : LIA A) (hw : MW sc ar b r) (hv : RV A r) {t : List Nat} (hz : MZ sc ar t) (hl : t.length + 32 ≤ 768) (k : Nat) (hk : k < r.length) : TrV Γ l mX2_writeItem 5 0 0 [.ref x, .int (nI k)] (mW G x ma sc ar) (fun G' => ∃ sc' ar', G' = mW G x ma sc' ar' ∧ Fr [24] [23] sc ar sc' ar' ∧ MZ sc' ar' (t ++ pItem A (rl r k) (rf r k))) := by
  obtain ⟨a, b', d, e, c, ha, hb, hde, he, hde2, hc, g0, g1, g2, g3, g4⟩ := hL (rl r k) (hv k hk)
  have i0 : ix (aL A (rl r k) 0) = a := by rw [g0]; exact ix_nI (by omega)
  have i1 : ix (aL A (rl r k) 1) = b' := by rw [g1]; exact ix_nI (by omega)
  have i2 : ix (aL A (rl r k) 2) = d := by rw [g2]; exact ix_nI (by omega)
  have i3 : ix (aL A (rl r k) 3) = e := by rw [g3]; exact ix_nI (by omega)
  refine Tr.intro (by decide +kernel) (Nat.le_of_ble_eq_true rfl) ?_
  refine rX2_writeItem_0 x _ ⟨hK.c, cI.det (t_legAt hK hs hw hv k hk) (by decide) ⟨hK.c, cI.det (t_of hK hs _ 0 (hv k hk) (by decide)) (by decide) ⟨hK.c, ?_⟩⟩⟩
  rw [g0, show 48 + nI a = nI (48 + a) by simp only [li_, nI_add, pk_mul, nI_1, Nat.add_assoc]]
  refine cV.mk0 (t_write hK hz (by omega) (48 + a) (by omega)) (by decide) ?_
  rintro G1 ⟨sc1, ar1, rfl, f1, z1⟩
  have l1 : (t ++ [48 + a]).length = t.length + 1 := by rw [List.length_append]; rfl
  refine ⟨hK.c, cV.mk0 (t_write hK z1 (by omega) 62 (by decide)) (by decide) ?_⟩
  rintro G2 ⟨sc2, ar2, rfl, f2, z2⟩
  have l2 : ((t ++ [48 + a]) ++ [62]).length = t.length + 2 := by rw [List.length_append, l1]; rfl
  have hs2 : MR (ar2 0) A := hs.fr (f1.tr f2) (by decide)
  refine ⟨hK.c, cI.det (t_of hK hs2 _ 1 (hv k hk) (by decide)) (by decide) ⟨hK.c, ?_⟩⟩
  rw [g1, show 48 + nI b' = nI (48 + b') by simp only [li_, nI_add, pk_mul, nI_1, Nat.add_assoc]]
  refine cV.mk0 (t_write hK z2 (by omega) (48 + b') (by omega)) (by decide) ?_
  rintro G3 ⟨sc3, ar3, rfl, f3, z3⟩
  have l3 : (((t ++ [48 + a]) ++ [62]) ++ [48 + b']).length = t.length + 3 := by rw [List.length_append, l2]; rfl
  refine ⟨hK.c, cV.mk0 (t_write hK z3 (by omega) 32 (by decide)) (by decide) ?_⟩
  rintro G4 ⟨sc4, ar4, rfl, f4, z4⟩
  have f14 := ((f1.tr f2).tr f3).tr f4
  have hs4 : MR (ar4 0) A := hs.fr f14 (by decide)
  have l4 : ((((t ++ [48 + a]) ++ [62]) ++ [48 + b']) ++ [32]).length = t.length + 4 := by rw [List.length_append, l3]; rfl
  refine ⟨hK.c, cI.det (t_of hK hs4 _ 2 (hv k hk) (by decide)) (by decide) ⟨hK.c, ?_⟩⟩
  rw [g2]
  refine cV.mk0 (t_writeTime hK z4 (by omega) d (by omega)) (by decide) ?_
  rintro G5 ⟨sc5, ar5, rfl, f5, z5⟩
  have l5 : (((((t ++ [48 + a]) ++ [62]) ++ [48 + b']) ++ [32]) ++ pTime d).length = t.length + 11 := by rw [List.length_append, l4]; rfl
  refine ⟨hK.c, cV.mk0 (t_write hK z5 (by omega) 45 (by decide)) (by decide) ?_⟩
  rintro G6 ⟨sc6, ar6, rfl, f6, z6⟩
  have f16 := (f14.tr f5).tr f6
  have hs6 : MR (ar6 0) A := hs.fr f16 (by decide)
  have l6 : ((((((t ++ [48 + a]) ++ [62]) ++ [48 + b']) ++ [32]) ++ pTime d) ++ [45]).length = t.length + 12 := by rw [List.length_append, l5]; rfl
  refine ⟨hK.c, cI.det (t_of hK hs6 _ 3 (hv k hk) (by decide)) (by decide) ⟨hK.c, ?_⟩⟩
  rw [g3]
  refine cV.mk0 (t_writeTime hK z6 (by omega) e (by omega)) (by decide) ?_
  rintro G7 ⟨sc7, ar7, rfl, f7, z7⟩
  have f17 := f16.tr f7
  have hs7 : MR (ar7 0) A := hs.fr f17 (by decide)
  have hw7 : MW sc7 ar7 b r := ⟨(f17.1 8 (by decide)).trans hw.1, (f17.1 9 (by decide)).trans hw.2.1, hw.2.2.1, by rw [f17.2 7 (by decide)]; exact hw.2.2.2⟩
  generalize hT7 : (((((((t ++ [48 + a]) ++ [62]) ++ [48 + b']) ++ [32]) ++ pTime d) ++ [45]) ++ pTime e) = T7 at z7
  have l7 : T7.length = t.length + 19 := by rw [← hT7, List.length_append, l6]; rfl
  have e7 : ∀ w, T7 ++ w = t ++ ([48 + a, 62, 48 + b', 32] ++ (pTime d ++ ([45] ++ (pTime e ++ w)))) := by
    intro w
    rw [← hT7]
    simp only [List.append_assoc]
    rfl
  refine ⟨hK.c, cI.det (t_isFlown hK hs7 hw7 hv k hk) (by decide) ?_⟩
  have loop : ∀ (q : Nat) (w : List Nat), STR G q w → w.length ≤ 6 → t ++ pItem A (rl r k) (rf r k) = T7 ++ w → GW Γ l mX2_writeItem 5 0 0 (fun v G' => v = none ∧ ∃ sc' ar', G' = mW G x ma sc' ar' ∧ Fr [24] [23] sc ar sc' ar' ∧ MZ sc' ar' (t ++ pItem A (rl r k) (rf r k))) 91 [(0, va_rf (some x)), (1, .int (nI k)), (2, .int (nI (rl r k))), (3, va_rf (some q)), (4, .int (nI 0))] [] (mW G x ma sc7 ar7) 0 0 := by
    intro q w hq hw6 hfin
    have key : ∀ (m i : Nat) sc8 ar8, i + m = w.length → Fr [24] [23] sc ar sc8 ar8 → MZ sc8 ar8 (T7 ++ w.take i) → GW Γ l mX2_writeItem 5 0 0 (fun v G' => v = none ∧ ∃ sc' ar', G' = mW G x ma sc' ar' ∧ Fr [24] [23] sc ar sc' ar' ∧ MZ sc' ar' (t ++ pItem A (rl r k) (rf r k))) 91 [(0, va_rf (some x)), (1, .int (nI k)), (2, .int (nI (rl r k))), (3, va_rf (some q)), (4, .int (nI i))] [] (mW G x ma sc8 ar8) 0 0 := by
      intro m
      induction m with
      | zero =>
        intro i sc8 ar8 hi f8 z8
        have hq8 : STR (mW G x ma sc8 ar8) q w := hq.mW hK
        refine rX2_writeItem_91 x _ _ _ _ ⟨q, rfl, hq8.1, cI.det (t_slen hq8) (by decide) (br_t (nI_le (by omega) (by omega)) ⟨rfl, sc8, ar8, rfl, f8, ?_⟩)⟩
        rw [hfin]
        rw [List.take_of_length_le (by omega)] at z8
        exact z8
      | succ m ih =>
        intro i sc8 ar8 hi f8 z8
        have hq8 : STR (mW G x ma sc8 ar8) q w := hq.mW hK
        have hil : i < w.length := by omega
        have hgi : w[i]? = some w[i] := List.getElem?_eq_getElem hil
        obtain ⟨_, _, _, aa, _, _, _, h7⟩ := hq
        have hc128 := (h7 i _ hgi).1
        have lt : (T7 ++ w.take i).length ≤ t.length + 25 := by rw [List.length_append, List.length_take]; omega
        refine rX2_writeItem_91 x _ _ _ _ ⟨q, rfl, hq8.1, cI.det (t_slen hq8) (by decide) (br_f (nI_ge hil (by omega)) ⟨hq8.1, cI.det (t_charAt hq8 i _ hgi) (by decide) ⟨hK.c, cV.mk0 (t_write hK z8 (by omega) w[i] (by omega)) (by decide) ?_⟩⟩)⟩
        rintro G9 ⟨sc9, ar9, rfl, f9, z9⟩
        rw [nI_1]
        refine ih (i + 1) sc9 ar9 (by omega) (f8.tr f9) ?_
        rw [List.append_assoc, ← List.take_succ_eq_append_getElem hil] at z9
        exact z9
    exact key w.length 0 sc7 ar7 (by omega) f17 (by rw [List.take_zero, List.append_nil]; exact z7)
  rw [bI_0]
  refine ⟨fun h => loop _ wRide hKS.2 (by decide) ?_, fun h => loop _ wFly hKS.1 (by decide) ?_⟩
  · rw [e7]
    unfold pItem
    rw [i0, i1, i2, i3, h]
    rfl
  · simp only [Bool.not_eq_false] at h
    rw [e7]
    unfold pItem
    rw [i0, i1, i2, i3, h]
    rfl
end MC18
