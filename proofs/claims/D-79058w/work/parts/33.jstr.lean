/-! Strings of one byte a letter: their contracts -/
set_option maxRecDepth 100000
def STR (G : GH) (x : Nat) (t : List Nat) : Prop := gC G x = kO 15 ∧ gI G x 1 = 0 ∧ t.length < 2 ^ 20 ∧ ∃ a, gR G x 0 = some a ∧ gC G a = kA 2 ∧ gL G a = t.length ∧ ∀ (j c : Nat), t[j]? = some c → c < 128 ∧ gI G a j = nI c
theorem nI_char {c : Nat} (h : c < 65536) : ((nI c).toUInt32 % 65536).toInt32 = nI c := by
  rw [pk_char, pk_tn (by omega), Nat.mod_eq_of_lt h]
theorem nI_vchar {c : Nat} (h : c < 65536) : vp_nar .char (((nI c).toUInt32 % 65536).toInt32) = nI c := by
  rw [pk_vc, nI_char h]
section STRC
variable {Γ : GE} {l : Launch} {G : GH} {x : Nat} {t : List Nat}
theorem t_scoder (h : STR G x t) : TrI Γ l mJ5_coder 1 0 0 [.ref x] G (fun v G' => v = 0 ∧ G' = G) := by
  obtain ⟨h1, h2, h3, a, h4, h5, h6, h7⟩ := h
  refine Tr.intro (by decide +kernel) (Nat.le_of_ble_eq_true rfl) ?_
  refine rJ5_coder_0 x (br_f (by decide) ⟨h1, ?_⟩)
  rw [h2]
  exact ⟨by decide, _, rfl, rfl, rfl⟩
theorem t_sLatin (h : STR G x t) : TrI Γ l mJ5_isLatin1 1 0 0 [.ref x] G (fun v G' => v = 1 ∧ G' = G) := by
  obtain ⟨h1, h2, h3, a, h4, h5, h6, h7⟩ := h
  refine Tr.intro (by decide +kernel) (Nat.le_of_ble_eq_true rfl) ?_
  refine rJ5_isLatin1_0 x (br_f (by decide) ⟨h1, ?_⟩)
  rw [h2]
  exact ⟨fun z => absurd rfl z, fun _ => ⟨_, rfl, rfl, rfl⟩⟩
theorem t_slen (h : STR G x t) : TrI Γ l mJ5_length 2 0 0 [.ref x] G (fun v G' => v = nI t.length ∧ G' = G) := by
  have h' := h
  obtain ⟨h1, h2, h3, a, h4, h5, h6, h7⟩ := h
  refine Tr.intro (by decide +kernel) (Nat.le_of_ble_eq_true rfl) ?_
  refine rJ5_length_0 x ⟨h1, a, h4, h5, cI.det (t_scoder h') (by decide) ⟨_, rfl, ?_, rfl⟩⟩
  rw [h6]
  have := pk_shrN (n := t.length) (by omega) (0 &&& 31) 0 (by decide)
  rw [this, Nat.pow_zero, Nat.div_one]
theorem t_check13 (i n : Nat) (h : i < n) (hn : n < 2 ^ 31) (q : Option Nat) : TrI Γ l mJ13_checkIndex 1 0 0 [.int (nI i), .int (nI n), va_rf q] G (fun v G' => v = nI i ∧ G' = G) := by
  refine Tr.intro (by decide +kernel) (Nat.le_of_ble_eq_true (by cases q <;> rfl)) ?_
  have e : lv_args 0 [.int (nI i), .int (nI n), va_rf q] = [(0, .int (nI i)), (1, .int (nI n)), (2, va_rf q)] := by cases q <;> rfl
  rw [e]
  exact rJ13_checkIndex_0 _ _ _ (br_f (nI_pos (by omega)) (br_t (nI_lt h hn) ⟨_, rfl, rfl, rfl⟩))
theorem t_check5 (i n : Nat) (h : i < n) (hn : n < 2 ^ 31) : TrV Γ l mJ5_checkIndex 2 0 0 [.int (nI i), .int (nI n)] G (fun G' => G' = G) := by
  refine Tr.intro (by decide +kernel) (Nat.le_of_ble_eq_true rfl) ?_
  exact rJ5_checkIndex_0 _ _ (cI.det (t_check13 i n h hn _) (by decide) ⟨rfl, rfl⟩)
theorem t_check12 (i n : Nat) (h : i < n) (hn : n < 2 ^ 31) : TrI Γ l mJ12_checkIndex 2 0 0 [.int (nI i), .int (nI n)] G (fun v G' => v = nI i ∧ G' = G) := by
  refine Tr.intro (by decide +kernel) (Nat.le_of_ble_eq_true rfl) ?_
  exact rJ12_checkIndex_0 _ _ (cI.det (t_check13 i n h hn none) (by decide) ⟨_, rfl, rfl, rfl⟩)
theorem t_charL (h : STR G x t) (i c : Nat) (hi : t[i]? = some c) : TrI Γ l mJ14_charAt 3 0 0 [va_rf (gR G x 0), .int (nI i)] G (fun v G' => v = nI c ∧ G' = G) := by
  obtain ⟨h1, h2, h3, a, h4, h5, h6, h7⟩ := h
  have hil := (List.getElem?_eq_some_iff.mp hi).1
  rw [h4]
  refine Tr.intro (by decide +kernel) (Nat.le_of_ble_eq_true rfl) ?_
  obtain ⟨q1, q2⟩ := h7 i c hi
  refine rJ14_charAt_0 (some a) (nI i) ⟨a, rfl, h5, ?_⟩
  rw [h6]
  refine cV.det (t_check5 i t.length hil (by omega)) (by decide) ⟨h5, by rw [h6]; exact vp_in_nI hil (by omega), ?_⟩
  rw [nI_clamp (by omega), q2, pk_andN (by omega) 8 (by decide), Nat.mod_eq_of_lt (by omega), nI_char (by omega)]
  exact ⟨(pk_charN (by omega)).1, _, rfl, rfl, rfl⟩
theorem t_charAt (h : STR G x t) (i c : Nat) (hi : t[i]? = some c) : TrI Γ l mJ5_charAt 4 0 0 [.ref x, .int (nI i)] G (fun v G' => v = nI c ∧ G' = G) := by
  have h' := h
  obtain ⟨h1, h2, h3, a, h4, h5, h6, h7⟩ := h
  refine Tr.intro (by decide +kernel) (Nat.le_of_ble_eq_true rfl) ?_
  refine rJ5_charAt_0 x (nI i) ⟨h1, cI.det (t_sLatin h') (by decide) (br_f (by decide) ⟨h1, cI.det (t_charL h' i c hi) (by decide) ⟨?_, _, rfl, rfl, rfl⟩⟩)⟩
  have := (h7 i c hi).1
  exact (pk_charN (by omega)).1
theorem STR.mW {ma : Nat → Nat} {y : Nat} {sc : Nat → Int32} {ar : Nat → Nat → Int32} (hK : MK G y ma) (h : STR G x t) : STR (mW G y ma sc ar) x t := by
  obtain ⟨h1, h2, h3, a, h4, h5, h6, h7⟩ := h
  have n1 : x ≠ y := fun e => by rw [e, hK.1] at h1; exact absurd h1 (by decide)
  have n2 : ∀ k ∈ mks, ma k ≠ x := fun k hk e => by have := (hK.2.2.1 k hk).2.1; rw [e, h1] at this; exact absurd this (kOA _ _)
  have n3 : a ≠ y := fun e => by rw [e, hK.1] at h5; exact absurd h5 (kOA _ _)
  have n4 : ∀ k ∈ mks, ma k ≠ a := fun k hk e => by
    have := (hK.2.2.1 k hk).2.1
    rw [e, h5] at this
    have : (2 : Nat) = mt k := by unfold kA at this; omega
    unfold mt at this
    split at this <;> omega
  refine ⟨h1, by rw [mW_o hK x n1 n2]; exact h2, h3, a, h4, h5, h6, fun j c hj => ?_⟩
  rw [mW_o hK a n3 n4]
  exact h7 j c hj
end STRC
