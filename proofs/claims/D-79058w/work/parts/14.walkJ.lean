set_option maxRecDepth 100000
theorem rJ19_stringSize_0 {Γ : GE} {l : Launch} {h MC MS : Nat} {Q : Option Value → GH → Prop} {bc bs : Nat} {G : GH} (p0 : Int32) (F : ((p0 < 0 → (GW Γ l mJ19_stringSize h MC MS Q 16 [(0, .int p0), (1, .int 1), (2, .int (-10)), (3, .int 1)] [] G bc bs)) ∧ (¬ p0 < 0 → (GW Γ l mJ19_stringSize h MC MS Q 16 [(0, .int (-p0)), (1, .int 0), (2, .int (-10)), (3, .int 1)] [] G bc bs)))) : GW Γ l mJ19_stringSize h MC MS Q 0 [(0, .int p0)] [] G bc bs := by
  refine g_iconst (v := 1) dJ19_stringSize_0 (by decide) ?_
  refine s_istore_n (lv' := [(0, .int p0), (1, .int 1)]) (cat_I cat_nil) dJ19_stringSize_1 rfl (by decide) rfl [1, 0] rfl ?_
  refine g_iload_n dJ19_stringSize_2 rfl 0 rfl ?_
  refine g_if_lt 11 dJ19_stringSize_3 (by decide) (fun h1 => ?_) (fun h1 => ?_)
  · have F := F.1 h1
    refine g_bipush (v := (-10)) dJ19_stringSize_11 (by decide) ?_
    refine s_istore_n (lv' := [(0, .int p0), (1, .int 1), (2, .int (-10))]) (cat_I (cat_I cat_nil)) dJ19_stringSize_13 rfl (by decide) rfl [1, 2, 0] rfl ?_
    refine g_iconst (v := 1) dJ19_stringSize_14 (by decide) ?_
    refine s_istore_n (lv' := [(0, .int p0), (1, .int 1), (2, .int (-10)), (3, .int 1)]) (cat_I (cat_I (cat_I cat_nil))) dJ19_stringSize_15 rfl (by decide) rfl [1, 2, 3, 0] rfl ?_
    exact F
  · have F := F.2 h1
    refine g_iconst (v := 0) dJ19_stringSize_6 (by decide) ?_
    refine s_istore_n (lv' := [(0, .int p0), (1, .int 0)]) (cat_I (cat_I cat_nil)) dJ19_stringSize_7 rfl (by decide) rfl [1, 0] rfl ?_
    refine g_iload_n dJ19_stringSize_8 rfl 0 rfl ?_
    refine g_ineg dJ19_stringSize_9 ?_
    refine s_istore_n (lv' := [(0, .int (-p0)), (1, .int 0)]) (cat_I (cat_I cat_nil)) dJ19_stringSize_10 rfl (by decide) rfl [0, 1] rfl ?_
    refine g_bipush (v := (-10)) dJ19_stringSize_11 (by decide) ?_
    refine s_istore_n (lv' := [(0, .int (-p0)), (1, .int 0), (2, .int (-10))]) (cat_I (cat_I cat_nil)) dJ19_stringSize_13 rfl (by decide) rfl [1, 2, 0] rfl ?_
    refine g_iconst (v := 1) dJ19_stringSize_14 (by decide) ?_
    refine s_istore_n (lv' := [(0, .int (-p0)), (1, .int 0), (2, .int (-10)), (3, .int 1)]) (cat_I (cat_I (cat_I cat_nil))) dJ19_stringSize_15 rfl (by decide) rfl [1, 2, 3, 0] rfl ?_
    exact F
theorem rJ19_stringSize_16 {Γ : GE} {l : Launch} {h MC MS : Nat} {Q : Option Value → GH → Prop} {bc bs : Nat} {G : GH} (p0 : Int32) (p1 : Int32) (p2 : Int32) (p3 : Int32) (F : (((10 : Int32) ≤ p3 → (Q (some (.int (10 + p1))) G)) ∧ (¬ (10 : Int32) ≤ p3 → ((p0 ≤ p2 → (GW Γ l mJ19_stringSize h MC MS Q 16 [(0, .int p0), (1, .int p1), (2, .int (10 * p2)), (3, .int (p3 + 1))] [] G bc bs)) ∧ (¬ p0 ≤ p2 → (Q (some (.int (p3 + p1))) G)))))) : GW Γ l mJ19_stringSize h MC MS Q 16 [(0, .int p0), (1, .int p1), (2, .int p2), (3, .int p3)] [] G bc bs := by
  refine g_iload_n dJ19_stringSize_16 rfl 3 rfl ?_
  refine g_bipush (v := 10) dJ19_stringSize_17 (by decide) ?_
  refine g_icmp_ge 42 dJ19_stringSize_19 (by decide) (fun h2 => ?_) (fun h2 => ?_)
  · have F := F.1 h2
    refine g_bipush (v := 10) dJ19_stringSize_42 (by decide) ?_
    refine g_iload_n dJ19_stringSize_44 rfl 1 rfl ?_
    refine g_iadd dJ19_stringSize_45 ?_
    exact g_iret rfl dJ19_stringSize_46 F
  · have F := F.2 h2
    refine g_iload_n dJ19_stringSize_22 rfl 0 rfl ?_
    refine g_iload_n dJ19_stringSize_23 rfl 2 rfl ?_
    refine g_icmp_le 31 dJ19_stringSize_24 (by decide) (fun h1 => ?_) (fun h1 => ?_)
    · have F := F.1 h1
      refine g_bipush (v := 10) dJ19_stringSize_31 (by decide) ?_
      refine g_iload_n dJ19_stringSize_33 rfl 2 rfl ?_
      refine g_imul dJ19_stringSize_34 ?_
      refine s_istore_n (lv' := [(0, .int p0), (1, .int p1), (2, .int (10 * p2)), (3, .int p3)]) (cat_I (cat_I (cat_I (cat_I cat_nil)))) dJ19_stringSize_35 rfl (by decide) rfl [1, 2, 0, 3] rfl ?_
      refine s_iinc (v := (p3 + 1)) (lv' := [(0, .int p0), (1, .int p1), (2, .int (10 * p2)), (3, .int (p3 + 1))]) (cat_I (cat_I (cat_I (cat_I cat_nil)))) dJ19_stringSize_36 (k0 := 3) rfl rfl (by decide) rfl [1, 2, 3, 0] rfl ?_
      refine g_goto 16 dJ19_stringSize_39 (by decide) ?_
      exact F
    · have F := F.2 h1
      refine g_iload_n dJ19_stringSize_27 rfl 3 rfl ?_
      refine g_iload_n dJ19_stringSize_28 rfl 1 rfl ?_
      refine g_iadd dJ19_stringSize_29 ?_
      exact g_iret rfl dJ19_stringSize_30 F
theorem rJ19_getChars_0 {Γ : GE} {l : Launch} {h MC MS : Nat} {Q : Option Value → GH → Prop} {bc bs : Nat} {G : GH} (p0 : Int32) (p1 : Int32) (p2 : Option Nat) (F : (((0 : Int32) ≤ p0 → ((¬ (0 : Int32) = 0 → (GW Γ l mJ19_getChars h MC MS Q 22 [(0, .int p0), (1, .int p1), (2, va_rf p2), (5, .int p1), (6, .int 0)] [] G bc bs)) ∧ ((0 : Int32) = 0 → (GW Γ l mJ19_getChars h MC MS Q 22 [(0, .int (-p0)), (1, .int p1), (2, va_rf p2), (5, .int p1), (6, .int 0)] [] G bc bs)))) ∧ (¬ (0 : Int32) ≤ p0 → ((¬ (1 : Int32) = 0 → (GW Γ l mJ19_getChars h MC MS Q 22 [(0, .int p0), (1, .int p1), (2, va_rf p2), (5, .int p1), (6, .int 1)] [] G bc bs)) ∧ ((1 : Int32) = 0 → (GW Γ l mJ19_getChars h MC MS Q 22 [(0, .int (-p0)), (1, .int p1), (2, va_rf p2), (5, .int p1), (6, .int 1)] [] G bc bs)))))) : GW Γ l mJ19_getChars h MC MS Q 0 [(0, .int p0), (1, .int p1), (2, va_rf p2)] [] G bc bs := by
  refine g_iload_n dJ19_getChars_0 rfl 1 rfl ?_
  refine s_istore (lv' := [(0, .int p0), (1, .int p1), (2, va_rf p2), (5, .int p1)]) (cat_I (cat_I (cat_R cat_nil))) dJ19_getChars_1 (by decide) rfl [1, 2, 3, 0] rfl ?_
  refine g_iload_n dJ19_getChars_3 rfl 0 rfl ?_
  refine g_if_ge 11 dJ19_getChars_4 (by decide) (fun h3 => ?_) (fun h3 => ?_)
  · have F := F.1 h3
    refine g_iconst (v := 0) dJ19_getChars_11 (by decide) ?_
    refine s_istore (lv' := [(0, .int p0), (1, .int p1), (2, va_rf p2), (5, .int p1), (6, .int 0)]) (cat_I (cat_I (cat_R (cat_I cat_nil)))) dJ19_getChars_12 (by decide) rfl [1, 2, 3, 4, 0] rfl ?_
    refine g_iload dJ19_getChars_14 4 rfl ?_
    refine g_if_ne 22 dJ19_getChars_16 (by decide) (fun h1 => ?_) (fun h1 => ?_)
    · have F := F.1 h1
      exact F
    · have F := F.2 h1
      refine g_iload_n dJ19_getChars_19 rfl 0 rfl ?_
      refine g_ineg dJ19_getChars_20 ?_
      refine s_istore_n (lv' := [(0, .int (-p0)), (1, .int p1), (2, va_rf p2), (5, .int p1), (6, .int 0)]) (cat_I (cat_I (cat_R (cat_I (cat_I cat_nil))))) dJ19_getChars_21 rfl (by decide) rfl [0, 1, 2, 3, 4] rfl ?_
      exact F
  · have F := F.2 h3
    refine g_iconst (v := 1) dJ19_getChars_7 (by decide) ?_
    refine g_goto 12 dJ19_getChars_8 (by decide) ?_
    refine s_istore (lv' := [(0, .int p0), (1, .int p1), (2, va_rf p2), (5, .int p1), (6, .int 1)]) (cat_I (cat_I (cat_R (cat_I cat_nil)))) dJ19_getChars_12 (by decide) rfl [1, 2, 3, 4, 0] rfl ?_
    refine g_iload dJ19_getChars_14 4 rfl ?_
    refine g_if_ne 22 dJ19_getChars_16 (by decide) (fun h2 => ?_) (fun h2 => ?_)
    · have F := F.1 h2
      exact F
    · have F := F.2 h2
      refine g_iload_n dJ19_getChars_19 rfl 0 rfl ?_
      refine g_ineg dJ19_getChars_20 ?_
      refine s_istore_n (lv' := [(0, .int (-p0)), (1, .int p1), (2, va_rf p2), (5, .int p1), (6, .int 1)]) (cat_I (cat_I (cat_R (cat_I (cat_I cat_nil))))) dJ19_getChars_21 rfl (by decide) rfl [0, 1, 2, 3, 4] rfl ?_
      exact F
theorem rJ19_getChars_22 {Γ : GE} {l : Launch} {h MC MS : Nat} {Q : Option Value → GH → Prop} {bc bs : Nat} {G : GH} (p0 : Int32) (p1 : Int32) (p2 : Option Nat) (p5 : Int32) (p6 : Int32) (F : (((-100) < p0 → (gC G (Γ.2.2.2 2) = kA 2 ∧ vp_in (-p0) (gL G (Γ.2.2.2 2)) ∧ ∃ a3, p2 = some a3 ∧ gC G a3 = kA 2 ∧ gM G a3 = true ∧ vp_in (p5 + (-1)) (gL G a3) ∧ (((-9) ≤ p0 → ((p6 = 0 → (Q (some (.int (p5 + (-1)))) (sI G a3 (p5 + (-1)).toNatClampNeg (vp_nar .byte (gI G (Γ.2.2.2 2) (-p0).toNatClampNeg))))) ∧ (¬ p6 = 0 → (vp_in ((p5 + (-1)) + (-1)) (gL (sI G a3 (p5 + (-1)).toNatClampNeg (vp_nar .byte (gI G (Γ.2.2.2 2) (-p0).toNatClampNeg))) a3) ∧ Q (some (.int ((p5 + (-1)) + (-1)))) (sI (sI G a3 (p5 + (-1)).toNatClampNeg (vp_nar .byte (gI G (Γ.2.2.2 2) (-p0).toNatClampNeg))) a3 ((p5 + (-1)) + (-1)).toNatClampNeg (vp_nar .byte 45)))))) ∧ (¬ (-9) ≤ p0 → (gC (sI G a3 (p5 + (-1)).toNatClampNeg (vp_nar .byte (gI G (Γ.2.2.2 2) (-p0).toNatClampNeg))) (Γ.2.2.2 3) = kA 2 ∧ vp_in (-p0) (gL (sI G a3 (p5 + (-1)).toNatClampNeg (vp_nar .byte (gI G (Γ.2.2.2 2) (-p0).toNatClampNeg))) (Γ.2.2.2 3)) ∧ vp_in ((p5 + (-1)) + (-1)) (gL (sI G a3 (p5 + (-1)).toNatClampNeg (vp_nar .byte (gI G (Γ.2.2.2 2) (-p0).toNatClampNeg))) a3) ∧ ((p6 = 0 → (Q (some (.int ((p5 + (-1)) + (-1)))) (sI (sI G a3 (p5 + (-1)).toNatClampNeg (vp_nar .byte (gI G (Γ.2.2.2 2) (-p0).toNatClampNeg))) a3 ((p5 + (-1)) + (-1)).toNatClampNeg (vp_nar .byte (gI (sI G a3 (p5 + (-1)).toNatClampNeg (vp_nar .byte (gI G (Γ.2.2.2 2) (-p0).toNatClampNeg))) (Γ.2.2.2 3) (-p0).toNatClampNeg))))) ∧ (¬ p6 = 0 → (vp_in (((p5 + (-1)) + (-1)) + (-1)) (gL (sI (sI G a3 (p5 + (-1)).toNatClampNeg (vp_nar .byte (gI G (Γ.2.2.2 2) (-p0).toNatClampNeg))) a3 ((p5 + (-1)) + (-1)).toNatClampNeg (vp_nar .byte (gI (sI G a3 (p5 + (-1)).toNatClampNeg (vp_nar .byte (gI G (Γ.2.2.2 2) (-p0).toNatClampNeg))) (Γ.2.2.2 3) (-p0).toNatClampNeg))) a3) ∧ Q (some (.int (((p5 + (-1)) + (-1)) + (-1)))) (sI (sI (sI G a3 (p5 + (-1)).toNatClampNeg (vp_nar .byte (gI G (Γ.2.2.2 2) (-p0).toNatClampNeg))) a3 ((p5 + (-1)) + (-1)).toNatClampNeg (vp_nar .byte (gI (sI G a3 (p5 + (-1)).toNatClampNeg (vp_nar .byte (gI G (Γ.2.2.2 2) (-p0).toNatClampNeg))) (Γ.2.2.2 3) (-p0).toNatClampNeg))) a3 (((p5 + (-1)) + (-1)) + (-1)).toNatClampNeg (vp_nar .byte 45)))))))))) ∧ (¬ (-100) < p0 → (gC G (Γ.2.2.2 2) = kA 2 ∧ vp_in (((p0 / 100) * 100) - p0) (gL G (Γ.2.2.2 2)) ∧ ∃ a18, p2 = some a18 ∧ gC G a18 = kA 2 ∧ gM G a18 = true ∧ vp_in (p5 + (-1)) (gL G a18) ∧ gC (sI G a18 (p5 + (-1)).toNatClampNeg (vp_nar .byte (gI G (Γ.2.2.2 2) (((p0 / 100) * 100) - p0).toNatClampNeg))) (Γ.2.2.2 3) = kA 2 ∧ vp_in (((p0 / 100) * 100) - p0) (gL (sI G a18 (p5 + (-1)).toNatClampNeg (vp_nar .byte (gI G (Γ.2.2.2 2) (((p0 / 100) * 100) - p0).toNatClampNeg))) (Γ.2.2.2 3)) ∧ vp_in ((p5 + (-1)) + (-1)) (gL (sI G a18 (p5 + (-1)).toNatClampNeg (vp_nar .byte (gI G (Γ.2.2.2 2) (((p0 / 100) * 100) - p0).toNatClampNeg))) a18) ∧ GW Γ l mJ19_getChars h MC MS Q 22 [(0, .int (p0 / 100)), (1, .int p1), (2, va_rf p2), (5, .int ((p5 + (-1)) + (-1))), (6, .int p6)] [] (sI (sI G a18 (p5 + (-1)).toNatClampNeg (vp_nar .byte (gI G (Γ.2.2.2 2) (((p0 / 100) * 100) - p0).toNatClampNeg))) a18 ((p5 + (-1)) + (-1)).toNatClampNeg (vp_nar .byte (gI (sI G a18 (p5 + (-1)).toNatClampNeg (vp_nar .byte (gI G (Γ.2.2.2 2) (((p0 / 100) * 100) - p0).toNatClampNeg))) (Γ.2.2.2 3) (((p0 / 100) * 100) - p0).toNatClampNeg))) bc bs)))) : GW Γ l mJ19_getChars h MC MS Q 22 [(0, .int p0), (1, .int p1), (2, va_rf p2), (5, .int p5), (6, .int p6)] [] G bc bs := by
  refine g_iload_n dJ19_getChars_22 rfl 0 rfl ?_
  refine g_bipush (v := (-100)) dJ19_getChars_23 (by decide) ?_
  refine g_icmp_gt 72 dJ19_getChars_25 (by decide) (fun h26 => ?_) (fun h26 => ?_)
  · have F := F.1 h26
    refine g_aload_n dJ19_getChars_72 rfl 2 rfl ?_
    refine s_iinc (v := (p5 + (-1))) (lv' := [(0, .int p0), (1, .int p1), (2, va_rf p2), (5, .int (p5 + (-1))), (6, .int p6)]) (cat_I (cat_I (cat_R (cat_I (cat_I cat_nil))))) dJ19_getChars_73 (k0 := 3) rfl rfl (by decide) rfl [1, 2, 3, 0, 4] rfl ?_
    refine g_iload dJ19_getChars_76 3 rfl ?_
    refine g_getsr (C := "java/lang/Integer") (n := "DigitOnes") (d := "[B") (i := 2) (by decide) q1551 rfl dJ19_getChars_78 ?_
    refine g_iload_n dJ19_getChars_81 rfl 0 rfl ?_
    refine g_ineg dJ19_getChars_82 ?_
    obtain ⟨c1, F⟩ := F
    obtain ⟨k2, F⟩ := F
    refine h_bald rfl c1 k2 dJ19_getChars_83 ?_
    obtain ⟨a3, e4, F⟩ := F
    obtain ⟨c5, F⟩ := F
    obtain ⟨m6, F⟩ := F
    obtain ⟨k7, F⟩ := F
    refine h_bast e4 c5 m6 k7 dJ19_getChars_84 ?_
    refine g_iload_n dJ19_getChars_85 rfl 0 rfl ?_
    refine g_bipush (v := (-9)) dJ19_getChars_86 (by decide) ?_
    refine g_icmp_ge 104 dJ19_getChars_88 (by decide) (fun h15 => ?_) (fun h15 => ?_)
    · have F := F.1 h15
      refine g_iload dJ19_getChars_104 4 rfl ?_
      refine g_if_eq 118 dJ19_getChars_106 (by decide) (fun h9 => ?_) (fun h9 => ?_)
      · have F := F.1 h9
        refine g_iload dJ19_getChars_118 3 rfl ?_
        exact g_iret rfl dJ19_getChars_120 F
      · have F := F.2 h9
        refine g_aload_n dJ19_getChars_109 rfl 2 rfl ?_
        refine s_iinc (v := ((p5 + (-1)) + (-1))) (lv' := [(0, .int p0), (1, .int p1), (2, va_rf p2), (5, .int ((p5 + (-1)) + (-1))), (6, .int p6)]) (cat_I (cat_I (cat_R (cat_I (cat_I cat_nil))))) dJ19_getChars_110 (k0 := 3) rfl rfl (by decide) rfl [1, 2, 3, 0, 4] rfl ?_
        refine g_iload dJ19_getChars_113 3 rfl ?_
        refine g_bipush (v := 45) dJ19_getChars_115 (by decide) ?_
        obtain ⟨k8, F⟩ := F
        refine h_bast e4 c5 m6 k8 dJ19_getChars_117 ?_
        refine g_iload dJ19_getChars_118 3 rfl ?_
        exact g_iret rfl dJ19_getChars_120 F
    · have F := F.2 h15
      refine g_aload_n dJ19_getChars_91 rfl 2 rfl ?_
      refine s_iinc (v := ((p5 + (-1)) + (-1))) (lv' := [(0, .int p0), (1, .int p1), (2, va_rf p2), (5, .int ((p5 + (-1)) + (-1))), (6, .int p6)]) (cat_I (cat_I (cat_R (cat_I (cat_I cat_nil))))) dJ19_getChars_92 (k0 := 3) rfl rfl (by decide) rfl [1, 2, 3, 0, 4] rfl ?_
      refine g_iload dJ19_getChars_95 3 rfl ?_
      refine g_getsr (C := "java/lang/Integer") (n := "DigitTens") (d := "[B") (i := 3) (by decide) q1553 rfl dJ19_getChars_97 ?_
      refine g_iload_n dJ19_getChars_100 rfl 0 rfl ?_
      refine g_ineg dJ19_getChars_101 ?_
      obtain ⟨c10, F⟩ := F
      obtain ⟨k11, F⟩ := F
      refine h_bald rfl c10 k11 dJ19_getChars_102 ?_
      obtain ⟨k12, F⟩ := F
      refine h_bast e4 c5 m6 k12 dJ19_getChars_103 ?_
      refine g_iload dJ19_getChars_104 4 rfl ?_
      refine g_if_eq 118 dJ19_getChars_106 (by decide) (fun h14 => ?_) (fun h14 => ?_)
      · have F := F.1 h14
        refine g_iload dJ19_getChars_118 3 rfl ?_
        exact g_iret rfl dJ19_getChars_120 F
      · have F := F.2 h14
        refine g_aload_n dJ19_getChars_109 rfl 2 rfl ?_
        refine s_iinc (v := (((p5 + (-1)) + (-1)) + (-1))) (lv' := [(0, .int p0), (1, .int p1), (2, va_rf p2), (5, .int (((p5 + (-1)) + (-1)) + (-1))), (6, .int p6)]) (cat_I (cat_I (cat_R (cat_I (cat_I cat_nil))))) dJ19_getChars_110 (k0 := 3) rfl rfl (by decide) rfl [1, 2, 3, 0, 4] rfl ?_
        refine g_iload dJ19_getChars_113 3 rfl ?_
        refine g_bipush (v := 45) dJ19_getChars_115 (by decide) ?_
        obtain ⟨k13, F⟩ := F
        refine h_bast e4 c5 m6 k13 dJ19_getChars_117 ?_
        refine g_iload dJ19_getChars_118 3 rfl ?_
        exact g_iret rfl dJ19_getChars_120 F
  · have F := F.2 h26
    refine g_iload_n dJ19_getChars_28 rfl 0 rfl ?_
    refine g_bipush (v := 100) dJ19_getChars_29 (by decide) ?_
    refine g_idiv dJ19_getChars_31 (by decide) ?_
    refine s_istore_n (lv' := [(0, .int p0), (1, .int p1), (2, va_rf p2), (3, .int (p0 / 100)), (5, .int p5), (6, .int p6)]) (cat_I (cat_I (cat_R (cat_I (cat_I cat_nil))))) dJ19_getChars_32 rfl (by decide) rfl [1, 2, 3, 0, 4, 5] rfl ?_
    refine g_iload_n dJ19_getChars_33 rfl 3 rfl ?_
    refine g_bipush (v := 100) dJ19_getChars_34 (by decide) ?_
    refine g_imul dJ19_getChars_36 ?_
    refine g_iload_n dJ19_getChars_37 rfl 0 rfl ?_
    refine g_isub dJ19_getChars_38 ?_
    refine s_istore (lv' := [(0, .int p0), (1, .int p1), (2, va_rf p2), (3, .int (p0 / 100)), (4, .int (((p0 / 100) * 100) - p0)), (5, .int p5), (6, .int p6)]) (cat_I (cat_I (cat_R (cat_I (cat_I (cat_I cat_nil)))))) dJ19_getChars_39 (by decide) rfl [1, 2, 3, 4, 0, 5, 6] rfl ?_
    refine g_iload_n dJ19_getChars_41 rfl 3 rfl ?_
    refine s_istore_n (lv' := [(0, .int (p0 / 100)), (1, .int p1), (2, va_rf p2), (3, .int (p0 / 100)), (4, .int (((p0 / 100) * 100) - p0)), (5, .int p5), (6, .int p6)]) (cat_I (cat_I (cat_R (cat_I (cat_I (cat_I (cat_I cat_nil))))))) dJ19_getChars_42 rfl (by decide) rfl [0, 1, 2, 3, 4, 5, 6] rfl ?_
    refine g_aload_n dJ19_getChars_43 rfl 2 rfl ?_
    refine s_iinc (v := (p5 + (-1))) (lv' := [(0, .int (p0 / 100)), (1, .int p1), (2, va_rf p2), (3, .int (p0 / 100)), (4, .int (((p0 / 100) * 100) - p0)), (5, .int (p5 + (-1))), (6, .int p6)]) (cat_I (cat_I (cat_R (cat_I (cat_I (cat_I (cat_I cat_nil))))))) dJ19_getChars_44 (k0 := 5) rfl rfl (by decide) rfl [1, 2, 3, 4, 5, 0, 6] rfl ?_
    refine g_iload dJ19_getChars_47 5 rfl ?_
    refine g_getsr (C := "java/lang/Integer") (n := "DigitOnes") (d := "[B") (i := 2) (by decide) q1551 rfl dJ19_getChars_49 ?_
    refine g_iload dJ19_getChars_52 4 rfl ?_
    obtain ⟨c16, F⟩ := F
    obtain ⟨k17, F⟩ := F
    refine h_bald rfl c16 k17 dJ19_getChars_54 ?_
    obtain ⟨a18, e19, F⟩ := F
    obtain ⟨c20, F⟩ := F
    obtain ⟨m21, F⟩ := F
    obtain ⟨k22, F⟩ := F
    refine h_bast e19 c20 m21 k22 dJ19_getChars_55 ?_
    refine g_aload_n dJ19_getChars_56 rfl 2 rfl ?_
    refine s_iinc (v := ((p5 + (-1)) + (-1))) (lv' := [(0, .int (p0 / 100)), (1, .int p1), (2, va_rf p2), (3, .int (p0 / 100)), (4, .int (((p0 / 100) * 100) - p0)), (5, .int ((p5 + (-1)) + (-1))), (6, .int p6)]) (cat_I (cat_I (cat_R (cat_I (cat_I (cat_I (cat_I cat_nil))))))) dJ19_getChars_57 (k0 := 5) rfl rfl (by decide) rfl [1, 2, 3, 4, 5, 0, 6] rfl ?_
    refine g_iload dJ19_getChars_60 5 rfl ?_
    refine g_getsr (C := "java/lang/Integer") (n := "DigitTens") (d := "[B") (i := 3) (by decide) q1553 rfl dJ19_getChars_62 ?_
    refine g_iload dJ19_getChars_65 4 rfl ?_
    obtain ⟨c23, F⟩ := F
    obtain ⟨k24, F⟩ := F
    refine h_bald rfl c23 k24 dJ19_getChars_67 ?_
    obtain ⟨k25, F⟩ := F
    refine h_bast e19 c20 m21 k25 dJ19_getChars_68 ?_
    refine g_goto 22 dJ19_getChars_69 (by decide) ?_
    refine GW.lsub (lv' := [(0, .int (p0 / 100)), (1, .int p1), (2, va_rf p2), (5, .int ((p5 + (-1)) + (-1))), (6, .int p6)]) [0, 1, 2, 5, 6] rfl ?_
    exact F
theorem rJ16_init_0 {Γ : GE} {l : Launch} {h MC MS : Nat} {Q : Option Value → GH → Prop} {bc bs : Nat} {G : GH} (x : Nat) (p1 : Int32) (p2 : Option Nat) (p3 : Option Nat) (p4 : Option Nat) (F : (0 < h ∧ (gC G x = kO 12 ∨ gC G x = kO 13) ∧ gM G x = true ∧ Q none (ndsR (ndsR (ndsR (ndsI G x 0 p1) x 1 p2) x 2 p3) x 3 p4))) : GW Γ l mJ16_init h MC MS Q 0 [(0, va_rf (some x)), (1, .int p1), (2, va_rf p2), (3, va_rf p3), (4, va_rf p4)] [] G bc bs := by
  refine g_aload_n dJ16_init_0 rfl 0 rfl ?_
  obtain ⟨k1, F⟩ := F
  refine h_objInit q701 q152 q153 rfl dJ16_init_1 k1 (room_of sc_nil (Nat.le_of_ble_eq_true rfl)) ?_
  refine g_aload_n dJ16_init_4 rfl 0 rfl ?_
  refine g_iload_n dJ16_init_5 rfl 1 rfl ?_
  obtain ⟨c2, F⟩ := F
  obtain ⟨m3, F⟩ := F
  refine h_putNDI (mi := mJ16_init) 0 (by decide) q702 (Or.inr ⟨rfl, rfl⟩) rfl c2 m3 dJ16_init_6 ?_
  refine g_aload_n dJ16_init_9 rfl 0 rfl ?_
  refine g_aload_n dJ16_init_10 rfl 2 rfl ?_
  refine h_putNDR (mi := mJ16_init) 1 (by decide) q706 (Or.inr ⟨rfl, rfl⟩) rfl c2 m3 dJ16_init_11 ?_
  refine g_aload_n dJ16_init_14 rfl 0 rfl ?_
  refine g_aload_n dJ16_init_15 rfl 3 rfl ?_
  refine h_putNDR (mi := mJ16_init) 2 (by decide) q710 (Or.inl rfl) rfl c2 m3 dJ16_init_16 ?_
  refine g_aload_n dJ16_init_19 rfl 0 rfl ?_
  refine g_aload dJ16_init_20 4 rfl ?_
  refine h_putNDR (mi := mJ16_init) 3 (by decide) q712 (Or.inl rfl) rfl c2 m3 dJ16_init_22 ?_
  exact g_vret rfl dJ16_init_25 F
theorem rJ9_init_0 {Γ : GE} {l : Launch} {h MC MS : Nat} {Q : Option Value → GH → Prop} {bc bs : Nat} {G : GH} (x : Nat) (F : (cV Γ l h mJ8_init [.ref x] G bc bs fun Gr1 br1 sr1 => 1 ≤ br1 ∧ 8 ≤ sr1 ∧ ∀ q3, gC Gr1 q3 = 0 → gA Γ q3 → cV Γ l h mJ11_init [.ref q3] (nO Gr1 q3 11) (br1 - 1) (sr1 - 8) fun Gr8 br8 sr8 => gC Gr8 x = kO 10 ∧ gM Gr8 x = true ∧ Q none (sR Gr8 x 0 (some q3)))) : GW Γ l mJ9_init h MC MS Q 0 [(0, va_rf (some x))] [] G bc bs := by
  refine g_aload_n dJ9_init_0 rfl 0 rfl ?_
  refine h_callIV (As := []) (rest := []) F 0 rfl rfl (lw_meth q513) q120 q511 q512 rfl vm_J8_init.2 (by decide) rfl rfl (room_of sc_nil (Nat.le_of_ble_eq_true rfl)) dJ9_init_1 (fun Gr1 br1 sr1 F => ?_)
  refine g_aload_n dJ9_init_4 rfl 0 rfl ?_
  obtain ⟨k5, F⟩ := F
  obtain ⟨k6, F⟩ := F
  refine g_new (C := RJ11) (T := TJ11) (N := 8) 11 rfl in_J11 tyJ11_ok nd_J11 q515 q516 q123 k5 k6 dJ9_init_5 (fun q3 z4 z4' => ?_)
  have F := F q3 z4 z4'
  refine g_dup dJ9_init_8 (va_rf_cat _) ?_
  refine h_callIV (As := []) (rest := [va_rf (some q3), va_rf (some x)]) F 0 rfl rfl (lw_meth q519) q123 q517 q518 rfl vm_J11_init.2 (by decide) rfl rfl (room_of (sc_R (sc_R sc_nil)) (Nat.le_of_ble_eq_true rfl)) dJ9_init_9 (fun Gr8 br8 sr8 F => ?_)
  obtain ⟨c10, F⟩ := F
  obtain ⟨m11, F⟩ := F
  refine h_putR (mi := mJ9_init) 10 0 (C := RJ9) (T := TJ9) (N := 1) rfl in_J9 tyJ9_ok nmJ9 (by decide) q547 (Or.inl rfl) (Or.inl rfl) rfl rfl rfl c10 m11 dJ9_init_12 ?_
  exact g_vret rfl dJ9_init_15 F
theorem rJ9_add_0 {Γ : GE} {l : Launch} {h MC MS : Nat} {Q : Option Value → GH → Prop} {bc bs : Nat} {G : GH} (x : Nat) (p1 : Option Nat) (F : (gC G x = kO 10 ∧ ∃ a3, (gR G x 0) = some a3 ∧ gC G a3 = kO 11 ∧ cR Γ l h mJ11_put [.ref a3, va_rf p1, va_rf (some (Γ.2.2.2 1))] G bc bs fun r2 Gr2 br2 sr2 => ((∀ a7, r2 = some a7 → (Q (some (.int 0)) Gr2)) ∧ (r2 = none → (Q (some (.int 1)) Gr2))))) : GW Γ l mJ9_add h MC MS Q 0 [(0, va_rf (some x)), (1, va_rf p1)] [] G bc bs := by
  refine g_aload_n dJ9_add_0 rfl 0 rfl ?_
  obtain ⟨c1, F⟩ := F
  refine h_get (v := va_rf (gR G x 0)) 10 0 (C := RJ9) (T := TJ9) (N := 1) rfl in_J9 (by decide) q547 (Or.inl rfl) rfl c1 rfl dJ9_add_1 ?_
  refine g_aload_n dJ9_add_4 rfl 1 rfl ?_
  refine g_getsr (C := "java/util/HashSet") (n := "PRESENT") (d := "Ljava/lang/Object;") (i := 1) (by decide) q577 rfl dJ9_add_5 ?_
  obtain ⟨a3, e4, F⟩ := F
  obtain ⟨c5, F⟩ := F
  refine h_callVR (ci := 11) (C := RJ11) (T := TJ11) (N := 8) (As := [va_rf p1, va_rf (some (Γ.2.2.2 1))]) (rest := []) F 2 rfl rfl (lw_V q579 q580 q581 q123 q582) vm_J11_put (by decide) e4 c5 rfl (room_of sc_nil (Nat.le_of_ble_eq_true rfl)) dJ9_add_8 (fun r2 Gr2 br2 sr2 F => ?_)
  refine g_ifnonnull 18 dJ9_add_11 (by decide) (fun a7 e8 => ?_) (fun e8 => ?_)
  · have F := F.1 a7 e8
    refine g_iconst (v := 0) dJ9_add_18 (by decide) ?_
    exact g_zret rfl rfl dJ9_add_19 F
  · have F := F.2 e8
    refine g_iconst (v := 1) dJ9_add_14 (by decide) ?_
    refine g_goto 19 dJ9_add_15 (by decide) ?_
    exact g_zret rfl rfl dJ9_add_19 F
theorem rJ9_contains_0 {Γ : GE} {l : Launch} {h MC MS : Nat} {Q : Option Value → GH → Prop} {bc bs : Nat} {G : GH} (x : Nat) (p1 : Option Nat) (F : (gC G x = kO 10 ∧ ∃ a3, (gR G x 0) = some a3 ∧ gC G a3 = kO 11 ∧ cI Γ l h mJ11_containsKey [.ref a3, va_rf p1] G bc bs fun r2 Gr2 br2 sr2 => narrow .boolean (.int r2) = .int r2 ∧ Q (some (.int r2)) Gr2)) : GW Γ l mJ9_contains h MC MS Q 0 [(0, va_rf (some x)), (1, va_rf p1)] [] G bc bs := by
  refine g_aload_n dJ9_contains_0 rfl 0 rfl ?_
  obtain ⟨c1, F⟩ := F
  refine h_get (v := va_rf (gR G x 0)) 10 0 (C := RJ9) (T := TJ9) (N := 1) rfl in_J9 (by decide) q547 (Or.inl rfl) rfl c1 rfl dJ9_contains_1 ?_
  refine g_aload_n dJ9_contains_4 rfl 1 rfl ?_
  obtain ⟨a3, e4, F⟩ := F
  obtain ⟨c5, F⟩ := F
  refine h_callVI (ci := 11) (C := RJ11) (T := TJ11) (N := 8) (As := [va_rf p1]) (rest := []) F 1 rfl rfl (lw_V q1052 q1053 q1054 q123 q1055) vm_J11_containsKey (by decide) e4 c5 rfl (room_of sc_nil (Nat.le_of_ble_eq_true rfl)) dJ9_contains_5 (fun r2 Gr2 br2 sr2 F => ?_)
  obtain ⟨k7, F⟩ := F
  exact g_zret rfl k7 dJ9_contains_8 F
theorem rJ13_checkIndex_0 {Γ : GE} {l : Launch} {h MC MS : Nat} {Q : Option Value → GH → Prop} {bc bs : Nat} {G : GH} (p0 : Int32) (p1 : Int32) (p2 : Option Nat) (F : ((p0 < 0 → (False)) ∧ (¬ p0 < 0 → ((p0 < p1 → (Q (some (.int p0)) G)) ∧ (¬ p0 < p1 → (False)))))) : GW Γ l mJ13_checkIndex h MC MS Q 0 [(0, .int p0), (1, .int p1), (2, va_rf p2)] [] G bc bs := by
  refine g_iload_n dJ13_checkIndex_0 rfl 0 rfl ?_
  refine g_if_lt 9 dJ13_checkIndex_1 (by decide) (fun h2 => ?_) (fun h2 => ?_)
  · have F := F.1 h2
    refine g_aload_n dJ13_checkIndex_9 rfl 2 rfl ?_
    refine g_iload_n dJ13_checkIndex_10 rfl 0 rfl ?_
    refine g_iload_n dJ13_checkIndex_11 rfl 1 rfl ?_
    exact F.elim
  · have F := F.2 h2
    refine g_iload_n dJ13_checkIndex_4 rfl 0 rfl ?_
    refine g_iload_n dJ13_checkIndex_5 rfl 1 rfl ?_
    refine g_icmp_lt 16 dJ13_checkIndex_6 (by decide) (fun h1 => ?_) (fun h1 => ?_)
    · have F := F.1 h1
      refine g_iload_n dJ13_checkIndex_16 rfl 0 rfl ?_
      exact g_iret rfl dJ13_checkIndex_17 F
    · have F := F.2 h1
      refine g_aload_n dJ13_checkIndex_9 rfl 2 rfl ?_
      refine g_iload_n dJ13_checkIndex_10 rfl 0 rfl ?_
      refine g_iload_n dJ13_checkIndex_11 rfl 1 rfl ?_
      exact F.elim
theorem rJ3_init_0 {Γ : GE} {l : Launch} {h MC MS : Nat} {Q : Option Value → GH → Prop} {bc bs : Nat} {G : GH} (x : Nat) (p1 : Int32) (F : (0 < h ∧ (((1 : Int32) = 0 → (cR Γ l h mJ6_newBytesFor [.int p1] G bc bs fun r2 Gr2 br2 sr2 => gC Gr2 x = kO 14 ∧ gM Gr2 x = true ∧ Q none (sI (sR Gr2 x 0 r2) x 1 1))) ∧ (¬ (1 : Int32) = 0 → (¬ p1 < 0 ∧ (p1).toNatClampNeg * componentBytes (gtyq 2) ≤ 536870912 ∧ 1 ≤ bc ∧ (p1).toNatClampNeg ≤ bs ∧ ∀ q6, gC G q6 = 0 → gA Γ q6 → gC (nA G q6 2 (p1).toNatClampNeg) x = kO 14 ∧ gM (nA G q6 2 (p1).toNatClampNeg) x = true ∧ Q none (sI (sR (nA G q6 2 (p1).toNatClampNeg) x 0 (some q6)) x 1 0)))))) : GW Γ l mJ3_init h MC MS Q 0 [(0, va_rf (some x)), (1, .int p1)] [] G bc bs := by
  refine g_aload_n dJ3_init_0 rfl 0 rfl ?_
  obtain ⟨k1, F⟩ := F
  refine h_objInit q209 q152 q153 rfl dJ3_init_1 k1 (room_of sc_nil (Nat.le_of_ble_eq_true rfl)) ?_
  refine g_getsi (C := "java/lang/String") (n := "COMPACT_STRINGS") (d := "Z") (v := 1) (by decide) q210 rfl dJ3_init_4 ?_
  refine g_if_eq 25 dJ3_init_7 (by decide) (fun h15 => ?_) (fun h15 => ?_)
  · have F := F.1 h15
    refine g_aload_n dJ3_init_25 rfl 0 rfl ?_
    refine g_iload_n dJ3_init_26 rfl 1 rfl ?_
    refine h_callSR (As := [.int p1]) (rest := [va_rf (some x)]) F 1 rfl (lw_S q212 q213 q116 q214) vm_J6_newBytesFor.2 (by decide) rfl (room_of (sc_R sc_nil) (Nat.le_of_ble_eq_true rfl)) dJ3_init_27 (fun r2 Gr2 br2 sr2 F => ?_)
    obtain ⟨c4, F⟩ := F
    obtain ⟨m5, F⟩ := F
    refine h_putR (mi := mJ3_init) 14 0 (C := RJ4) (T := TJ4) (N := 4) rfl in_J4 tyJ4_ok nmJ4 (by decide) q219 (Or.inl rfl) (Or.inl rfl) rfl rfl rfl c4 m5 dJ3_init_30 ?_
    refine g_aload_n dJ3_init_33 rfl 0 rfl ?_
    refine g_iconst (v := 1) dJ3_init_34 (by decide) ?_
    refine h_putI (mi := mJ3_init) 14 1 (C := RJ4) (T := TJ4) (N := 4) rfl in_J4 tyJ4_ok nmJ4 (by decide) q220 (Or.inl rfl) (Or.inl rfl) rfl rfl c4 m5 rfl rfl dJ3_init_35 ?_
    exact g_vret rfl dJ3_init_38 F
  · have F := F.2 h15
    refine g_aload_n dJ3_init_10 rfl 0 rfl ?_
    refine g_iload_n dJ3_init_11 rfl 1 rfl ?_
    obtain ⟨k7, F⟩ := F
    obtain ⟨k8, F⟩ := F
    obtain ⟨k9, F⟩ := F
    obtain ⟨k10, F⟩ := F
    refine g_newa (atype := .byte) 2 (p1).toNatClampNeg (by decide) rfl q234 k7 rfl k8 k9 k10 dJ3_init_12 (fun q6 z11 z11' => ?_)
    have F := F q6 z11 z11'
    obtain ⟨c13, F⟩ := F
    obtain ⟨m14, F⟩ := F
    refine h_putR (mi := mJ3_init) 14 0 (C := RJ4) (T := TJ4) (N := 4) rfl in_J4 tyJ4_ok nmJ4 (by decide) q219 (Or.inl rfl) (Or.inl rfl) rfl rfl rfl c13 m14 dJ3_init_14 ?_
    refine g_aload_n dJ3_init_17 rfl 0 rfl ?_
    refine g_iconst (v := 0) dJ3_init_18 (by decide) ?_
    refine h_putI (mi := mJ3_init) 14 1 (C := RJ4) (T := TJ4) (N := 4) rfl in_J4 tyJ4_ok nmJ4 (by decide) q220 (Or.inl rfl) (Or.inl rfl) rfl rfl c13 m14 rfl rfl dJ3_init_19 ?_
    refine g_goto 38 dJ3_init_22 (by decide) ?_
    exact g_vret rfl dJ3_init_38 F
theorem rJ3_compareTo_0 {Γ : GE} {l : Launch} {h MC MS : Nat} {Q : Option Value → GH → Prop} {bc bs : Nat} {G : GH} (x : Nat) (p1 : Option Nat) (F : ((¬ (some x) = p1 → (gC G x = kO 14 ∧ ∃ a2, p1 = some a2 ∧ gC G a2 = kO 14 ∧ ((¬ (gI G x 1) = (gI G a2 1) → (cI Γ l h mJ3_isLatin1 [.ref x] G bc bs fun r5 Gr5 br5 sr5 => ((r5 = 0 → (cI Γ l h mJ6_compareToLatin1_2 [va_rf (gR G x 0), va_rf (gR G a2 0), .int (gI G x 3), .int (gI G a2 3)] Gr5 br5 sr5 fun r7 Gr7 br7 sr7 => Q (some (.int r7)) Gr7)) ∧ (¬ r5 = 0 → (cI Γ l h mJ14_compareToUTF16_2 [va_rf (gR G x 0), va_rf (gR G a2 0), .int (gI G x 3), .int (gI G a2 3)] Gr5 br5 sr5 fun r9 Gr9 br9 sr9 => Q (some (.int r9)) Gr9))))) ∧ ((gI G x 1) = (gI G a2 1) → (cI Γ l h mJ3_isLatin1 [.ref x] G bc bs fun r12 Gr12 br12 sr12 => ((r12 = 0 → (cI Γ l h mJ6_compareTo_2 [va_rf (gR G x 0), va_rf (gR G a2 0), .int (gI G x 3), .int (gI G a2 3)] Gr12 br12 sr12 fun r14 Gr14 br14 sr14 => Q (some (.int r14)) Gr14)) ∧ (¬ r12 = 0 → (cI Γ l h mJ14_compareTo_2 [va_rf (gR G x 0), va_rf (gR G a2 0), .int (gI G x 3), .int (gI G a2 3)] Gr12 br12 sr12 fun r16 Gr16 br16 sr16 => Q (some (.int r16)) Gr16)))))))) ∧ ((some x) = p1 → (Q (some (.int 0)) G)))) : GW Γ l mJ3_compareTo h MC MS Q 0 [(0, va_rf (some x)), (1, va_rf p1)] [] G bc bs := by
  refine g_aload_n dJ3_compareTo_0 rfl 0 rfl ?_
  refine g_aload_n dJ3_compareTo_1 rfl 1 rfl ?_
  refine g_acmp_ne 7 dJ3_compareTo_2 (by decide) (fun h20 => ?_) (fun h20 => ?_)
  · have F := F.1 h20
    refine g_aload_n dJ3_compareTo_7 rfl 0 rfl ?_
    obtain ⟨c1, F⟩ := F
    refine h_get (v := va_rf (gR G x 0)) 14 0 (C := RJ4) (T := TJ4) (N := 4) rfl in_J4 (by decide) q219 (Or.inl rfl) rfl c1 rfl dJ3_compareTo_8 ?_
    refine s_astore_n (lv' := [(0, va_rf (some x)), (1, va_rf p1), (2, va_rf (gR G x 0))]) (cat_R (cat_R cat_nil)) dJ3_compareTo_11 rfl (by decide) rfl [1, 2, 0] rfl ?_
    refine g_aload_n dJ3_compareTo_12 rfl 1 rfl ?_
    obtain ⟨a2, e3, F⟩ := F
    obtain ⟨c4, F⟩ := F
    refine h_get (v := va_rf (gR G a2 0)) 14 0 (C := RJ4) (T := TJ4) (N := 4) rfl in_J4 (by decide) q219 (Or.inl rfl) e3 c4 rfl dJ3_compareTo_13 ?_
    refine s_astore_n (lv' := [(0, va_rf (some x)), (1, va_rf p1), (2, va_rf (gR G x 0)), (3, va_rf (gR G a2 0))]) (cat_R (cat_R (cat_R cat_nil))) dJ3_compareTo_16 rfl (by decide) rfl [1, 2, 3, 0] rfl ?_
    refine g_aload_n dJ3_compareTo_17 rfl 0 rfl ?_
    refine h_get (v := .int (gI G x 3)) 14 3 (C := RJ4) (T := TJ4) (N := 4) rfl in_J4 (by decide) q223 (Or.inl rfl) rfl c1 rfl dJ3_compareTo_18 ?_
    refine s_istore (lv' := [(0, va_rf (some x)), (1, va_rf p1), (2, va_rf (gR G x 0)), (3, va_rf (gR G a2 0)), (4, .int (gI G x 3))]) (cat_R (cat_R (cat_R (cat_R cat_nil)))) dJ3_compareTo_21 (by decide) rfl [1, 2, 3, 4, 0] rfl ?_
    refine g_aload_n dJ3_compareTo_23 rfl 1 rfl ?_
    refine h_get (v := .int (gI G a2 3)) 14 3 (C := RJ4) (T := TJ4) (N := 4) rfl in_J4 (by decide) q223 (Or.inl rfl) e3 c4 rfl dJ3_compareTo_24 ?_
    refine s_istore (lv' := [(0, va_rf (some x)), (1, va_rf p1), (2, va_rf (gR G x 0)), (3, va_rf (gR G a2 0)), (4, .int (gI G x 3)), (5, .int (gI G a2 3))]) (cat_R (cat_R (cat_R (cat_R (cat_I cat_nil))))) dJ3_compareTo_27 (by decide) rfl [1, 2, 3, 4, 5, 0] rfl ?_
    refine g_aload_n dJ3_compareTo_29 rfl 0 rfl ?_
    refine h_get (v := .int (gI G x 1)) 14 1 (C := RJ4) (T := TJ4) (N := 4) rfl in_J4 (by decide) q220 (Or.inl rfl) rfl c1 rfl dJ3_compareTo_30 ?_
    refine g_aload_n dJ3_compareTo_33 rfl 1 rfl ?_
    refine h_get (v := .int (gI G a2 1)) 14 1 (C := RJ4) (T := TJ4) (N := 4) rfl in_J4 (by decide) q220 (Or.inl rfl) e3 c4 rfl dJ3_compareTo_34 ?_
    refine g_icmp_ne 69 dJ3_compareTo_37 (by decide) (fun h19 => ?_) (fun h19 => ?_)
    · have F := F.1 h19
      refine g_aload_n dJ3_compareTo_69 rfl 0 rfl ?_
      refine h_callUI (ci := 14) (x := ⟨"java/lang/AbstractStringBuilder", "isLatin1", "()Z"⟩) (owner := "java/lang/AbstractStringBuilder") (C := RJ4) (T := TJ4) (N := 4) (As := []) (rest := []) F 0 rfl rfl (hasW.all q909) (hasW.all q911) (hasD.of q910 q913) (hasW.all q912) q910 q113 q913 ⟨by decide +kernel, by decide +kernel, by decide +kernel⟩ (by decide) rfl c1 rfl (room_of sc_nil (Nat.le_of_ble_eq_true rfl)) dJ3_compareTo_70 (fun r5 Gr5 br5 sr5 F => ?_)
      refine g_if_eq 88 dJ3_compareTo_73 (by decide) (fun h11 => ?_) (fun h11 => ?_)
      · have F := F.1 h11
        refine g_aload_n dJ3_compareTo_88 rfl 2 rfl ?_
        refine g_aload_n dJ3_compareTo_89 rfl 3 rfl ?_
        refine g_iload dJ3_compareTo_90 4 rfl ?_
        refine g_iload dJ3_compareTo_92 5 rfl ?_
        refine h_callSI (As := [va_rf (gR G x 0), va_rf (gR G a2 0), .int (gI G x 3), .int (gI G a2 3)]) (rest := []) F 4 rfl (lw_S q933 q934 q116 q935) vm_J6_compareToLatin1_2.2 (by decide) rfl (room_of sc_nil (Nat.le_of_ble_eq_true rfl)) dJ3_compareTo_94 (fun r7 Gr7 br7 sr7 F => ?_)
        exact g_iret rfl dJ3_compareTo_97 F
      · have F := F.2 h11
        refine g_aload_n dJ3_compareTo_76 rfl 2 rfl ?_
        refine g_aload_n dJ3_compareTo_77 rfl 3 rfl ?_
        refine g_iload dJ3_compareTo_78 4 rfl ?_
        refine g_iload dJ3_compareTo_80 5 rfl ?_
        refine h_callSI (As := [va_rf (gR G x 0), va_rf (gR G a2 0), .int (gI G x 3), .int (gI G a2 3)]) (rest := []) F 4 rfl (lw_S q929 q930 q127 q931) vm_J14_compareToUTF16_2.2 (by decide) rfl (room_of sc_nil (Nat.le_of_ble_eq_true rfl)) dJ3_compareTo_82 (fun r9 Gr9 br9 sr9 F => ?_)
        refine g_goto 97 dJ3_compareTo_85 (by decide) ?_
        exact g_iret rfl dJ3_compareTo_97 F
    · have F := F.2 h19
      refine g_aload_n dJ3_compareTo_40 rfl 0 rfl ?_
      refine h_callUI (ci := 14) (x := ⟨"java/lang/AbstractStringBuilder", "isLatin1", "()Z"⟩) (owner := "java/lang/AbstractStringBuilder") (C := RJ4) (T := TJ4) (N := 4) (As := []) (rest := []) F 0 rfl rfl (hasW.all q909) (hasW.all q911) (hasD.of q910 q913) (hasW.all q912) q910 q113 q913 ⟨by decide +kernel, by decide +kernel, by decide +kernel⟩ (by decide) rfl c1 rfl (room_of sc_nil (Nat.le_of_ble_eq_true rfl)) dJ3_compareTo_41 (fun r12 Gr12 br12 sr12 F => ?_)
      refine g_if_eq 59 dJ3_compareTo_44 (by decide) (fun h18 => ?_) (fun h18 => ?_)
      · have F := F.1 h18
        refine g_aload_n dJ3_compareTo_59 rfl 2 rfl ?_
        refine g_aload_n dJ3_compareTo_60 rfl 3 rfl ?_
        refine g_iload dJ3_compareTo_61 4 rfl ?_
        refine g_iload dJ3_compareTo_63 5 rfl ?_
        refine h_callSI (As := [va_rf (gR G x 0), va_rf (gR G a2 0), .int (gI G x 3), .int (gI G a2 3)]) (rest := []) F 4 rfl (lw_S q915 q916 q116 q917) vm_J6_compareTo_2.2 (by decide) rfl (room_of sc_nil (Nat.le_of_ble_eq_true rfl)) dJ3_compareTo_65 (fun r14 Gr14 br14 sr14 F => ?_)
        exact g_iret rfl dJ3_compareTo_68 F
      · have F := F.2 h18
        refine g_aload_n dJ3_compareTo_47 rfl 2 rfl ?_
        refine g_aload_n dJ3_compareTo_48 rfl 3 rfl ?_
        refine g_iload dJ3_compareTo_49 4 rfl ?_
        refine g_iload dJ3_compareTo_51 5 rfl ?_
        refine h_callSI (As := [va_rf (gR G x 0), va_rf (gR G a2 0), .int (gI G x 3), .int (gI G a2 3)]) (rest := []) F 4 rfl (lw_S q914 q763 q127 q764) vm_J14_compareTo_2.2 (by decide) rfl (room_of sc_nil (Nat.le_of_ble_eq_true rfl)) dJ3_compareTo_53 (fun r16 Gr16 br16 sr16 F => ?_)
        refine g_goto 68 dJ3_compareTo_56 (by decide) ?_
        exact g_iret rfl dJ3_compareTo_68 F
  · have F := F.2 h20
    refine g_iconst (v := 0) dJ3_compareTo_5 (by decide) ?_
    exact g_iret rfl dJ3_compareTo_6 F
theorem rJ3_isLatin1_0 {Γ : GE} {l : Launch} {h MC MS : Nat} {Q : Option Value → GH → Prop} {bc bs : Nat} {G : GH} (x : Nat) (F : (((1 : Int32) = 0 → (Q (some (.int 0)) G)) ∧ (¬ (1 : Int32) = 0 → (gC G x = kO 14 ∧ ((¬ (gI G x 1) = 0 → (Q (some (.int 0)) G)) ∧ ((gI G x 1) = 0 → (Q (some (.int 1)) G))))))) : GW Γ l mJ3_isLatin1 h MC MS Q 0 [(0, va_rf (some x))] [] G bc bs := by
  refine g_getsi (C := "java/lang/String") (n := "COMPACT_STRINGS") (d := "Z") (v := 1) (by decide) q210 rfl dJ3_isLatin1_0 ?_
  refine g_if_eq 17 dJ3_isLatin1_3 (by decide) (fun h3 => ?_) (fun h3 => ?_)
  · have F := F.1 h3
    refine g_iconst (v := 0) dJ3_isLatin1_17 (by decide) ?_
    exact g_zret rfl rfl dJ3_isLatin1_18 F
  · have F := F.2 h3
    refine g_aload_n dJ3_isLatin1_6 rfl 0 rfl ?_
    obtain ⟨c1, F⟩ := F
    refine h_get (v := .int (gI G x 1)) 14 1 (C := RJ4) (T := TJ4) (N := 4) rfl in_J4 (by decide) q220 (Or.inl rfl) rfl c1 rfl dJ3_isLatin1_7 ?_
    refine g_if_ne 17 dJ3_isLatin1_10 (by decide) (fun h2 => ?_) (fun h2 => ?_)
    · have F := F.1 h2
      refine g_iconst (v := 0) dJ3_isLatin1_17 (by decide) ?_
      exact g_zret rfl rfl dJ3_isLatin1_18 F
    · have F := F.2 h2
      refine g_iconst (v := 1) dJ3_isLatin1_13 (by decide) ?_
      refine g_goto 18 dJ3_isLatin1_14 (by decide) ?_
      exact g_zret rfl rfl dJ3_isLatin1_18 F
theorem rJ3_append_0 {Γ : GE} {l : Launch} {h MC MS : Nat} {Q : Option Value → GH → Prop} {bc bs : Nat} {G : GH} (x : Nat) (p1 : Int32) (F : (gC G x = kO 14 ∧ cI Γ l h mJ19_stringSize [.int p1] G bc bs fun r2 Gr2 br2 sr2 => gC Gr2 x = kO 14 ∧ cV Γ l h mJ3_ensureCapacityInternal [.ref x, .int ((gI G x 3) + r2)] Gr2 br2 sr2 fun Gr4 br4 sr4 => gC Gr4 x = kO 14 ∧ cI Γ l h mJ3_isLatin1 [.ref x] Gr4 br4 sr4 fun r7 Gr7 br7 sr7 => ((r7 = 0 → (gC Gr7 x = kO 14 ∧ cI Γ l h mJ6_getChars [.int p1, .int (gI G x 3), .int ((gI G x 3) + r2), va_rf (gR Gr7 x 0)] Gr7 br7 sr7 fun r11 Gr11 br11 sr11 => gC Gr11 x = kO 14 ∧ gM Gr11 x = true ∧ Q (some (va_rf (some x))) (sI Gr11 x 3 ((gI G x 3) + r2)))) ∧ (¬ r7 = 0 → (gC Gr7 x = kO 14 ∧ cI Γ l h mJ19_getChars [.int p1, .int ((gI G x 3) + r2), va_rf (gR Gr7 x 0)] Gr7 br7 sr7 fun r16 Gr16 br16 sr16 => gC Gr16 x = kO 14 ∧ gM Gr16 x = true ∧ Q (some (va_rf (some x))) (sI Gr16 x 3 ((gI G x 3) + r2))))))) : GW Γ l mJ3_append h MC MS Q 0 [(0, va_rf (some x)), (1, .int p1)] [] G bc bs := by
  refine g_aload_n dJ3_append_0 rfl 0 rfl ?_
  obtain ⟨c1, F⟩ := F
  refine h_get (v := .int (gI G x 3)) 14 3 (C := RJ4) (T := TJ4) (N := 4) rfl in_J4 (by decide) q223 (Or.inl rfl) rfl c1 rfl dJ3_append_1 ?_
  refine s_istore_n (lv' := [(0, va_rf (some x)), (1, .int p1), (2, .int (gI G x 3))]) (cat_R (cat_I cat_nil)) dJ3_append_4 rfl (by decide) rfl [1, 2, 0] rfl ?_
  refine g_iload_n dJ3_append_5 rfl 2 rfl ?_
  refine g_iload_n dJ3_append_6 rfl 1 rfl ?_
  refine h_callSI (As := [.int p1]) (rest := [.int (gI G x 3)]) F 1 rfl (lw_S q1525 q1526 q134 q1527) vm_J19_stringSize.2 (by decide) rfl (room_of (sc_I sc_nil) (Nat.le_of_ble_eq_true rfl)) dJ3_append_7 (fun r2 Gr2 br2 sr2 F => ?_)
  refine g_iadd dJ3_append_10 ?_
  refine s_istore_n (lv' := [(0, va_rf (some x)), (1, .int p1), (2, .int (gI G x 3)), (3, .int ((gI G x 3) + r2))]) (cat_R (cat_I (cat_I cat_nil))) dJ3_append_11 rfl (by decide) rfl [1, 2, 3, 0] rfl ?_
  refine g_aload_n dJ3_append_12 rfl 0 rfl ?_
  refine g_iload_n dJ3_append_13 rfl 3 rfl ?_
  obtain ⟨c5, F⟩ := F
  refine h_callUV (ci := 14) (x := ⟨"java/lang/AbstractStringBuilder", "ensureCapacityInternal", "(I)V"⟩) (owner := "java/lang/AbstractStringBuilder") (C := RJ4) (T := TJ4) (N := 4) (As := [.int ((gI G x 3) + r2)]) (rest := []) F 1 rfl rfl (hasW.all q1528) (hasW.all q2508) (hasD.of q1530 q1531) (hasW.kw (by decide +kernel)) q1530 q113 q1531 ⟨by decide +kernel, by decide +kernel, by decide +kernel⟩ (by decide) rfl c5 rfl (room_of sc_nil (Nat.le_of_ble_eq_true rfl)) dJ3_append_14 (fun Gr4 br4 sr4 F => ?_)
  refine g_aload_n dJ3_append_17 rfl 0 rfl ?_
  obtain ⟨c8, F⟩ := F
  refine h_callUI (ci := 14) (x := ⟨"java/lang/AbstractStringBuilder", "isLatin1", "()Z"⟩) (owner := "java/lang/AbstractStringBuilder") (C := RJ4) (T := TJ4) (N := 4) (As := []) (rest := []) F 0 rfl rfl (hasW.all q909) (hasW.all q911) (hasD.of q910 q913) (hasW.all q912) q910 q113 q913 ⟨by decide +kernel, by decide +kernel, by decide +kernel⟩ (by decide) rfl c8 rfl (room_of sc_nil (Nat.le_of_ble_eq_true rfl)) dJ3_append_18 (fun r7 Gr7 br7 sr7 F => ?_)
  refine g_if_eq 37 dJ3_append_21 (by decide) (fun h20 => ?_) (fun h20 => ?_)
  · have F := F.1 h20
    refine g_iload_n dJ3_append_37 rfl 1 rfl ?_
    refine g_iload_n dJ3_append_38 rfl 2 rfl ?_
    refine g_iload_n dJ3_append_39 rfl 3 rfl ?_
    refine g_aload_n dJ3_append_40 rfl 0 rfl ?_
    obtain ⟨c10, F⟩ := F
    refine h_get (v := va_rf (gR Gr7 x 0)) 14 0 (C := RJ4) (T := TJ4) (N := 4) rfl in_J4 (by decide) q219 (Or.inl rfl) rfl c10 rfl dJ3_append_41 ?_
    refine h_callSI (As := [.int p1, .int (gI G x 3), .int ((gI G x 3) + r2), va_rf (gR Gr7 x 0)]) (rest := []) F 4 rfl (lw_S q1555 q1556 q116 q1557) vm_J6_getChars.2 (by decide) rfl (room_of sc_nil (Nat.le_of_ble_eq_true rfl)) dJ3_append_44 (fun r11 Gr11 br11 sr11 F => ?_)
    refine g_pop dJ3_append_47 rfl ?_
    refine g_aload_n dJ3_append_48 rfl 0 rfl ?_
    refine g_iload_n dJ3_append_49 rfl 3 rfl ?_
    obtain ⟨c13, F⟩ := F
    obtain ⟨m14, F⟩ := F
    refine h_putI (mi := mJ3_append) 14 3 (C := RJ4) (T := TJ4) (N := 4) rfl in_J4 tyJ4_ok nmJ4 (by decide) q223 (Or.inl rfl) (Or.inl rfl) rfl rfl c13 m14 rfl rfl dJ3_append_50 ?_
    refine g_aload_n dJ3_append_53 rfl 0 rfl ?_
    exact g_aret (r := (some x)) rfl (Or.inl ⟨_, rfl⟩) dJ3_append_54 F
  · have F := F.2 h20
    refine g_iload_n dJ3_append_24 rfl 1 rfl ?_
    refine g_iload_n dJ3_append_25 rfl 3 rfl ?_
    refine g_aload_n dJ3_append_26 rfl 0 rfl ?_
    obtain ⟨c15, F⟩ := F
    refine h_get (v := va_rf (gR Gr7 x 0)) 14 0 (C := RJ4) (T := TJ4) (N := 4) rfl in_J4 (by decide) q219 (Or.inl rfl) rfl c15 rfl dJ3_append_27 ?_
    refine h_callSI (As := [.int p1, .int ((gI G x 3) + r2), va_rf (gR Gr7 x 0)]) (rest := []) F 3 rfl (lw_S q1548 q1549 q134 q1550) vm_J19_getChars.2 (by decide) rfl (room_of sc_nil (Nat.le_of_ble_eq_true rfl)) dJ3_append_30 (fun r16 Gr16 br16 sr16 F => ?_)
    refine g_pop dJ3_append_33 rfl ?_
    refine g_goto 48 dJ3_append_34 (by decide) ?_
    refine g_aload_n dJ3_append_48 rfl 0 rfl ?_
    refine g_iload_n dJ3_append_49 rfl 3 rfl ?_
    obtain ⟨c18, F⟩ := F
    obtain ⟨m19, F⟩ := F
    refine h_putI (mi := mJ3_append) 14 3 (C := RJ4) (T := TJ4) (N := 4) rfl in_J4 tyJ4_ok nmJ4 (by decide) q223 (Or.inl rfl) (Or.inl rfl) rfl rfl c18 m19 rfl rfl dJ3_append_50 ?_
    refine g_aload_n dJ3_append_53 rfl 0 rfl ?_
    exact g_aret (r := (some x)) rfl (Or.inl ⟨_, rfl⟩) dJ3_append_54 F
theorem rJ3_ensureCapacityInternal_0 {Γ : GE} {l : Launch} {h MC MS : Nat} {Q : Option Value → GH → Prop} {bc bs : Nat} {G : GH} (x : Nat) (p1 : Int32) (F : (gC G x = kO 14 ∧ ∃ a2, (gR G x 0) = some a2 ∧ gC G a2 = kA 2 ∧ (((p1 - ((nI (gL G a2)) >>> ((gI G x 1) &&& 31))) ≤ 0 → (Q none G)) ∧ (¬ (p1 - ((nI (gL G a2)) >>> ((gI G x 1) &&& 31))) ≤ 0 → (cI Γ l h mJ3_newCapacity [.ref x, .int p1] G bc bs fun r5 Gr5 br5 sr5 => gC Gr5 x = kO 14 ∧ cR Γ l h mJ22_copyOf_3 [va_rf (gR G x 0), .int (r5 <<< ((gI Gr5 x 1) &&& 31))] Gr5 br5 sr5 fun r8 Gr8 br8 sr8 => gC Gr8 x = kO 14 ∧ gM Gr8 x = true ∧ Q none (sR Gr8 x 0 r8)))))) : GW Γ l mJ3_ensureCapacityInternal h MC MS Q 0 [(0, va_rf (some x)), (1, .int p1)] [] G bc bs := by
  refine g_aload_n dJ3_ensureCapacityInternal_0 rfl 0 rfl ?_
  obtain ⟨c1, F⟩ := F
  refine h_get (v := va_rf (gR G x 0)) 14 0 (C := RJ4) (T := TJ4) (N := 4) rfl in_J4 (by decide) q219 (Or.inl rfl) rfl c1 rfl dJ3_ensureCapacityInternal_1 ?_
  obtain ⟨a2, e3, F⟩ := F
  obtain ⟨c4, F⟩ := F
  refine h_alen 2 e3 c4 (by decide) dJ3_ensureCapacityInternal_4 ?_
  refine g_aload_n dJ3_ensureCapacityInternal_5 rfl 0 rfl ?_
  refine h_get (v := .int (gI G x 1)) 14 1 (C := RJ4) (T := TJ4) (N := 4) rfl in_J4 (by decide) q220 (Or.inl rfl) rfl c1 rfl dJ3_ensureCapacityInternal_6 ?_
  refine g_ishr dJ3_ensureCapacityInternal_9 ?_
  refine s_istore_n (lv' := [(0, va_rf (some x)), (1, .int p1), (2, .int ((nI (gL G a2)) >>> ((gI G x 1) &&& 31)))]) (cat_R (cat_I cat_nil)) dJ3_ensureCapacityInternal_10 rfl (by decide) rfl [1, 2, 0] rfl ?_
  refine g_iload_n dJ3_ensureCapacityInternal_11 rfl 1 rfl ?_
  refine g_iload_n dJ3_ensureCapacityInternal_12 rfl 2 rfl ?_
  refine g_isub dJ3_ensureCapacityInternal_13 ?_
  refine g_if_le 38 dJ3_ensureCapacityInternal_14 (by decide) (fun h12 => ?_) (fun h12 => ?_)
  · have F := F.1 h12
    exact g_vret rfl dJ3_ensureCapacityInternal_38 F
  · have F := F.2 h12
    refine g_aload_n dJ3_ensureCapacityInternal_17 rfl 0 rfl ?_
    refine g_aload_n dJ3_ensureCapacityInternal_18 rfl 0 rfl ?_
    refine h_get (v := va_rf (gR G x 0)) 14 0 (C := RJ4) (T := TJ4) (N := 4) rfl in_J4 (by decide) q219 (Or.inl rfl) rfl c1 rfl dJ3_ensureCapacityInternal_19 ?_
    refine g_aload_n dJ3_ensureCapacityInternal_22 rfl 0 rfl ?_
    refine g_iload_n dJ3_ensureCapacityInternal_23 rfl 1 rfl ?_
    refine h_callUI (ci := 14) (x := ⟨"java/lang/AbstractStringBuilder", "newCapacity", "(I)I"⟩) (owner := "java/lang/AbstractStringBuilder") (C := RJ4) (T := TJ4) (N := 4) (As := [.int p1]) (rest := [va_rf (gR G x 0), va_rf (some x)]) F 1 rfl rfl (hasW.all q1532) (hasW.all q2509) (hasD.of q1534 q1535) (hasW.kw (by decide +kernel)) q1534 q113 q1535 ⟨by decide +kernel, by decide +kernel, by decide +kernel⟩ (by decide) rfl c1 rfl (room_of (sc_R (sc_R sc_nil)) (Nat.le_of_ble_eq_true rfl)) dJ3_ensureCapacityInternal_24 (fun r5 Gr5 br5 sr5 F => ?_)
    refine g_aload_n dJ3_ensureCapacityInternal_27 rfl 0 rfl ?_
    obtain ⟨c7, F⟩ := F
    refine h_get (v := .int (gI Gr5 x 1)) 14 1 (C := RJ4) (T := TJ4) (N := 4) rfl in_J4 (by decide) q220 (Or.inl rfl) rfl c7 rfl dJ3_ensureCapacityInternal_28 ?_
    refine g_ishl dJ3_ensureCapacityInternal_31 ?_
    refine h_callSR (As := [va_rf (gR G x 0), .int (r5 <<< ((gI Gr5 x 1) &&& 31))]) (rest := [va_rf (some x)]) F 2 rfl (lw_S q1538 q1539 q138 q1540) vm_J22_copyOf_3.2 (by decide) rfl (room_of (sc_R sc_nil) (Nat.le_of_ble_eq_true rfl)) dJ3_ensureCapacityInternal_32 (fun r8 Gr8 br8 sr8 F => ?_)
    obtain ⟨c10, F⟩ := F
    obtain ⟨m11, F⟩ := F
    refine h_putR (mi := mJ3_ensureCapacityInternal) 14 0 (C := RJ4) (T := TJ4) (N := 4) rfl in_J4 tyJ4_ok nmJ4 (by decide) q219 (Or.inl rfl) (Or.inl rfl) rfl rfl rfl c10 m11 dJ3_ensureCapacityInternal_35 ?_
    exact g_vret rfl dJ3_ensureCapacityInternal_38 F
theorem rJ3_newCapacity_0 {Γ : GE} {l : Launch} {h MC MS : Nat} {Q : Option Value → GH → Prop} {bc bs : Nat} {G : GH} (x : Nat) (p1 : Int32) (F : (gC G x = kO 14 ∧ ∃ a2, (gR G x 0) = some a2 ∧ gC G a2 = kA 2 ∧ cI Γ l h mJ15_newLength [.int (nI (gL G a2)), .int ((p1 <<< ((gI G x 1) &&& 31)) - (nI (gL G a2))), .int ((nI (gL G a2)) + (2 <<< ((gI G x 1) &&& 31)))] G bc bs fun r5 Gr5 br5 sr5 => ((¬ r5 = 2147483647 → (gC Gr5 x = kO 14 ∧ Q (some (.int (r5 >>> ((gI Gr5 x 1) &&& 31)))) Gr5)) ∧ (r5 = 2147483647 → (False))))) : GW Γ l mJ3_newCapacity h MC MS Q 0 [(0, va_rf (some x)), (1, .int p1)] [] G bc bs := by
  refine g_aload_n dJ3_newCapacity_0 rfl 0 rfl ?_
  obtain ⟨c1, F⟩ := F
  refine h_get (v := va_rf (gR G x 0)) 14 0 (C := RJ4) (T := TJ4) (N := 4) rfl in_J4 (by decide) q219 (Or.inl rfl) rfl c1 rfl dJ3_newCapacity_1 ?_
  obtain ⟨a2, e3, F⟩ := F
  obtain ⟨c4, F⟩ := F
  refine h_alen 2 e3 c4 (by decide) dJ3_newCapacity_4 ?_
  refine s_istore_n (lv' := [(0, va_rf (some x)), (1, .int p1), (2, .int (nI (gL G a2)))]) (cat_R (cat_I cat_nil)) dJ3_newCapacity_5 rfl (by decide) rfl [1, 2, 0] rfl ?_
  refine g_iload_n dJ3_newCapacity_6 rfl 1 rfl ?_
  refine g_aload_n dJ3_newCapacity_7 rfl 0 rfl ?_
  refine h_get (v := .int (gI G x 1)) 14 1 (C := RJ4) (T := TJ4) (N := 4) rfl in_J4 (by decide) q220 (Or.inl rfl) rfl c1 rfl dJ3_newCapacity_8 ?_
  refine g_ishl dJ3_newCapacity_11 ?_
  refine s_istore_n (lv' := [(0, va_rf (some x)), (1, .int p1), (2, .int (nI (gL G a2))), (3, .int (p1 <<< ((gI G x 1) &&& 31)))]) (cat_R (cat_I (cat_I cat_nil))) dJ3_newCapacity_12 rfl (by decide) rfl [1, 2, 3, 0] rfl ?_
  refine g_iload_n dJ3_newCapacity_13 rfl 3 rfl ?_
  refine g_iload_n dJ3_newCapacity_14 rfl 2 rfl ?_
  refine g_isub dJ3_newCapacity_15 ?_
  refine s_istore (lv' := [(0, va_rf (some x)), (1, .int p1), (2, .int (nI (gL G a2))), (3, .int (p1 <<< ((gI G x 1) &&& 31))), (4, .int ((p1 <<< ((gI G x 1) &&& 31)) - (nI (gL G a2))))]) (cat_R (cat_I (cat_I (cat_I cat_nil)))) dJ3_newCapacity_16 (by decide) rfl [1, 2, 3, 4, 0] rfl ?_
  refine g_iload_n dJ3_newCapacity_18 rfl 2 rfl ?_
  refine g_iload dJ3_newCapacity_19 4 rfl ?_
  refine g_iload_n dJ3_newCapacity_21 rfl 2 rfl ?_
  refine g_iconst (v := 2) dJ3_newCapacity_22 (by decide) ?_
  refine g_aload_n dJ3_newCapacity_23 rfl 0 rfl ?_
  refine h_get (v := .int (gI G x 1)) 14 1 (C := RJ4) (T := TJ4) (N := 4) rfl in_J4 (by decide) q220 (Or.inl rfl) rfl c1 rfl dJ3_newCapacity_24 ?_
  refine g_ishl dJ3_newCapacity_27 ?_
  refine g_iadd dJ3_newCapacity_28 ?_
  refine h_callSI (As := [.int (nI (gL G a2)), .int ((p1 <<< ((gI G x 1) &&& 31)) - (nI (gL G a2))), .int ((nI (gL G a2)) + (2 <<< ((gI G x 1) &&& 31)))]) (rest := []) F 3 rfl (lw_S q1536 q394 q128 q395) vm_J15_newLength.2 (by decide) rfl (room_of sc_nil (Nat.le_of_ble_eq_true rfl)) dJ3_newCapacity_29 (fun r5 Gr5 br5 sr5 F => ?_)
  refine s_istore (lv' := [(0, va_rf (some x)), (1, .int p1), (2, .int (nI (gL G a2))), (3, .int (p1 <<< ((gI G x 1) &&& 31))), (4, .int ((p1 <<< ((gI G x 1) &&& 31)) - (nI (gL G a2)))), (5, .int r5)]) (cat_R (cat_I (cat_I (cat_I (cat_I cat_nil))))) dJ3_newCapacity_32 (by decide) rfl [1, 2, 3, 4, 5, 0] rfl ?_
  refine g_iload dJ3_newCapacity_34 5 rfl ?_
  refine h_ldcI (v := 2147483647) q1537 dJ3_newCapacity_36 ?_
  refine g_icmp_ne 51 dJ3_newCapacity_38 (by decide) (fun h8 => ?_) (fun h8 => ?_)
  · have F := F.1 h8
    refine g_iload dJ3_newCapacity_51 5 rfl ?_
    refine g_aload_n dJ3_newCapacity_53 rfl 0 rfl ?_
    obtain ⟨c7, F⟩ := F
    refine h_get (v := .int (gI Gr5 x 1)) 14 1 (C := RJ4) (T := TJ4) (N := 4) rfl in_J4 (by decide) q220 (Or.inl rfl) rfl c7 rfl dJ3_newCapacity_54 ?_
    refine g_ishr dJ3_newCapacity_57 ?_
    exact g_iret rfl dJ3_newCapacity_58 F
  · have F := F.2 h8
    exact F.elim
theorem rJ3_append_2_0 {Γ : GE} {l : Launch} {h MC MS : Nat} {Q : Option Value → GH → Prop} {bc bs : Nat} {G : GH} (x : Nat) (p1 : Option Nat) (F : ((∀ a1, p1 = some a1 → (gC G a1 = kO 15 ∧ cI Γ l h mJ5_length [.ref a1] G bc bs fun r3 Gr3 br3 sr3 => gC Gr3 x = kO 14 ∧ cV Γ l h mJ3_ensureCapacityInternal [.ref x, .int ((gI Gr3 x 3) + r3)] Gr3 br3 sr3 fun Gr7 br7 sr7 => gC Gr7 x = kO 14 ∧ cV Γ l h mJ3_putStringAt [.ref x, .int (gI Gr7 x 3), va_rf p1] Gr7 br7 sr7 fun Gr10 br10 sr10 => gC Gr10 x = kO 14 ∧ gM Gr10 x = true ∧ Q (some (va_rf (some x))) (sI Gr10 x 3 ((gI Gr10 x 3) + r3)))) ∧ (p1 = none → (False)))) : GW Γ l mJ3_append_2 h MC MS Q 0 [(0, va_rf (some x)), (1, va_rf p1)] [] G bc bs := by
  refine g_aload_n dJ3_append_2_0 rfl 1 rfl ?_
  refine g_ifnonnull 9 dJ3_append_2_1 (by decide) (fun a1 e2 => ?_) (fun e2 => ?_)
  · have F := F.1 a1 e2
    refine g_aload_n dJ3_append_2_9 rfl 1 rfl ?_
    obtain ⟨c4, F⟩ := F
    refine h_callVI (ci := 15) (C := RJ5) (T := TJ5) (N := 4) (As := []) (rest := []) F 0 rfl rfl (lw_V q1587 q1588 q1589 q115 q1590) vm_J5_length (by decide) e2 c4 rfl (room_of sc_nil (Nat.le_of_ble_eq_true rfl)) dJ3_append_2_10 (fun r3 Gr3 br3 sr3 F => ?_)
    refine s_istore_n (lv' := [(0, va_rf (some x)), (1, va_rf p1), (2, .int r3)]) (cat_R (cat_R cat_nil)) dJ3_append_2_13 rfl (by decide) rfl [1, 2, 0] rfl ?_
    refine g_aload_n dJ3_append_2_14 rfl 0 rfl ?_
    refine g_aload_n dJ3_append_2_15 rfl 0 rfl ?_
    obtain ⟨c6, F⟩ := F
    refine h_get (v := .int (gI Gr3 x 3)) 14 3 (C := RJ4) (T := TJ4) (N := 4) rfl in_J4 (by decide) q223 (Or.inl rfl) rfl c6 rfl dJ3_append_2_16 ?_
    refine g_iload_n dJ3_append_2_19 rfl 2 rfl ?_
    refine g_iadd dJ3_append_2_20 ?_
    refine h_callUV (ci := 14) (x := ⟨"java/lang/AbstractStringBuilder", "ensureCapacityInternal", "(I)V"⟩) (owner := "java/lang/AbstractStringBuilder") (C := RJ4) (T := TJ4) (N := 4) (As := [.int ((gI Gr3 x 3) + r3)]) (rest := []) F 1 rfl rfl (hasW.all q1528) (hasW.all q2508) (hasD.of q1530 q1531) (hasW.kw (by decide +kernel)) q1530 q113 q1531 ⟨by decide +kernel, by decide +kernel, by decide +kernel⟩ (by decide) rfl c6 rfl (room_of sc_nil (Nat.le_of_ble_eq_true rfl)) dJ3_append_2_21 (fun Gr7 br7 sr7 F => ?_)
    refine g_aload_n dJ3_append_2_24 rfl 0 rfl ?_
    refine g_aload_n dJ3_append_2_25 rfl 0 rfl ?_
    obtain ⟨c9, F⟩ := F
    refine h_get (v := .int (gI Gr7 x 3)) 14 3 (C := RJ4) (T := TJ4) (N := 4) rfl in_J4 (by decide) q223 (Or.inl rfl) rfl c9 rfl dJ3_append_2_26 ?_
    refine g_aload_n dJ3_append_2_29 rfl 1 rfl ?_
    refine h_callUV (ci := 14) (x := ⟨"java/lang/AbstractStringBuilder", "putStringAt", "(ILjava/lang/String;)V"⟩) (owner := "java/lang/AbstractStringBuilder") (C := RJ4) (T := TJ4) (N := 4) (As := [.int (gI Gr7 x 3), va_rf p1]) (rest := []) F 2 rfl rfl (hasW.all q1591) (hasW.all q2512) (hasD.of q1593 q1594) (hasW.kw (by decide +kernel)) q1593 q113 q1594 ⟨by decide +kernel, by decide +kernel, by decide +kernel⟩ (by decide) rfl c9 rfl (room_of sc_nil (Nat.le_of_ble_eq_true rfl)) dJ3_append_2_30 (fun Gr10 br10 sr10 F => ?_)
    refine g_aload_n dJ3_append_2_33 rfl 0 rfl ?_
    refine g_dup dJ3_append_2_34 (va_rf_cat _) ?_
    obtain ⟨c12, F⟩ := F
    refine h_get (v := .int (gI Gr10 x 3)) 14 3 (C := RJ4) (T := TJ4) (N := 4) rfl in_J4 (by decide) q223 (Or.inl rfl) rfl c12 rfl dJ3_append_2_35 ?_
    refine g_iload_n dJ3_append_2_38 rfl 2 rfl ?_
    refine g_iadd dJ3_append_2_39 ?_
    obtain ⟨m13, F⟩ := F
    refine h_putI (mi := mJ3_append_2) 14 3 (C := RJ4) (T := TJ4) (N := 4) rfl in_J4 tyJ4_ok nmJ4 (by decide) q223 (Or.inl rfl) (Or.inl rfl) rfl rfl c12 m13 rfl rfl dJ3_append_2_40 ?_
    refine g_aload_n dJ3_append_2_43 rfl 0 rfl ?_
    exact g_aret (r := (some x)) rfl (Or.inl ⟨_, rfl⟩) dJ3_append_2_44 F
  · have F := F.2 e2
    refine g_aload_n dJ3_append_2_4 rfl 0 rfl ?_
    exact F.elim
theorem rJ3_appendNull_0 {Γ : GE} {l : Launch} {h MC MS : Nat} {Q : Option Value → GH → Prop} {bc bs : Nat} {G : GH} (x : Nat) (F : (gC G x = kO 14 ∧ cV Γ l h mJ3_ensureCapacityInternal [.ref x, .int ((gI G x 3) + 4)] G bc bs fun Gr2 br2 sr2 => gC Gr2 x = kO 14 ∧ cI Γ l h mJ3_isLatin1 [.ref x] Gr2 br2 sr2 fun r5 Gr5 br5 sr5 => ((r5 = 0 → (cI Γ l h mJ6_putCharsAt [va_rf (gR Gr2 x 0), .int (gI Gr2 x 3), .int 110, .int 117, .int 108, .int 108] Gr5 br5 sr5 fun r7 Gr7 br7 sr7 => gC Gr7 x = kO 14 ∧ gM Gr7 x = true ∧ Q (some (va_rf (some x))) (sI Gr7 x 3 r7))) ∧ (¬ r5 = 0 → (∃ a11, (gR Gr2 x 0) = some a11 ∧ gC Gr5 a11 = kA 2 ∧ gM Gr5 a11 = true ∧ vp_in (gI Gr2 x 3) (gL Gr5 a11) ∧ vp_in ((gI Gr2 x 3) + 1) (gL (sI Gr5 a11 (gI Gr2 x 3).toNatClampNeg (vp_nar .byte 110)) a11) ∧ vp_in (((gI Gr2 x 3) + 1) + 1) (gL (sI (sI Gr5 a11 (gI Gr2 x 3).toNatClampNeg (vp_nar .byte 110)) a11 ((gI Gr2 x 3) + 1).toNatClampNeg (vp_nar .byte 117)) a11) ∧ vp_in ((((gI Gr2 x 3) + 1) + 1) + 1) (gL (sI (sI (sI Gr5 a11 (gI Gr2 x 3).toNatClampNeg (vp_nar .byte 110)) a11 ((gI Gr2 x 3) + 1).toNatClampNeg (vp_nar .byte 117)) a11 (((gI Gr2 x 3) + 1) + 1).toNatClampNeg (vp_nar .byte 108)) a11) ∧ gC (sI (sI (sI (sI Gr5 a11 (gI Gr2 x 3).toNatClampNeg (vp_nar .byte 110)) a11 ((gI Gr2 x 3) + 1).toNatClampNeg (vp_nar .byte 117)) a11 (((gI Gr2 x 3) + 1) + 1).toNatClampNeg (vp_nar .byte 108)) a11 ((((gI Gr2 x 3) + 1) + 1) + 1).toNatClampNeg (vp_nar .byte 108)) x = kO 14 ∧ gM (sI (sI (sI (sI Gr5 a11 (gI Gr2 x 3).toNatClampNeg (vp_nar .byte 110)) a11 ((gI Gr2 x 3) + 1).toNatClampNeg (vp_nar .byte 117)) a11 (((gI Gr2 x 3) + 1) + 1).toNatClampNeg (vp_nar .byte 108)) a11 ((((gI Gr2 x 3) + 1) + 1) + 1).toNatClampNeg (vp_nar .byte 108)) x = true ∧ Q (some (va_rf (some x))) (sI (sI (sI (sI (sI Gr5 a11 (gI Gr2 x 3).toNatClampNeg (vp_nar .byte 110)) a11 ((gI Gr2 x 3) + 1).toNatClampNeg (vp_nar .byte 117)) a11 (((gI Gr2 x 3) + 1) + 1).toNatClampNeg (vp_nar .byte 108)) a11 ((((gI Gr2 x 3) + 1) + 1) + 1).toNatClampNeg (vp_nar .byte 108)) x 3 (((((gI Gr2 x 3) + 1) + 1) + 1) + 1))))))) : GW Γ l mJ3_appendNull h MC MS Q 0 [(0, va_rf (some x))] [] G bc bs := by
  refine g_aload_n dJ3_appendNull_0 rfl 0 rfl ?_
  refine g_aload_n dJ3_appendNull_1 rfl 0 rfl ?_
  obtain ⟨c1, F⟩ := F
  refine h_get (v := .int (gI G x 3)) 14 3 (C := RJ4) (T := TJ4) (N := 4) rfl in_J4 (by decide) q223 (Or.inl rfl) rfl c1 rfl dJ3_appendNull_2 ?_
  refine g_iconst (v := 4) dJ3_appendNull_5 (by decide) ?_
  refine g_iadd dJ3_appendNull_6 ?_
  refine h_callUV (ci := 14) (x := ⟨"java/lang/AbstractStringBuilder", "ensureCapacityInternal", "(I)V"⟩) (owner := "java/lang/AbstractStringBuilder") (C := RJ4) (T := TJ4) (N := 4) (As := [.int ((gI G x 3) + 4)]) (rest := []) F 1 rfl rfl (hasW.all q1528) (hasW.all q2508) (hasD.of q1530 q1531) (hasW.kw (by decide +kernel)) q1530 q113 q1531 ⟨by decide +kernel, by decide +kernel, by decide +kernel⟩ (by decide) rfl c1 rfl (room_of sc_nil (Nat.le_of_ble_eq_true rfl)) dJ3_appendNull_7 (fun Gr2 br2 sr2 F => ?_)
  refine g_aload_n dJ3_appendNull_10 rfl 0 rfl ?_
  obtain ⟨c4, F⟩ := F
  refine h_get (v := .int (gI Gr2 x 3)) 14 3 (C := RJ4) (T := TJ4) (N := 4) rfl in_J4 (by decide) q223 (Or.inl rfl) rfl c4 rfl dJ3_appendNull_11 ?_
  refine s_istore_n (lv' := [(0, va_rf (some x)), (1, .int (gI Gr2 x 3))]) (cat_R cat_nil) dJ3_appendNull_14 rfl (by decide) rfl [1, 0] rfl ?_
  refine g_aload_n dJ3_appendNull_15 rfl 0 rfl ?_
  refine h_get (v := va_rf (gR Gr2 x 0)) 14 0 (C := RJ4) (T := TJ4) (N := 4) rfl in_J4 (by decide) q219 (Or.inl rfl) rfl c4 rfl dJ3_appendNull_16 ?_
  refine s_astore_n (lv' := [(0, va_rf (some x)), (1, .int (gI Gr2 x 3)), (2, va_rf (gR Gr2 x 0))]) (cat_R (cat_I cat_nil)) dJ3_appendNull_19 rfl (by decide) rfl [1, 2, 0] rfl ?_
  refine g_aload_n dJ3_appendNull_20 rfl 0 rfl ?_
  refine h_callUI (ci := 14) (x := ⟨"java/lang/AbstractStringBuilder", "isLatin1", "()Z"⟩) (owner := "java/lang/AbstractStringBuilder") (C := RJ4) (T := TJ4) (N := 4) (As := []) (rest := []) F 0 rfl rfl (hasW.all q909) (hasW.all q911) (hasD.of q910 q913) (hasW.all q912) q910 q113 q913 ⟨by decide +kernel, by decide +kernel, by decide +kernel⟩ (by decide) rfl c4 rfl (room_of sc_nil (Nat.le_of_ble_eq_true rfl)) dJ3_appendNull_21 (fun r5 Gr5 br5 sr5 F => ?_)
  refine g_if_eq 62 dJ3_appendNull_24 (by decide) (fun h21 => ?_) (fun h21 => ?_)
  · have F := F.1 h21
    refine g_aload_n dJ3_appendNull_62 rfl 2 rfl ?_
    refine g_iload_n dJ3_appendNull_63 rfl 1 rfl ?_
    refine g_bipush (v := 110) dJ3_appendNull_64 (by decide) ?_
    refine g_bipush (v := 117) dJ3_appendNull_66 (by decide) ?_
    refine g_bipush (v := 108) dJ3_appendNull_68 (by decide) ?_
    refine g_bipush (v := 108) dJ3_appendNull_70 (by decide) ?_
    refine h_callSI (As := [va_rf (gR Gr2 x 0), .int (gI Gr2 x 3), .int 110, .int 117, .int 108, .int 108]) (rest := []) F 6 rfl (lw_S q1584 q1585 q116 q1586) vm_J6_putCharsAt.2 (by decide) rfl (room_of sc_nil (Nat.le_of_ble_eq_true rfl)) dJ3_appendNull_72 (fun r7 Gr7 br7 sr7 F => ?_)
    refine s_istore_n (lv' := [(0, va_rf (some x)), (1, .int r7), (2, va_rf (gR Gr2 x 0))]) (cat_R (cat_I (cat_R cat_nil))) dJ3_appendNull_75 rfl (by decide) rfl [1, 0, 2] rfl ?_
    refine g_aload_n dJ3_appendNull_76 rfl 0 rfl ?_
    refine g_iload_n dJ3_appendNull_77 rfl 1 rfl ?_
    obtain ⟨c9, F⟩ := F
    obtain ⟨m10, F⟩ := F
    refine h_putI (mi := mJ3_appendNull) 14 3 (C := RJ4) (T := TJ4) (N := 4) rfl in_J4 tyJ4_ok nmJ4 (by decide) q223 (Or.inl rfl) (Or.inl rfl) rfl rfl c9 m10 rfl rfl dJ3_appendNull_78 ?_
    refine g_aload_n dJ3_appendNull_81 rfl 0 rfl ?_
    exact g_aret (r := (some x)) rfl (Or.inl ⟨_, rfl⟩) dJ3_appendNull_82 F
  · have F := F.2 h21
    refine g_aload_n dJ3_appendNull_27 rfl 2 rfl ?_
    refine g_iload_n dJ3_appendNull_28 rfl 1 rfl ?_
    refine s_iinc (v := ((gI Gr2 x 3) + 1)) (lv' := [(0, va_rf (some x)), (1, .int ((gI Gr2 x 3) + 1)), (2, va_rf (gR Gr2 x 0))]) (cat_R (cat_I (cat_R cat_nil))) dJ3_appendNull_29 (k0 := 1) rfl rfl (by decide) rfl [1, 0, 2] rfl ?_
    refine g_bipush (v := 110) dJ3_appendNull_32 (by decide) ?_
    obtain ⟨a11, e12, F⟩ := F
    obtain ⟨c13, F⟩ := F
    obtain ⟨m14, F⟩ := F
    obtain ⟨k15, F⟩ := F
    refine h_bast e12 c13 m14 k15 dJ3_appendNull_34 ?_
    refine g_aload_n dJ3_appendNull_35 rfl 2 rfl ?_
    refine g_iload_n dJ3_appendNull_36 rfl 1 rfl ?_
    refine s_iinc (v := (((gI Gr2 x 3) + 1) + 1)) (lv' := [(0, va_rf (some x)), (1, .int (((gI Gr2 x 3) + 1) + 1)), (2, va_rf (gR Gr2 x 0))]) (cat_R (cat_I (cat_R cat_nil))) dJ3_appendNull_37 (k0 := 1) rfl rfl (by decide) rfl [1, 0, 2] rfl ?_
    refine g_bipush (v := 117) dJ3_appendNull_40 (by decide) ?_
    obtain ⟨k16, F⟩ := F
    refine h_bast e12 c13 m14 k16 dJ3_appendNull_42 ?_
    refine g_aload_n dJ3_appendNull_43 rfl 2 rfl ?_
    refine g_iload_n dJ3_appendNull_44 rfl 1 rfl ?_
    refine s_iinc (v := ((((gI Gr2 x 3) + 1) + 1) + 1)) (lv' := [(0, va_rf (some x)), (1, .int ((((gI Gr2 x 3) + 1) + 1) + 1)), (2, va_rf (gR Gr2 x 0))]) (cat_R (cat_I (cat_R cat_nil))) dJ3_appendNull_45 (k0 := 1) rfl rfl (by decide) rfl [1, 0, 2] rfl ?_
    refine g_bipush (v := 108) dJ3_appendNull_48 (by decide) ?_
    obtain ⟨k17, F⟩ := F
    refine h_bast e12 c13 m14 k17 dJ3_appendNull_50 ?_
    refine g_aload_n dJ3_appendNull_51 rfl 2 rfl ?_
    refine g_iload_n dJ3_appendNull_52 rfl 1 rfl ?_
    refine s_iinc (v := (((((gI Gr2 x 3) + 1) + 1) + 1) + 1)) (lv' := [(0, va_rf (some x)), (1, .int (((((gI Gr2 x 3) + 1) + 1) + 1) + 1)), (2, va_rf (gR Gr2 x 0))]) (cat_R (cat_I (cat_R cat_nil))) dJ3_appendNull_53 (k0 := 1) rfl rfl (by decide) rfl [1, 0, 2] rfl ?_
    refine g_bipush (v := 108) dJ3_appendNull_56 (by decide) ?_
    obtain ⟨k18, F⟩ := F
    refine h_bast e12 c13 m14 k18 dJ3_appendNull_58 ?_
    refine g_goto 76 dJ3_appendNull_59 (by decide) ?_
    refine g_aload_n dJ3_appendNull_76 rfl 0 rfl ?_
    refine g_iload_n dJ3_appendNull_77 rfl 1 rfl ?_
    obtain ⟨c19, F⟩ := F
    obtain ⟨m20, F⟩ := F
    refine h_putI (mi := mJ3_appendNull) 14 3 (C := RJ4) (T := TJ4) (N := 4) rfl in_J4 tyJ4_ok nmJ4 (by decide) q223 (Or.inl rfl) (Or.inl rfl) rfl rfl c19 m20 rfl rfl dJ3_appendNull_78 ?_
    refine g_aload_n dJ3_appendNull_81 rfl 0 rfl ?_
    exact g_aret (r := (some x)) rfl (Or.inl ⟨_, rfl⟩) dJ3_appendNull_82 F
theorem rJ3_putStringAt_0 {Γ : GE} {l : Launch} {h MC MS : Nat} {Q : Option Value → GH → Prop} {bc bs : Nat} {G : GH} (x : Nat) (p1 : Int32) (p2 : Option Nat) (F : (gC G x = kO 14 ∧ cV Γ l h mJ3_inflateIfNeededFor [.ref x, va_rf p2] G bc bs fun Gr1 br1 sr1 => gC Gr1 x = kO 14 ∧ ∃ a6, p2 = some a6 ∧ gC Gr1 a6 = kO 15 ∧ cV Γ l h mJ5_getBytes [.ref a6, va_rf (gR Gr1 x 0), .int p1, .int (gI Gr1 x 1)] Gr1 br1 sr1 fun Gr5 br5 sr5 => Q none Gr5)) : GW Γ l mJ3_putStringAt h MC MS Q 0 [(0, va_rf (some x)), (1, .int p1), (2, va_rf p2)] [] G bc bs := by
  refine g_aload_n dJ3_putStringAt_0 rfl 0 rfl ?_
  refine g_aload_n dJ3_putStringAt_1 rfl 2 rfl ?_
  obtain ⟨c2, F⟩ := F
  refine h_callUV (ci := 14) (x := ⟨"java/lang/AbstractStringBuilder", "inflateIfNeededFor", "(Ljava/lang/String;)V"⟩) (owner := "java/lang/AbstractStringBuilder") (C := RJ4) (T := TJ4) (N := 4) (As := [va_rf p2]) (rest := []) F 1 rfl rfl (hasW.all q1595) (hasW.all q2513) (hasD.of q1597 q1598) (hasW.kw (by decide +kernel)) q1597 q113 q1598 ⟨by decide +kernel, by decide +kernel, by decide +kernel⟩ (by decide) rfl c2 rfl (room_of sc_nil (Nat.le_of_ble_eq_true rfl)) dJ3_putStringAt_2 (fun Gr1 br1 sr1 F => ?_)
  refine g_aload_n dJ3_putStringAt_5 rfl 2 rfl ?_
  refine g_aload_n dJ3_putStringAt_6 rfl 0 rfl ?_
  obtain ⟨c4, F⟩ := F
  refine h_get (v := va_rf (gR Gr1 x 0)) 14 0 (C := RJ4) (T := TJ4) (N := 4) rfl in_J4 (by decide) q219 (Or.inl rfl) rfl c4 rfl dJ3_putStringAt_7 ?_
  refine g_iload_n dJ3_putStringAt_10 rfl 1 rfl ?_
  refine g_aload_n dJ3_putStringAt_11 rfl 0 rfl ?_
  refine h_get (v := .int (gI Gr1 x 1)) 14 1 (C := RJ4) (T := TJ4) (N := 4) rfl in_J4 (by decide) q220 (Or.inl rfl) rfl c4 rfl dJ3_putStringAt_12 ?_
  obtain ⟨a6, e7, F⟩ := F
  obtain ⟨c8, F⟩ := F
  refine h_callVV (ci := 15) (C := RJ5) (T := TJ5) (N := 4) (As := [va_rf (gR Gr1 x 0), .int p1, .int (gI Gr1 x 1)]) (rest := []) F 3 rfl rfl (lw_V q1619 q1620 q1621 q115 q1622) vm_J5_getBytes (by decide) e7 c8 rfl (room_of sc_nil (Nat.le_of_ble_eq_true rfl)) dJ3_putStringAt_15 (fun Gr5 br5 sr5 F => ?_)
  exact g_vret rfl dJ3_putStringAt_18 F
theorem rJ3_inflateIfNeededFor_0 {Γ : GE} {l : Launch} {h MC MS : Nat} {Q : Option Value → GH → Prop} {bc bs : Nat} {G : GH} (x : Nat) (p1 : Option Nat) (F : (((1 : Int32) = 0 → (Q none G)) ∧ (¬ (1 : Int32) = 0 → (gC G x = kO 14 ∧ ∃ a3, p1 = some a3 ∧ gC G a3 = kO 15 ∧ cI Γ l h mJ5_coder [.ref a3] G bc bs fun r2 Gr2 br2 sr2 => (((gI G x 1) = r2 → (Q none Gr2)) ∧ (¬ (gI G x 1) = r2 → (False))))))) : GW Γ l mJ3_inflateIfNeededFor h MC MS Q 0 [(0, va_rf (some x)), (1, va_rf p1)] [] G bc bs := by
  refine g_getsi (C := "java/lang/String") (n := "COMPACT_STRINGS") (d := "Z") (v := 1) (by decide) q210 rfl dJ3_inflateIfNeededFor_0 ?_
  refine g_if_eq 21 dJ3_inflateIfNeededFor_3 (by decide) (fun h9 => ?_) (fun h9 => ?_)
  · have F := F.1 h9
    exact g_vret rfl dJ3_inflateIfNeededFor_21 F
  · have F := F.2 h9
    refine g_aload_n dJ3_inflateIfNeededFor_6 rfl 0 rfl ?_
    obtain ⟨c1, F⟩ := F
    refine h_get (v := .int (gI G x 1)) 14 1 (C := RJ4) (T := TJ4) (N := 4) rfl in_J4 (by decide) q220 (Or.inl rfl) rfl c1 rfl dJ3_inflateIfNeededFor_7 ?_
    refine g_aload_n dJ3_inflateIfNeededFor_10 rfl 1 rfl ?_
    obtain ⟨a3, e4, F⟩ := F
    obtain ⟨c5, F⟩ := F
    refine h_callVI (ci := 15) (C := RJ5) (T := TJ5) (N := 4) (As := []) (rest := [.int (gI G x 1)]) F 0 rfl rfl (lw_V q1599 q756 q757 q115 q758) vm_J5_coder (by decide) e4 c5 rfl (room_of (sc_I sc_nil) (Nat.le_of_ble_eq_true rfl)) dJ3_inflateIfNeededFor_11 (fun r2 Gr2 br2 sr2 F => ?_)
    refine g_icmp_eq 21 dJ3_inflateIfNeededFor_14 (by decide) (fun h8 => ?_) (fun h8 => ?_)
    · have F := F.1 h8
      exact g_vret rfl dJ3_inflateIfNeededFor_21 F
    · have F := F.2 h8
      refine g_aload_n dJ3_inflateIfNeededFor_17 rfl 0 rfl ?_
      exact F.elim
theorem rJ3_inflate_0 {Γ : GE} {l : Launch} {h MC MS : Nat} {Q : Option Value → GH → Prop} {bc bs : Nat} {G : GH} (x : Nat) (F : (gC G x = kO 14 ∧ cI Γ l h mJ3_isLatin1 [.ref x] G bc bs fun r1 Gr1 br1 sr1 => ((¬ r1 = 0 → (gC Gr1 x = kO 14 ∧ ∃ a5, (gR Gr1 x 0) = some a5 ∧ gC Gr1 a5 = kA 2 ∧ cR Γ l h mJ6_newBytesFor [.int (nI (gL Gr1 a5))] Gr1 br1 sr1 fun r8 Gr8 br8 sr8 => gC Gr8 x = kO 14 ∧ cV Γ l h mJ14_inflate [va_rf (gR Gr8 x 0), .int 0, va_rf r8, .int 0, .int (gI Gr8 x 3)] Gr8 br8 sr8 fun Gr11 br11 sr11 => gC Gr11 x = kO 14 ∧ gM Gr11 x = true ∧ Q none (sI (sR Gr11 x 0 r8) x 1 1))) ∧ (r1 = 0 → (Q none Gr1))))) : GW Γ l mJ3_inflate h MC MS Q 0 [(0, va_rf (some x))] [] G bc bs := by
  refine g_aload_n dJ3_inflate_0 rfl 0 rfl ?_
  obtain ⟨c2, F⟩ := F
  refine h_callUI (ci := 14) (x := ⟨"java/lang/AbstractStringBuilder", "isLatin1", "()Z"⟩) (owner := "java/lang/AbstractStringBuilder") (C := RJ4) (T := TJ4) (N := 4) (As := []) (rest := []) F 0 rfl rfl (hasW.all q909) (hasW.all q911) (hasD.of q910 q913) (hasW.all q912) q910 q113 q913 ⟨by decide +kernel, by decide +kernel, by decide +kernel⟩ (by decide) rfl c2 rfl (room_of sc_nil (Nat.le_of_ble_eq_true rfl)) dJ3_inflate_1 (fun r1 Gr1 br1 sr1 F => ?_)
  refine g_if_ne 8 dJ3_inflate_4 (by decide) (fun h15 => ?_) (fun h15 => ?_)
  · have F := F.1 h15
    refine g_aload_n dJ3_inflate_8 rfl 0 rfl ?_
    obtain ⟨c4, F⟩ := F
    refine h_get (v := va_rf (gR Gr1 x 0)) 14 0 (C := RJ4) (T := TJ4) (N := 4) rfl in_J4 (by decide) q219 (Or.inl rfl) rfl c4 rfl dJ3_inflate_9 ?_
    obtain ⟨a5, e6, F⟩ := F
    obtain ⟨c7, F⟩ := F
    refine h_alen 2 e6 c7 (by decide) dJ3_inflate_12 ?_
    refine h_callSR (As := [.int (nI (gL Gr1 a5))]) (rest := []) F 1 rfl (lw_S q212 q213 q116 q214) vm_J6_newBytesFor.2 (by decide) rfl (room_of sc_nil (Nat.le_of_ble_eq_true rfl)) dJ3_inflate_13 (fun r8 Gr8 br8 sr8 F => ?_)
    refine s_astore_n (lv' := [(0, va_rf (some x)), (1, va_rf r8)]) (cat_R cat_nil) dJ3_inflate_16 rfl (by decide) rfl [1, 0] rfl ?_
    refine g_aload_n dJ3_inflate_17 rfl 0 rfl ?_
    obtain ⟨c10, F⟩ := F
    refine h_get (v := va_rf (gR Gr8 x 0)) 14 0 (C := RJ4) (T := TJ4) (N := 4) rfl in_J4 (by decide) q219 (Or.inl rfl) rfl c10 rfl dJ3_inflate_18 ?_
    refine g_iconst (v := 0) dJ3_inflate_21 (by decide) ?_
    refine g_aload_n dJ3_inflate_22 rfl 1 rfl ?_
    refine g_iconst (v := 0) dJ3_inflate_23 (by decide) ?_
    refine g_aload_n dJ3_inflate_24 rfl 0 rfl ?_
    refine h_get (v := .int (gI Gr8 x 3)) 14 3 (C := RJ4) (T := TJ4) (N := 4) rfl in_J4 (by decide) q223 (Or.inl rfl) rfl c10 rfl dJ3_inflate_25 ?_
    refine h_callSV (As := [va_rf (gR Gr8 x 0), .int 0, va_rf r8, .int 0, .int (gI Gr8 x 3)]) (rest := []) F 5 rfl (lw_S q1604 q1605 q127 q1606) vm_J14_inflate.2 (by decide) rfl (room_of sc_nil (Nat.le_of_ble_eq_true rfl)) dJ3_inflate_28 (fun Gr11 br11 sr11 F => ?_)
    refine g_aload_n dJ3_inflate_31 rfl 0 rfl ?_
    refine g_aload_n dJ3_inflate_32 rfl 1 rfl ?_
    obtain ⟨c13, F⟩ := F
    obtain ⟨m14, F⟩ := F
    refine h_putR (mi := mJ3_inflate) 14 0 (C := RJ4) (T := TJ4) (N := 4) rfl in_J4 tyJ4_ok nmJ4 (by decide) q219 (Or.inl rfl) (Or.inl rfl) rfl rfl rfl c13 m14 dJ3_inflate_33 ?_
    refine g_aload_n dJ3_inflate_36 rfl 0 rfl ?_
    refine g_iconst (v := 1) dJ3_inflate_37 (by decide) ?_
    refine h_putI (mi := mJ3_inflate) 14 1 (C := RJ4) (T := TJ4) (N := 4) rfl in_J4 tyJ4_ok nmJ4 (by decide) q220 (Or.inl rfl) (Or.inl rfl) rfl rfl c13 m14 rfl rfl dJ3_inflate_38 ?_
    exact g_vret rfl dJ3_inflate_41 F
  · have F := F.2 h15
    exact g_vret rfl dJ3_inflate_7 F
theorem rJ3_getValue_0 {Γ : GE} {l : Launch} {h MC MS : Nat} {Q : Option Value → GH → Prop} {bc bs : Nat} {G : GH} (x : Nat) (F : (gC G x = kO 14 ∧ Q (some (va_rf (gR G x 0))) G)) : GW Γ l mJ3_getValue h MC MS Q 0 [(0, va_rf (some x))] [] G bc bs := by
  refine g_aload_n dJ3_getValue_0 rfl 0 rfl ?_
  obtain ⟨c1, F⟩ := F
  refine h_get (v := va_rf (gR G x 0)) 14 0 (C := RJ4) (T := TJ4) (N := 4) rfl in_J4 (by decide) q219 (Or.inl rfl) rfl c1 rfl dJ3_getValue_1 ?_
  exact g_aret (r := (gR G x 0)) rfl (Or.inr ⟨_, rfl⟩) dJ3_getValue_4 F
theorem rJ3_length_0 {Γ : GE} {l : Launch} {h MC MS : Nat} {Q : Option Value → GH → Prop} {bc bs : Nat} {G : GH} (x : Nat) (F : (gC G x = kO 14 ∧ Q (some (.int (gI G x 3))) G)) : GW Γ l mJ3_length h MC MS Q 0 [(0, va_rf (some x))] [] G bc bs := by
  refine g_aload_n dJ3_length_0 rfl 0 rfl ?_
  obtain ⟨c1, F⟩ := F
  refine h_get (v := .int (gI G x 3)) 14 3 (C := RJ4) (T := TJ4) (N := 4) rfl in_J4 (by decide) q223 (Or.inl rfl) rfl c1 rfl dJ3_length_1 ?_
  exact g_iret rfl dJ3_length_4 F
theorem rJ3_append_3_0 {Γ : GE} {l : Launch} {h MC MS : Nat} {Q : Option Value → GH → Prop} {bc bs : Nat} {G : GH} (x : Nat) (p1 : Option Nat) (F : ((∀ a1, p1 = some a1 → (∃ b3, okInst G p1 "java/lang/String" b3 ∧ ((b3 = 0 → (∃ b5, okInst G p1 "java/lang/AbstractStringBuilder" b5 ∧ ((b5 = 0 → (gC G a1 = kO 15 ∧ cI Γ l h mJ5_length [.ref a1] G bc bs fun r7 Gr7 br7 sr7 => gC Gr7 x = kO 14 ∧ cR Γ l h mJ4_append_5 [.ref x, va_rf p1, .int 0, .int r7] Gr7 br7 sr7 fun r10 Gr10 br10 sr10 => Q (some (va_rf r10)) Gr10)) ∧ (¬ b5 = 0 → (okCast G p1 "java/lang/AbstractStringBuilder" ∧ gC G x = kO 14 ∧ cR Γ l h mJ3_append_4 [.ref x, va_rf p1] G bc bs fun r14 Gr14 br14 sr14 => Q (some (va_rf r14)) Gr14))))) ∧ (¬ b3 = 0 → (okCast G p1 "java/lang/String" ∧ gC G x = kO 14 ∧ cR Γ l h mJ4_append_4 [.ref x, va_rf p1] G bc bs fun r19 Gr19 br19 sr19 => Q (some (va_rf r19)) Gr19))))) ∧ (p1 = none → (False)))) : GW Γ l mJ3_append_3 h MC MS Q 0 [(0, va_rf (some x)), (1, va_rf p1)] [] G bc bs := by
  refine g_aload_n dJ3_append_3_0 rfl 1 rfl ?_
  refine g_ifnonnull 9 dJ3_append_3_1 (by decide) (fun a1 e2 => ?_) (fun e2 => ?_)
  · have F := F.1 a1 e2
    refine g_aload_n dJ3_append_3_9 rfl 1 rfl ?_
    obtain ⟨b3, e4, F⟩ := F
    refine h_inst q1708 e4 dJ3_append_3_10 ?_
    refine g_if_eq 25 dJ3_append_3_13 (by decide) (fun h22 => ?_) (fun h22 => ?_)
    · have F := F.1 h22
      refine g_aload_n dJ3_append_3_25 rfl 1 rfl ?_
      obtain ⟨b5, e6, F⟩ := F
      refine h_inst q1713 e6 dJ3_append_3_26 ?_
      refine g_if_eq 41 dJ3_append_3_29 (by decide) (fun h17 => ?_) (fun h17 => ?_)
      · have F := F.1 h17
        refine g_aload_n dJ3_append_3_41 rfl 0 rfl ?_
        refine g_aload_n dJ3_append_3_42 rfl 1 rfl ?_
        refine g_iconst (v := 0) dJ3_append_3_43 (by decide) ?_
        refine g_aload_n dJ3_append_3_44 rfl 1 rfl ?_
        obtain ⟨c8, F⟩ := F
        refine h_callFI (ci := 15) (x := ⟨"java/lang/CharSequence", "length", "()I"⟩) (C := RJ5) (T := TJ5) (N := 4) (As := []) (rest := [.int 0, va_rf p1, va_rf (some x)]) F 0 rfl rfl q1736 (by decide +kernel) q1740 q1588 q115 q1590 ⟨by decide +kernel, by decide +kernel, by decide +kernel⟩ (by decide) e2 c8 rfl (room_of (sc_I (sc_R (sc_R sc_nil))) (Nat.le_of_ble_eq_true rfl)) dJ3_append_3_45 (fun r7 Gr7 br7 sr7 F => ?_)
        obtain ⟨c11, F⟩ := F
        refine h_callUR (ci := 14) (x := ⟨"java/lang/AbstractStringBuilder", "append", "(Ljava/lang/CharSequence;II)Ljava/lang/AbstractStringBuilder;"⟩) (owner := "java/lang/AbstractStringBuilder") (C := RJ4) (T := TJ4) (N := 4) (As := [va_rf p1, .int 0, .int r7]) (rest := []) F 3 rfl rfl (hasW.all q1747) (hasW.all q1749) (hasD.of q1748 q1758) (hasW.all q1750) q1751 q114 q1752 ⟨by decide +kernel, by decide +kernel, by decide +kernel⟩ (by decide) rfl c11 rfl (room_of sc_nil (Nat.le_of_ble_eq_true rfl)) dJ3_append_3_50 (fun r10 Gr10 br10 sr10 F => ?_)
        exact g_aret (r := r10) rfl (Or.inl ⟨_, rfl⟩) dJ3_append_3_53 F
      · have F := F.2 h17
        refine g_aload_n dJ3_append_3_32 rfl 0 rfl ?_
        refine g_aload_n dJ3_append_3_33 rfl 1 rfl ?_
        obtain ⟨k13, F⟩ := F
        refine h_castO q1713 k13 dJ3_append_3_34 ?_
        obtain ⟨c15, F⟩ := F
        refine h_callUR (ci := 14) (x := ⟨"java/lang/AbstractStringBuilder", "append", "(Ljava/lang/AbstractStringBuilder;)Ljava/lang/AbstractStringBuilder;"⟩) (owner := "java/lang/AbstractStringBuilder") (C := RJ4) (T := TJ4) (N := 4) (As := [va_rf p1]) (rest := []) F 1 rfl rfl (hasW.all q1714) (hasW.all q1716) (hasD.of q1715 q1718) (hasW.all q1717) q1715 q113 q1718 ⟨by decide +kernel, by decide +kernel, by decide +kernel⟩ (by decide) rfl c15 rfl (room_of sc_nil (Nat.le_of_ble_eq_true rfl)) dJ3_append_3_37 (fun r14 Gr14 br14 sr14 F => ?_)
        exact g_aret (r := r14) rfl (Or.inl ⟨_, rfl⟩) dJ3_append_3_40 F
    · have F := F.2 h22
      refine g_aload_n dJ3_append_3_16 rfl 0 rfl ?_
      refine g_aload_n dJ3_append_3_17 rfl 1 rfl ?_
      obtain ⟨k18, F⟩ := F
      refine h_castO q1708 k18 dJ3_append_3_18 ?_
      obtain ⟨c20, F⟩ := F
      refine h_callUR (ci := 14) (x := ⟨"java/lang/AbstractStringBuilder", "append", "(Ljava/lang/String;)Ljava/lang/AbstractStringBuilder;"⟩) (owner := "java/lang/AbstractStringBuilder") (C := RJ4) (T := TJ4) (N := 4) (As := [va_rf p1]) (rest := []) F 1 rfl rfl (hasW.all q1709) (hasW.all q2510) (hasD.of q1578 q1579) (hasW.all q2516) q1710 q114 q1711 ⟨by decide +kernel, by decide +kernel, by decide +kernel⟩ (by decide) rfl c20 rfl (room_of sc_nil (Nat.le_of_ble_eq_true rfl)) dJ3_append_3_21 (fun r19 Gr19 br19 sr19 F => ?_)
      exact g_aret (r := r19) rfl (Or.inl ⟨_, rfl⟩) dJ3_append_3_24 F
  · have F := F.2 e2
    refine g_aload_n dJ3_append_3_4 rfl 0 rfl ?_
    exact F.elim
theorem rJ3_append_4_0 {Γ : GE} {l : Launch} {h MC MS : Nat} {Q : Option Value → GH → Prop} {bc bs : Nat} {G : GH} (x : Nat) (p1 : Option Nat) (F : ((∀ a1, p1 = some a1 → (gC G a1 = kO 14 ∧ cI Γ l h mJ4_length [.ref a1] G bc bs fun r3 Gr3 br3 sr3 => gC Gr3 x = kO 14 ∧ cV Γ l h mJ3_ensureCapacityInternal [.ref x, .int ((gI Gr3 x 3) + r3)] Gr3 br3 sr3 fun Gr7 br7 sr7 => False)) ∧ (p1 = none → (False)))) : GW Γ l mJ3_append_4 h MC MS Q 0 [(0, va_rf (some x)), (1, va_rf p1)] [] G bc bs := by
  refine g_aload_n dJ3_append_4_0 rfl 1 rfl ?_
  refine g_ifnonnull 9 dJ3_append_4_1 (by decide) (fun a1 e2 => ?_) (fun e2 => ?_)
  · have F := F.1 a1 e2
    refine g_aload_n dJ3_append_4_9 rfl 1 rfl ?_
    obtain ⟨c4, F⟩ := F
    refine h_callUI (ci := 14) (x := ⟨"java/lang/AbstractStringBuilder", "length", "()I"⟩) (owner := "java/lang/AbstractStringBuilder") (C := RJ4) (T := TJ4) (N := 4) (As := []) (rest := []) F 0 rfl rfl (hasW.all q1719) (hasW.all q1645) (hasD.of q1644 q1650) (hasW.all q1646) q1647 q114 q1648 ⟨by decide +kernel, by decide +kernel, by decide +kernel⟩ (by decide) e2 c4 rfl (room_of sc_nil (Nat.le_of_ble_eq_true rfl)) dJ3_append_4_10 (fun r3 Gr3 br3 sr3 F => ?_)
    refine s_istore_n (lv' := [(0, va_rf (some x)), (1, va_rf p1), (2, .int r3)]) (cat_R (cat_R cat_nil)) dJ3_append_4_13 rfl (by decide) rfl [1, 2, 0] rfl ?_
    refine g_aload_n dJ3_append_4_14 rfl 0 rfl ?_
    refine g_aload_n dJ3_append_4_15 rfl 0 rfl ?_
    obtain ⟨c6, F⟩ := F
    refine h_get (v := .int (gI Gr3 x 3)) 14 3 (C := RJ4) (T := TJ4) (N := 4) rfl in_J4 (by decide) q223 (Or.inl rfl) rfl c6 rfl dJ3_append_4_16 ?_
    refine g_iload_n dJ3_append_4_19 rfl 2 rfl ?_
    refine g_iadd dJ3_append_4_20 ?_
    refine h_callUV (ci := 14) (x := ⟨"java/lang/AbstractStringBuilder", "ensureCapacityInternal", "(I)V"⟩) (owner := "java/lang/AbstractStringBuilder") (C := RJ4) (T := TJ4) (N := 4) (As := [.int ((gI Gr3 x 3) + r3)]) (rest := []) F 1 rfl rfl (hasW.all q1528) (hasW.all q2508) (hasD.of q1530 q1531) (hasW.kw (by decide +kernel)) q1530 q113 q1531 ⟨by decide +kernel, by decide +kernel, by decide +kernel⟩ (by decide) rfl c6 rfl (room_of sc_nil (Nat.le_of_ble_eq_true rfl)) dJ3_append_4_21 (fun Gr7 br7 sr7 F => ?_)
    refine g_aload_n dJ3_append_4_24 rfl 0 rfl ?_
    refine g_aload_n dJ3_append_4_25 rfl 1 rfl ?_
    exact F.elim
  · have F := F.2 e2
    refine g_aload_n dJ3_append_4_4 rfl 0 rfl ?_
    exact F.elim
theorem rJ3_inflateIfNeededFor_2_0 {Γ : GE} {l : Launch} {h MC MS : Nat} {Q : Option Value → GH → Prop} {bc bs : Nat} {G : GH} (x : Nat) (p1 : Option Nat) (F : (((1 : Int32) = 0 → (Q none G)) ∧ (¬ (1 : Int32) = 0 → (gC G x = kO 14 ∧ ∃ a3, p1 = some a3 ∧ gC G a3 = kO 14 ∧ cI Γ l h mJ3_getCoder [.ref a3] G bc bs fun r2 Gr2 br2 sr2 => (((gI G x 1) = r2 → (Q none Gr2)) ∧ (¬ (gI G x 1) = r2 → (False))))))) : GW Γ l mJ3_inflateIfNeededFor_2 h MC MS Q 0 [(0, va_rf (some x)), (1, va_rf p1)] [] G bc bs := by
  refine g_getsi (C := "java/lang/String") (n := "COMPACT_STRINGS") (d := "Z") (v := 1) (by decide) q210 rfl dJ3_inflateIfNeededFor_2_0 ?_
  refine g_if_eq 21 dJ3_inflateIfNeededFor_2_3 (by decide) (fun h9 => ?_) (fun h9 => ?_)
  · have F := F.1 h9
    exact g_vret rfl dJ3_inflateIfNeededFor_2_21 F
  · have F := F.2 h9
    refine g_aload_n dJ3_inflateIfNeededFor_2_6 rfl 0 rfl ?_
    obtain ⟨c1, F⟩ := F
    refine h_get (v := .int (gI G x 1)) 14 1 (C := RJ4) (T := TJ4) (N := 4) rfl in_J4 (by decide) q220 (Or.inl rfl) rfl c1 rfl dJ3_inflateIfNeededFor_2_7 ?_
    refine g_aload_n dJ3_inflateIfNeededFor_2_10 rfl 1 rfl ?_
    obtain ⟨a3, e4, F⟩ := F
    obtain ⟨c5, F⟩ := F
    refine h_callUI (ci := 14) (x := ⟨"java/lang/AbstractStringBuilder", "getCoder", "()B"⟩) (owner := "java/lang/AbstractStringBuilder") (C := RJ4) (T := TJ4) (N := 4) (As := []) (rest := [.int (gI G x 1)]) F 0 rfl rfl (hasW.all q1724) (hasW.all q1726) (hasD.of q1725 q1728) (hasW.all q1727) q1725 q113 q1728 ⟨by decide +kernel, by decide +kernel, by decide +kernel⟩ (by decide) e4 c5 rfl (room_of (sc_I sc_nil) (Nat.le_of_ble_eq_true rfl)) dJ3_inflateIfNeededFor_2_11 (fun r2 Gr2 br2 sr2 F => ?_)
    refine g_icmp_eq 21 dJ3_inflateIfNeededFor_2_14 (by decide) (fun h8 => ?_) (fun h8 => ?_)
    · have F := F.1 h8
      exact g_vret rfl dJ3_inflateIfNeededFor_2_21 F
    · have F := F.2 h8
      refine g_aload_n dJ3_inflateIfNeededFor_2_17 rfl 0 rfl ?_
      exact F.elim
theorem rJ3_getCoder_0 {Γ : GE} {l : Launch} {h MC MS : Nat} {Q : Option Value → GH → Prop} {bc bs : Nat} {G : GH} (x : Nat) (F : (((1 : Int32) = 0 → (Q (some (.int 1)) G)) ∧ (¬ (1 : Int32) = 0 → (gC G x = kO 14 ∧ narrow .byte (.int (gI G x 1)) = .int (gI G x 1) ∧ Q (some (.int (gI G x 1))) G)))) : GW Γ l mJ3_getCoder h MC MS Q 0 [(0, va_rf (some x))] [] G bc bs := by
  refine g_getsi (C := "java/lang/String") (n := "COMPACT_STRINGS") (d := "Z") (v := 1) (by decide) q210 rfl dJ3_getCoder_0 ?_
  refine g_if_eq 13 dJ3_getCoder_3 (by decide) (fun h3 => ?_) (fun h3 => ?_)
  · have F := F.1 h3
    refine g_iconst (v := 1) dJ3_getCoder_13 (by decide) ?_
    exact g_zret rfl rfl dJ3_getCoder_14 F
  · have F := F.2 h3
    refine g_aload_n dJ3_getCoder_6 rfl 0 rfl ?_
    obtain ⟨c1, F⟩ := F
    refine h_get (v := .int (gI G x 1)) 14 1 (C := RJ4) (T := TJ4) (N := 4) rfl in_J4 (by decide) q220 (Or.inl rfl) rfl c1 rfl dJ3_getCoder_7 ?_
    refine g_goto 14 dJ3_getCoder_10 (by decide) ?_
    obtain ⟨k2, F⟩ := F
    exact g_zret rfl k2 dJ3_getCoder_14 F
theorem rJ3_getBytes_0 {Γ : GE} {l : Launch} {h MC MS : Nat} {Q : Option Value → GH → Prop} {bc bs : Nat} {G : GH} (x : Nat) (p1 : Option Nat) (p2 : Int32) (p3 : Int32) (F : (gC G x = kO 14 ∧ ((¬ (gI G x 1) = p3 → (cV Γ l h mJ14_inflate [va_rf (gR G x 0), .int 0, va_rf p1, .int p2, .int (gI G x 3)] G bc bs fun Gr2 br2 sr2 => Q none Gr2)) ∧ ((gI G x 1) = p3 → (∃ a4, (gR G x 0) = some a4 ∧ gC G a4 = kA 2 ∧ gM G a4 = true ∧ ∃ a8, p1 = some a8 ∧ gC G a8 = kA 2 ∧ gM G a8 = true ∧ ¬ (p2 <<< (p3 &&& 31)) < 0 ∧ ¬ ((gI G x 3) <<< (p3 &&& 31)) < 0 ∧ (0 : Int32).toNatClampNeg + ((gI G x 3) <<< (p3 &&& 31)).toNatClampNeg ≤ gL G a4 ∧ (p2 <<< (p3 &&& 31)).toNatClampNeg + ((gI G x 3) <<< (p3 &&& 31)).toNatClampNeg ≤ gL G a8 ∧ (∀ i, i < ((gI G x 3) <<< (p3 &&& 31)).toNatClampNeg → fits (gtyq 2) (.int (gI G a4 ((0 : Int32).toNatClampNeg + i))) = true) ∧ 0 < h ∧ ∀ H18, H18 = (wI G a8 (va_cpy (gI G a4) (gI G a8) (0 : Int32).toNatClampNeg (p2 <<< (p3 &&& 31)).toNatClampNeg ((gI G x 3) <<< (p3 &&& 31)).toNatClampNeg)) → Q none H18))))) : GW Γ l mJ3_getBytes h MC MS Q 0 [(0, va_rf (some x)), (1, va_rf p1), (2, .int p2), (3, .int p3)] [] G bc bs := by
  refine g_aload_n dJ3_getBytes_0 rfl 0 rfl ?_
  obtain ⟨c1, F⟩ := F
  refine h_get (v := .int (gI G x 1)) 14 1 (C := RJ4) (T := TJ4) (N := 4) rfl in_J4 (by decide) q220 (Or.inl rfl) rfl c1 rfl dJ3_getBytes_1 ?_
  refine g_iload_n dJ3_getBytes_4 rfl 3 rfl ?_
  refine g_icmp_ne 29 dJ3_getBytes_5 (by decide) (fun h21 => ?_) (fun h21 => ?_)
  · have F := F.1 h21
    refine g_aload_n dJ3_getBytes_29 rfl 0 rfl ?_
    refine h_get (v := va_rf (gR G x 0)) 14 0 (C := RJ4) (T := TJ4) (N := 4) rfl in_J4 (by decide) q219 (Or.inl rfl) rfl c1 rfl dJ3_getBytes_30 ?_
    refine g_iconst (v := 0) dJ3_getBytes_33 (by decide) ?_
    refine g_aload_n dJ3_getBytes_34 rfl 1 rfl ?_
    refine g_iload_n dJ3_getBytes_35 rfl 2 rfl ?_
    refine g_aload_n dJ3_getBytes_36 rfl 0 rfl ?_
    refine h_get (v := .int (gI G x 3)) 14 3 (C := RJ4) (T := TJ4) (N := 4) rfl in_J4 (by decide) q223 (Or.inl rfl) rfl c1 rfl dJ3_getBytes_37 ?_
    refine h_callSV (As := [va_rf (gR G x 0), .int 0, va_rf p1, .int p2, .int (gI G x 3)]) (rest := []) F 5 rfl (lw_S q1604 q1605 q127 q1606) vm_J14_inflate.2 (by decide) rfl (room_of sc_nil (Nat.le_of_ble_eq_true rfl)) dJ3_getBytes_40 (fun Gr2 br2 sr2 F => ?_)
    exact g_vret rfl dJ3_getBytes_43 F
  · have F := F.2 h21
    refine g_aload_n dJ3_getBytes_8 rfl 0 rfl ?_
    refine h_get (v := va_rf (gR G x 0)) 14 0 (C := RJ4) (T := TJ4) (N := 4) rfl in_J4 (by decide) q219 (Or.inl rfl) rfl c1 rfl dJ3_getBytes_9 ?_
    refine g_iconst (v := 0) dJ3_getBytes_12 (by decide) ?_
    refine g_aload_n dJ3_getBytes_13 rfl 1 rfl ?_
    refine g_iload_n dJ3_getBytes_14 rfl 2 rfl ?_
    refine g_iload_n dJ3_getBytes_15 rfl 3 rfl ?_
    refine g_ishl dJ3_getBytes_16 ?_
    refine g_aload_n dJ3_getBytes_17 rfl 0 rfl ?_
    refine h_get (v := .int (gI G x 3)) 14 3 (C := RJ4) (T := TJ4) (N := 4) rfl in_J4 (by decide) q223 (Or.inl rfl) rfl c1 rfl dJ3_getBytes_18 ?_
    refine g_iload_n dJ3_getBytes_21 rfl 3 rfl ?_
    refine g_ishl dJ3_getBytes_22 ?_
    obtain ⟨a4, e5, F⟩ := F
    obtain ⟨c6, F⟩ := F
    obtain ⟨m7, F⟩ := F
    obtain ⟨a8, e9, F⟩ := F
    obtain ⟨c10, F⟩ := F
    obtain ⟨m11, F⟩ := F
    obtain ⟨k12, F⟩ := F
    obtain ⟨k13, F⟩ := F
    obtain ⟨k14, F⟩ := F
    obtain ⟨k15, F⟩ := F
    obtain ⟨k16, F⟩ := F
    obtain ⟨k17, F⟩ := F
    refine h_copyi 2 (by decide) q1734 q439 q438 q118 e5 c6 m7 e9 c10 m11 (by decide) k12 k13 k14 k15 k16 k17 (room_of sc_nil (Nat.le_of_ble_eq_true rfl)) dJ3_getBytes_23 ?_
    obtain ⟨H18, h19⟩ : ∃ g : GH, g = (wI G a8 (va_cpy (gI G a4) (gI G a8) (0 : Int32).toNatClampNeg (p2 <<< (p3 &&& 31)).toNatClampNeg ((gI G x 3) <<< (p3 &&& 31)).toNatClampNeg)) := ⟨_, rfl⟩
    rw [← h19]
    have F := F H18 h19
    refine g_goto 43 dJ3_getBytes_26 (by decide) ?_
    exact g_vret rfl dJ3_getBytes_43 F
theorem rJ3_append_5_0 {Γ : GE} {l : Launch} {h MC MS : Nat} {Q : Option Value → GH → Prop} {bc bs : Nat} {G : GH} (x : Nat) (p1 : Option Nat) (p2 : Int32) (p3 : Int32) (F : ((∀ a1, p1 = some a1 → (GW Γ l mJ3_append_5 h MC MS Q 7 [(0, va_rf (some x)), (1, va_rf p1), (2, .int p2), (3, .int p3)] [] G bc bs)) ∧ (p1 = none → (GW Γ l mJ3_append_5 h MC MS Q 7 [(0, va_rf (some x)), (1, va_rf (some (Γ.2.2.2 29))), (2, .int p2), (3, .int p3)] [] G bc bs)))) : GW Γ l mJ3_append_5 h MC MS Q 0 [(0, va_rf (some x)), (1, va_rf p1), (2, .int p2), (3, .int p3)] [] G bc bs := by
  refine g_aload_n dJ3_append_5_0 rfl 1 rfl ?_
  refine g_ifnonnull 7 dJ3_append_5_1 (by decide) (fun a1 e2 => ?_) (fun e2 => ?_)
  · have F := F.1 a1 e2
    exact F
  · have F := F.2 e2
    refine h_ldcS (tx := "null") 29 (by decide +kernel) dJ3_append_5_4 ?_
    refine s_astore_n (lv' := [(0, va_rf (some x)), (1, va_rf (some (Γ.2.2.2 29))), (2, .int p2), (3, .int p3)]) (cat_R (cat_R (cat_I (cat_I cat_nil)))) dJ3_append_5_6 rfl (by decide) rfl [1, 0, 2, 3] rfl ?_
    exact F
theorem rJ3_append_5_7 {Γ : GE} {l : Launch} {h MC MS : Nat} {Q : Option Value → GH → Prop} {bc bs : Nat} {G : GH} (x : Nat) (p1 : Option Nat) (p2 : Int32) (p3 : Int32) (F : (∃ a2, p1 = some a2 ∧ gC G a2 = kO 15 ∧ cI Γ l h mJ5_length [.ref a2] G bc bs fun r1 Gr1 br1 sr1 => cI Γ l h mJ13_checkFromToIndex [.int p2, .int p3, .int r1, va_rf (some (Γ.2.2.2 10))] Gr1 br1 sr1 fun r6 Gr6 br6 sr6 => gC Gr6 x = kO 14 ∧ cV Γ l h mJ3_ensureCapacityInternal [.ref x, .int ((gI Gr6 x 3) + (p3 - p2))] Gr6 br6 sr6 fun Gr9 br9 sr9 => ∃ b11, okInst Gr9 p1 "java/lang/String" b11 ∧ ((b11 = 0 → (False)) ∧ (¬ b11 = 0 → (okCast Gr9 p1 "java/lang/String" ∧ False))))) : GW Γ l mJ3_append_5 h MC MS Q 7 [(0, va_rf (some x)), (1, va_rf p1), (2, .int p2), (3, .int p3)] [] G bc bs := by
  refine g_iload_n dJ3_append_5_7 rfl 2 rfl ?_
  refine g_iload_n dJ3_append_5_8 rfl 3 rfl ?_
  refine g_aload_n dJ3_append_5_9 rfl 1 rfl ?_
  obtain ⟨a2, e3, F⟩ := F
  obtain ⟨c4, F⟩ := F
  refine h_callFI (ci := 15) (x := ⟨"java/lang/CharSequence", "length", "()I"⟩) (C := RJ5) (T := TJ5) (N := 4) (As := []) (rest := [.int p3, .int p2]) F 0 rfl rfl q1736 (by decide +kernel) q1740 q1588 q115 q1590 ⟨by decide +kernel, by decide +kernel, by decide +kernel⟩ (by decide) e3 c4 rfl (room_of (sc_I (sc_I sc_nil)) (Nat.le_of_ble_eq_true rfl)) dJ3_append_5_10 (fun r1 Gr1 br1 sr1 F => ?_)
  refine g_getsr (C := "jdk/internal/util/Preconditions") (n := "IOOBE_FORMATTER") (d := "Ljava/util/function/BiFunction;") (i := 10) (by decide) q1760 rfl dJ3_append_5_15 ?_
  refine h_callSI (As := [.int p2, .int p3, .int r1, va_rf (some (Γ.2.2.2 10))]) (rest := []) F 4 rfl (lw_S q1762 q927 q125 q928) vm_J13_checkFromToIndex.2 (by decide) rfl (room_of sc_nil (Nat.le_of_ble_eq_true rfl)) dJ3_append_5_18 (fun r6 Gr6 br6 sr6 F => ?_)
  refine g_pop dJ3_append_5_21 rfl ?_
  refine g_iload_n dJ3_append_5_22 rfl 3 rfl ?_
  refine g_iload_n dJ3_append_5_23 rfl 2 rfl ?_
  refine g_isub dJ3_append_5_24 ?_
  refine s_istore (lv' := [(0, va_rf (some x)), (1, va_rf p1), (2, .int p2), (3, .int p3), (4, .int (p3 - p2))]) (cat_R (cat_R (cat_I (cat_I cat_nil)))) dJ3_append_5_25 (by decide) rfl [1, 2, 3, 4, 0] rfl ?_
  refine g_aload_n dJ3_append_5_27 rfl 0 rfl ?_
  refine g_aload_n dJ3_append_5_28 rfl 0 rfl ?_
  obtain ⟨c8, F⟩ := F
  refine h_get (v := .int (gI Gr6 x 3)) 14 3 (C := RJ4) (T := TJ4) (N := 4) rfl in_J4 (by decide) q223 (Or.inl rfl) rfl c8 rfl dJ3_append_5_29 ?_
  refine g_iload dJ3_append_5_32 4 rfl ?_
  refine g_iadd dJ3_append_5_34 ?_
  refine h_callUV (ci := 14) (x := ⟨"java/lang/AbstractStringBuilder", "ensureCapacityInternal", "(I)V"⟩) (owner := "java/lang/AbstractStringBuilder") (C := RJ4) (T := TJ4) (N := 4) (As := [.int ((gI Gr6 x 3) + (p3 - p2))]) (rest := []) F 1 rfl rfl (hasW.all q1528) (hasW.all q2508) (hasD.of q1530 q1531) (hasW.kw (by decide +kernel)) q1530 q113 q1531 ⟨by decide +kernel, by decide +kernel, by decide +kernel⟩ (by decide) rfl c8 rfl (room_of sc_nil (Nat.le_of_ble_eq_true rfl)) dJ3_append_5_35 (fun Gr9 br9 sr9 F => ?_)
  refine g_aload_n dJ3_append_5_38 rfl 1 rfl ?_
  obtain ⟨b11, e12, F⟩ := F
  refine h_inst q1708 e12 dJ3_append_5_39 ?_
  refine g_if_eq 58 dJ3_append_5_42 (by decide) (fun h16 => ?_) (fun h16 => ?_)
  · have F := F.1 h16
    refine g_aload_n dJ3_append_5_58 rfl 0 rfl ?_
    refine g_aload_n dJ3_append_5_59 rfl 1 rfl ?_
    refine g_iload_n dJ3_append_5_60 rfl 2 rfl ?_
    refine g_iload_n dJ3_append_5_61 rfl 3 rfl ?_
    exact F.elim
  · have F := F.2 h16
    refine g_aload_n dJ3_append_5_45 rfl 0 rfl ?_
    refine g_aload_n dJ3_append_5_46 rfl 1 rfl ?_
    obtain ⟨k14, F⟩ := F
    refine h_castO q1708 k14 dJ3_append_5_47 ?_
    refine g_iload_n dJ3_append_5_50 rfl 2 rfl ?_
    refine g_iload_n dJ3_append_5_51 rfl 3 rfl ?_
    exact F.elim
theorem rJ3_appendChars_0 {Γ : GE} {l : Launch} {h MC MS : Nat} {Q : Option Value → GH → Prop} {bc bs : Nat} {G : GH} (x : Nat) (p1 : Option Nat) (p2 : Int32) (p3 : Int32) (F : (gC G x = kO 14 ∧ cI Γ l h mJ3_isLatin1 [.ref x] G bc bs fun r1 Gr1 br1 sr1 => ((r1 = 0 → (∃ a5, p1 = some a5 ∧ gC Gr1 a5 = kO 15 ∧ cI Γ l h mJ5_isLatin1 [.ref a5] Gr1 br1 sr1 fun r4 Gr4 br4 sr4 => ((r4 = 0 → (gC Gr4 a5 = kO 15 ∧ cR Γ l h mJ5_value [.ref a5] Gr4 br4 sr4 fun r9 Gr9 br9 sr9 => gC Gr9 x = kO 14 ∧ ∃ a13, r9 = some a13 ∧ gC Gr9 a13 = kA 2 ∧ gM Gr9 a13 = true ∧ ∃ a17, (gR Gr9 x 0) = some a17 ∧ gC Gr9 a17 = kA 2 ∧ gM Gr9 a17 = true ∧ ¬ (p2 <<< (1 &&& 31)) < 0 ∧ ¬ ((gI Gr9 x 3) <<< (1 &&& 31)) < 0 ∧ ¬ ((p3 - p2) <<< (1 &&& 31)) < 0 ∧ (p2 <<< (1 &&& 31)).toNatClampNeg + ((p3 - p2) <<< (1 &&& 31)).toNatClampNeg ≤ gL Gr9 a13 ∧ ((gI Gr9 x 3) <<< (1 &&& 31)).toNatClampNeg + ((p3 - p2) <<< (1 &&& 31)).toNatClampNeg ≤ gL Gr9 a17 ∧ (∀ i, i < ((p3 - p2) <<< (1 &&& 31)).toNatClampNeg → fits (gtyq 2) (.int (gI Gr9 a13 ((p2 <<< (1 &&& 31)).toNatClampNeg + i))) = true) ∧ 0 < h ∧ ∀ H28, H28 = (wI Gr9 a17 (va_cpy (gI Gr9 a13) (gI Gr9 a17) (p2 <<< (1 &&& 31)).toNatClampNeg ((gI Gr9 x 3) <<< (1 &&& 31)).toNatClampNeg ((p3 - p2) <<< (1 &&& 31)).toNatClampNeg)) → gC H28 x = kO 14 ∧ gM H28 x = true ∧ Q none (sI H28 x 3 ((gI H28 x 3) + (p3 - p2))))) ∧ (¬ r4 = 0 → (gC Gr4 x = kO 14 ∧ cV Γ l h mJ6_putCharsSB [va_rf (gR Gr4 x 0), .int (gI Gr4 x 3), va_rf p1, .int p2, .int p3] Gr4 br4 sr4 fun Gr34 br34 sr34 => gC Gr34 x = kO 14 ∧ gM Gr34 x = true ∧ Q none (sI Gr34 x 3 ((gI Gr34 x 3) + (p3 - p2)))))))) ∧ (¬ r1 = 0 → (∃ a40, p1 = some a40 ∧ gC Gr1 a40 = kO 15 ∧ cI Γ l h mJ5_isLatin1 [.ref a40] Gr1 br1 sr1 fun r39 Gr39 br39 sr39 => ((r39 = 0 → (gC Gr39 x = kO 14 ∧ GW Γ l mJ3_appendChars h MC MS Q 51 [(0, va_rf (some x)), (1, va_rf p1), (2, .int p2), (3, .int p3), (4, va_rf (gR Gr39 x 0)), (5, .int p2), (6, .int (gI Gr39 x 3))] [] Gr39 br39 sr39)) ∧ (¬ r39 = 0 → (gC Gr39 a40 = kO 15 ∧ cR Γ l h mJ5_value [.ref a40] Gr39 br39 sr39 fun r45 Gr45 br45 sr45 => gC Gr45 x = kO 14 ∧ ∃ a49, r45 = some a49 ∧ gC Gr45 a49 = kA 2 ∧ gM Gr45 a49 = true ∧ ∃ a53, (gR Gr45 x 0) = some a53 ∧ gC Gr45 a53 = kA 2 ∧ gM Gr45 a53 = true ∧ ¬ p2 < 0 ∧ ¬ (gI Gr45 x 3) < 0 ∧ ¬ (p3 - p2) < 0 ∧ p2.toNatClampNeg + (p3 - p2).toNatClampNeg ≤ gL Gr45 a49 ∧ (gI Gr45 x 3).toNatClampNeg + (p3 - p2).toNatClampNeg ≤ gL Gr45 a53 ∧ (∀ i, i < (p3 - p2).toNatClampNeg → fits (gtyq 2) (.int (gI Gr45 a49 (p2.toNatClampNeg + i))) = true) ∧ 0 < h ∧ ∀ H64, H64 = (wI Gr45 a53 (va_cpy (gI Gr45 a49) (gI Gr45 a53) p2.toNatClampNeg (gI Gr45 x 3).toNatClampNeg (p3 - p2).toNatClampNeg)) → gC H64 x = kO 14 ∧ gM H64 x = true ∧ Q none (sI H64 x 3 ((gI H64 x 3) + (p3 - p2))))))))))) : GW Γ l mJ3_appendChars h MC MS Q 0 [(0, va_rf (some x)), (1, va_rf p1), (2, .int p2), (3, .int p3)] [] G bc bs := by
  refine g_aload_n dJ3_appendChars_0 rfl 0 rfl ?_
  obtain ⟨c2, F⟩ := F
  refine h_callUI (ci := 14) (x := ⟨"java/lang/AbstractStringBuilder", "isLatin1", "()Z"⟩) (owner := "java/lang/AbstractStringBuilder") (C := RJ4) (T := TJ4) (N := 4) (As := []) (rest := []) F 0 rfl rfl (hasW.all q909) (hasW.all q911) (hasD.of q910 q913) (hasW.all q912) q910 q113 q913 ⟨by decide +kernel, by decide +kernel, by decide +kernel⟩ (by decide) rfl c2 rfl (room_of sc_nil (Nat.le_of_ble_eq_true rfl)) dJ3_appendChars_1 (fun r1 Gr1 br1 sr1 F => ?_)
  refine g_if_eq 145 dJ3_appendChars_4 (by decide) (fun h70 => ?_) (fun h70 => ?_)
  · have F := F.1 h70
    refine g_aload_n dJ3_appendChars_145 rfl 1 rfl ?_
    obtain ⟨a5, e6, F⟩ := F
    obtain ⟨c7, F⟩ := F
    refine h_callVI (ci := 15) (C := RJ5) (T := TJ5) (N := 4) (As := []) (rest := []) F 0 rfl rfl (lw_V q1767 q605 q606 q115 q607) vm_J5_isLatin1 (by decide) e6 c7 rfl (room_of sc_nil (Nat.le_of_ble_eq_true rfl)) dJ3_appendChars_146 (fun r4 Gr4 br4 sr4 F => ?_)
    refine g_if_eq 169 dJ3_appendChars_149 (by decide) (fun h38 => ?_) (fun h38 => ?_)
    · have F := F.1 h38
      refine g_aload_n dJ3_appendChars_169 rfl 1 rfl ?_
      obtain ⟨c10, F⟩ := F
      refine h_callVR (ci := 15) (C := RJ5) (T := TJ5) (N := 4) (As := []) (rest := []) F 0 rfl rfl (lw_V q1768 q1769 q1770 q115 q1771) vm_J5_value (by decide) e6 c10 rfl (room_of sc_nil (Nat.le_of_ble_eq_true rfl)) dJ3_appendChars_170 (fun r9 Gr9 br9 sr9 F => ?_)
      refine g_iload_n dJ3_appendChars_173 rfl 2 rfl ?_
      refine g_iconst (v := 1) dJ3_appendChars_174 (by decide) ?_
      refine g_ishl dJ3_appendChars_175 ?_
      refine g_aload_n dJ3_appendChars_176 rfl 0 rfl ?_
      obtain ⟨c12, F⟩ := F
      refine h_get (v := va_rf (gR Gr9 x 0)) 14 0 (C := RJ4) (T := TJ4) (N := 4) rfl in_J4 (by decide) q219 (Or.inl rfl) rfl c12 rfl dJ3_appendChars_177 ?_
      refine g_aload_n dJ3_appendChars_180 rfl 0 rfl ?_
      refine h_get (v := .int (gI Gr9 x 3)) 14 3 (C := RJ4) (T := TJ4) (N := 4) rfl in_J4 (by decide) q223 (Or.inl rfl) rfl c12 rfl dJ3_appendChars_181 ?_
      refine g_iconst (v := 1) dJ3_appendChars_184 (by decide) ?_
      refine g_ishl dJ3_appendChars_185 ?_
      refine g_iload_n dJ3_appendChars_186 rfl 3 rfl ?_
      refine g_iload_n dJ3_appendChars_187 rfl 2 rfl ?_
      refine g_isub dJ3_appendChars_188 ?_
      refine g_iconst (v := 1) dJ3_appendChars_189 (by decide) ?_
      refine g_ishl dJ3_appendChars_190 ?_
      obtain ⟨a13, e14, F⟩ := F
      obtain ⟨c15, F⟩ := F
      obtain ⟨m16, F⟩ := F
      obtain ⟨a17, e18, F⟩ := F
      obtain ⟨c19, F⟩ := F
      obtain ⟨m20, F⟩ := F
      obtain ⟨k21, F⟩ := F
      obtain ⟨k22, F⟩ := F
      obtain ⟨k23, F⟩ := F
      obtain ⟨k24, F⟩ := F
      obtain ⟨k25, F⟩ := F
      obtain ⟨k26, F⟩ := F
      obtain ⟨k27, F⟩ := F
      refine h_copyi 2 (by decide) q1734 q439 q438 q118 e14 c15 m16 e18 c19 m20 k21 k22 k23 k24 k25 k26 k27 (room_of sc_nil (Nat.le_of_ble_eq_true rfl)) dJ3_appendChars_191 ?_
      obtain ⟨H28, h29⟩ : ∃ g : GH, g = (wI Gr9 a17 (va_cpy (gI Gr9 a13) (gI Gr9 a17) (p2 <<< (1 &&& 31)).toNatClampNeg ((gI Gr9 x 3) <<< (1 &&& 31)).toNatClampNeg ((p3 - p2) <<< (1 &&& 31)).toNatClampNeg)) := ⟨_, rfl⟩
      rw [← h29]
      have F := F H28 h29
      refine g_aload_n dJ3_appendChars_194 rfl 0 rfl ?_
      refine g_dup dJ3_appendChars_195 (va_rf_cat _) ?_
      obtain ⟨c31, F⟩ := F
      refine h_get (v := .int (gI H28 x 3)) 14 3 (C := RJ4) (T := TJ4) (N := 4) rfl in_J4 (by decide) q223 (Or.inl rfl) rfl c31 rfl dJ3_appendChars_196 ?_
      refine g_iload_n dJ3_appendChars_199 rfl 3 rfl ?_
      refine g_iload_n dJ3_appendChars_200 rfl 2 rfl ?_
      refine g_isub dJ3_appendChars_201 ?_
      refine g_iadd dJ3_appendChars_202 ?_
      obtain ⟨m32, F⟩ := F
      refine h_putI (mi := mJ3_appendChars) 14 3 (C := RJ4) (T := TJ4) (N := 4) rfl in_J4 tyJ4_ok nmJ4 (by decide) q223 (Or.inl rfl) (Or.inl rfl) rfl rfl c31 m32 rfl rfl dJ3_appendChars_203 ?_
      exact g_vret rfl dJ3_appendChars_206 F
    · have F := F.2 h38
      refine g_aload_n dJ3_appendChars_152 rfl 0 rfl ?_
      obtain ⟨c33, F⟩ := F
      refine h_get (v := va_rf (gR Gr4 x 0)) 14 0 (C := RJ4) (T := TJ4) (N := 4) rfl in_J4 (by decide) q219 (Or.inl rfl) rfl c33 rfl dJ3_appendChars_153 ?_
      refine g_aload_n dJ3_appendChars_156 rfl 0 rfl ?_
      refine h_get (v := .int (gI Gr4 x 3)) 14 3 (C := RJ4) (T := TJ4) (N := 4) rfl in_J4 (by decide) q223 (Or.inl rfl) rfl c33 rfl dJ3_appendChars_157 ?_
      refine g_aload_n dJ3_appendChars_160 rfl 1 rfl ?_
      refine g_iload_n dJ3_appendChars_161 rfl 2 rfl ?_
      refine g_iload_n dJ3_appendChars_162 rfl 3 rfl ?_
      refine h_callSV (As := [va_rf (gR Gr4 x 0), .int (gI Gr4 x 3), va_rf p1, .int p2, .int p3]) (rest := []) F 5 rfl (lw_S q1793 q1794 q116 q1795) vm_J6_putCharsSB.2 (by decide) rfl (room_of sc_nil (Nat.le_of_ble_eq_true rfl)) dJ3_appendChars_163 (fun Gr34 br34 sr34 F => ?_)
      refine g_goto 194 dJ3_appendChars_166 (by decide) ?_
      refine g_aload_n dJ3_appendChars_194 rfl 0 rfl ?_
      refine g_dup dJ3_appendChars_195 (va_rf_cat _) ?_
      obtain ⟨c36, F⟩ := F
      refine h_get (v := .int (gI Gr34 x 3)) 14 3 (C := RJ4) (T := TJ4) (N := 4) rfl in_J4 (by decide) q223 (Or.inl rfl) rfl c36 rfl dJ3_appendChars_196 ?_
      refine g_iload_n dJ3_appendChars_199 rfl 3 rfl ?_
      refine g_iload_n dJ3_appendChars_200 rfl 2 rfl ?_
      refine g_isub dJ3_appendChars_201 ?_
      refine g_iadd dJ3_appendChars_202 ?_
      obtain ⟨m37, F⟩ := F
      refine h_putI (mi := mJ3_appendChars) 14 3 (C := RJ4) (T := TJ4) (N := 4) rfl in_J4 tyJ4_ok nmJ4 (by decide) q223 (Or.inl rfl) (Or.inl rfl) rfl rfl c36 m37 rfl rfl dJ3_appendChars_203 ?_
      exact g_vret rfl dJ3_appendChars_206 F
  · have F := F.2 h70
    refine g_aload_n dJ3_appendChars_7 rfl 1 rfl ?_
    obtain ⟨a40, e41, F⟩ := F
    obtain ⟨c42, F⟩ := F
    refine h_callVI (ci := 15) (C := RJ5) (T := TJ5) (N := 4) (As := []) (rest := []) F 0 rfl rfl (lw_V q1767 q605 q606 q115 q607) vm_J5_isLatin1 (by decide) e41 c42 rfl (room_of sc_nil (Nat.le_of_ble_eq_true rfl)) dJ3_appendChars_8 (fun r39 Gr39 br39 sr39 F => ?_)
    refine g_if_eq 36 dJ3_appendChars_11 (by decide) (fun h69 => ?_) (fun h69 => ?_)
    · have F := F.1 h69
      refine g_aload_n dJ3_appendChars_36 rfl 0 rfl ?_
      obtain ⟨c44, F⟩ := F
      refine h_get (v := va_rf (gR Gr39 x 0)) 14 0 (C := RJ4) (T := TJ4) (N := 4) rfl in_J4 (by decide) q219 (Or.inl rfl) rfl c44 rfl dJ3_appendChars_37 ?_
      refine s_astore (lv' := [(0, va_rf (some x)), (1, va_rf p1), (2, .int p2), (3, .int p3), (4, va_rf (gR Gr39 x 0))]) (cat_R (cat_R (cat_I (cat_I cat_nil)))) dJ3_appendChars_40 (by decide) rfl [1, 2, 3, 4, 0] rfl ?_
      refine g_iload_n dJ3_appendChars_42 rfl 2 rfl ?_
      refine s_istore (lv' := [(0, va_rf (some x)), (1, va_rf p1), (2, .int p2), (3, .int p3), (4, va_rf (gR Gr39 x 0)), (5, .int p2)]) (cat_R (cat_R (cat_I (cat_I (cat_R cat_nil))))) dJ3_appendChars_43 (by decide) rfl [1, 2, 3, 4, 5, 0] rfl ?_
      refine g_aload_n dJ3_appendChars_45 rfl 0 rfl ?_
      refine h_get (v := .int (gI Gr39 x 3)) 14 3 (C := RJ4) (T := TJ4) (N := 4) rfl in_J4 (by decide) q223 (Or.inl rfl) rfl c44 rfl dJ3_appendChars_46 ?_
      refine s_istore (lv' := [(0, va_rf (some x)), (1, va_rf p1), (2, .int p2), (3, .int p3), (4, va_rf (gR Gr39 x 0)), (5, .int p2), (6, .int (gI Gr39 x 3))]) (cat_R (cat_R (cat_I (cat_I (cat_R (cat_I cat_nil)))))) dJ3_appendChars_49 (by decide) rfl [1, 2, 3, 4, 5, 6, 0] rfl ?_
      exact F
    · have F := F.2 h69
      refine g_aload_n dJ3_appendChars_14 rfl 1 rfl ?_
      obtain ⟨c46, F⟩ := F
      refine h_callVR (ci := 15) (C := RJ5) (T := TJ5) (N := 4) (As := []) (rest := []) F 0 rfl rfl (lw_V q1768 q1769 q1770 q115 q1771) vm_J5_value (by decide) e41 c46 rfl (room_of sc_nil (Nat.le_of_ble_eq_true rfl)) dJ3_appendChars_15 (fun r45 Gr45 br45 sr45 F => ?_)
      refine g_iload_n dJ3_appendChars_18 rfl 2 rfl ?_
      refine g_aload_n dJ3_appendChars_19 rfl 0 rfl ?_
      obtain ⟨c48, F⟩ := F
      refine h_get (v := va_rf (gR Gr45 x 0)) 14 0 (C := RJ4) (T := TJ4) (N := 4) rfl in_J4 (by decide) q219 (Or.inl rfl) rfl c48 rfl dJ3_appendChars_20 ?_
      refine g_aload_n dJ3_appendChars_23 rfl 0 rfl ?_
      refine h_get (v := .int (gI Gr45 x 3)) 14 3 (C := RJ4) (T := TJ4) (N := 4) rfl in_J4 (by decide) q223 (Or.inl rfl) rfl c48 rfl dJ3_appendChars_24 ?_
      refine g_iload_n dJ3_appendChars_27 rfl 3 rfl ?_
      refine g_iload_n dJ3_appendChars_28 rfl 2 rfl ?_
      refine g_isub dJ3_appendChars_29 ?_
      obtain ⟨a49, e50, F⟩ := F
      obtain ⟨c51, F⟩ := F
      obtain ⟨m52, F⟩ := F
      obtain ⟨a53, e54, F⟩ := F
      obtain ⟨c55, F⟩ := F
      obtain ⟨m56, F⟩ := F
      obtain ⟨k57, F⟩ := F
      obtain ⟨k58, F⟩ := F
      obtain ⟨k59, F⟩ := F
      obtain ⟨k60, F⟩ := F
      obtain ⟨k61, F⟩ := F
      obtain ⟨k62, F⟩ := F
      obtain ⟨k63, F⟩ := F
      refine h_copyi 2 (by decide) q1734 q439 q438 q118 e50 c51 m52 e54 c55 m56 k57 k58 k59 k60 k61 k62 k63 (room_of sc_nil (Nat.le_of_ble_eq_true rfl)) dJ3_appendChars_30 ?_
      obtain ⟨H64, h65⟩ : ∃ g : GH, g = (wI Gr45 a53 (va_cpy (gI Gr45 a49) (gI Gr45 a53) p2.toNatClampNeg (gI Gr45 x 3).toNatClampNeg (p3 - p2).toNatClampNeg)) := ⟨_, rfl⟩
      rw [← h65]
      have F := F H64 h65
      refine g_goto 194 dJ3_appendChars_33 (by decide) ?_
      refine g_aload_n dJ3_appendChars_194 rfl 0 rfl ?_
      refine g_dup dJ3_appendChars_195 (va_rf_cat _) ?_
      obtain ⟨c67, F⟩ := F
      refine h_get (v := .int (gI H64 x 3)) 14 3 (C := RJ4) (T := TJ4) (N := 4) rfl in_J4 (by decide) q223 (Or.inl rfl) rfl c67 rfl dJ3_appendChars_196 ?_
      refine g_iload_n dJ3_appendChars_199 rfl 3 rfl ?_
      refine g_iload_n dJ3_appendChars_200 rfl 2 rfl ?_
      refine g_isub dJ3_appendChars_201 ?_
      refine g_iadd dJ3_appendChars_202 ?_
      obtain ⟨m68, F⟩ := F
      refine h_putI (mi := mJ3_appendChars) 14 3 (C := RJ4) (T := TJ4) (N := 4) rfl in_J4 tyJ4_ok nmJ4 (by decide) q223 (Or.inl rfl) (Or.inl rfl) rfl rfl c67 m68 rfl rfl dJ3_appendChars_203 ?_
      exact g_vret rfl dJ3_appendChars_206 F
theorem rJ3_appendChars_51 {Γ : GE} {l : Launch} {h MC MS : Nat} {Q : Option Value → GH → Prop} {bc bs : Nat} {G : GH} (x : Nat) (p1 : Option Nat) (p2 : Int32) (p3 : Int32) (p4 : Option Nat) (p5 : Int32) (p6 : Int32) (F : ((p3 ≤ p5 → (gC G x = kO 14 ∧ gM G x = true ∧ Q none (sI G x 3 ((gI G x 3) + (p3 - p2))))) ∧ (¬ p3 ≤ p5 → (∃ a4, p1 = some a4 ∧ gC G a4 = kO 15 ∧ cI Γ l h mJ5_charAt [.ref a4, .int p5] G bc bs fun r3 Gr3 br3 sr3 => cI Γ l h mJ14_canEncode [.int r3] Gr3 br3 sr3 fun r8 Gr8 br8 sr8 => ((r8 = 0 → (gC Gr8 x = kO 14 ∧ gM Gr8 x = true ∧ False)) ∧ (¬ r8 = 0 → (∃ a13, p4 = some a13 ∧ gC Gr8 a13 = kA 2 ∧ gM Gr8 a13 = true ∧ vp_in p6 (gL Gr8 a13) ∧ GW Γ l mJ3_appendChars h MC MS Q 51 [(0, va_rf (some x)), (1, va_rf p1), (2, .int p2), (3, .int p3), (4, va_rf p4), (5, .int (p5 + 1)), (6, .int (p6 + 1))] [] (sI Gr8 a13 p6.toNatClampNeg (vp_nar .byte r3.toInt8.toInt32)) br8 sr8))))))) : GW Γ l mJ3_appendChars h MC MS Q 51 [(0, va_rf (some x)), (1, va_rf p1), (2, .int p2), (3, .int p3), (4, va_rf p4), (5, .int p5), (6, .int p6)] [] G bc bs := by
  refine g_iload dJ3_appendChars_51 5 rfl ?_
  refine g_iload_n dJ3_appendChars_53 rfl 3 rfl ?_
  refine g_icmp_ge 142 dJ3_appendChars_54 (by decide) (fun h19 => ?_) (fun h19 => ?_)
  · have F := F.1 h19
    refine g_goto 194 dJ3_appendChars_142 (by decide) ?_
    refine g_aload_n dJ3_appendChars_194 rfl 0 rfl ?_
    refine g_dup dJ3_appendChars_195 (va_rf_cat _) ?_
    obtain ⟨c1, F⟩ := F
    refine h_get (v := .int (gI G x 3)) 14 3 (C := RJ4) (T := TJ4) (N := 4) rfl in_J4 (by decide) q223 (Or.inl rfl) rfl c1 rfl dJ3_appendChars_196 ?_
    refine g_iload_n dJ3_appendChars_199 rfl 3 rfl ?_
    refine g_iload_n dJ3_appendChars_200 rfl 2 rfl ?_
    refine g_isub dJ3_appendChars_201 ?_
    refine g_iadd dJ3_appendChars_202 ?_
    obtain ⟨m2, F⟩ := F
    refine h_putI (mi := mJ3_appendChars) 14 3 (C := RJ4) (T := TJ4) (N := 4) rfl in_J4 tyJ4_ok nmJ4 (by decide) q223 (Or.inl rfl) (Or.inl rfl) rfl rfl c1 m2 rfl rfl dJ3_appendChars_203 ?_
    exact g_vret rfl dJ3_appendChars_206 F
  · have F := F.2 h19
    refine g_aload_n dJ3_appendChars_57 rfl 1 rfl ?_
    refine g_iload dJ3_appendChars_58 5 rfl ?_
    obtain ⟨a4, e5, F⟩ := F
    obtain ⟨c6, F⟩ := F
    refine h_callVI (ci := 15) (C := RJ5) (T := TJ5) (N := 4) (As := [.int p5]) (rest := []) F 1 rfl rfl (lw_V q1772 q1773 q1774 q115 q1775) vm_J5_charAt (by decide) e5 c6 rfl (room_of sc_nil (Nat.le_of_ble_eq_true rfl)) dJ3_appendChars_60 (fun r3 Gr3 br3 sr3 F => ?_)
    refine s_istore (lv' := [(0, va_rf (some x)), (1, va_rf p1), (2, .int p2), (3, .int p3), (4, va_rf p4), (5, .int p5), (6, .int p6), (7, .int r3)]) (cat_R (cat_R (cat_I (cat_I (cat_R (cat_I (cat_I cat_nil))))))) dJ3_appendChars_63 (by decide) rfl [1, 2, 3, 4, 5, 6, 7, 0] rfl ?_
    refine g_iload dJ3_appendChars_65 7 rfl ?_
    refine h_callSI (As := [.int r3]) (rest := []) F 1 rfl (lw_S q1790 q1791 q127 q1792) vm_J14_canEncode.2 (by decide) rfl (room_of sc_nil (Nat.le_of_ble_eq_true rfl)) dJ3_appendChars_67 (fun r8 Gr8 br8 sr8 F => ?_)
    refine g_if_eq 87 dJ3_appendChars_70 (by decide) (fun h18 => ?_) (fun h18 => ?_)
    · have F := F.1 h18
      refine g_aload_n dJ3_appendChars_87 rfl 0 rfl ?_
      refine g_iload dJ3_appendChars_88 6 rfl ?_
      obtain ⟨c10, F⟩ := F
      obtain ⟨m11, F⟩ := F
      refine h_putI (mi := mJ3_appendChars) 14 3 (C := RJ4) (T := TJ4) (N := 4) rfl in_J4 tyJ4_ok nmJ4 (by decide) q223 (Or.inl rfl) (Or.inl rfl) rfl rfl c10 m11 rfl rfl dJ3_appendChars_90 ?_
      refine g_aload_n dJ3_appendChars_93 rfl 0 rfl ?_
      exact F.elim
    · have F := F.2 h18
      refine g_aload dJ3_appendChars_73 4 rfl ?_
      refine g_iload dJ3_appendChars_75 6 rfl ?_
      refine s_iinc (v := (p6 + 1)) (lv' := [(0, va_rf (some x)), (1, va_rf p1), (2, .int p2), (3, .int p3), (4, va_rf p4), (5, .int p5), (6, .int (p6 + 1)), (7, .int r3)]) (cat_R (cat_R (cat_I (cat_I (cat_R (cat_I (cat_I (cat_I cat_nil)))))))) dJ3_appendChars_77 (k0 := 6) rfl rfl (by decide) rfl [1, 2, 3, 4, 5, 6, 0, 7] rfl ?_
      refine g_iload dJ3_appendChars_80 7 rfl ?_
      refine g_i2b dJ3_appendChars_82 ?_
      obtain ⟨a13, e14, F⟩ := F
      obtain ⟨c15, F⟩ := F
      obtain ⟨m16, F⟩ := F
      obtain ⟨k17, F⟩ := F
      refine h_bast e14 c15 m16 k17 dJ3_appendChars_83 ?_
      refine g_goto 136 dJ3_appendChars_84 (by decide) ?_
      refine s_iinc (v := (p5 + 1)) (lv' := [(0, va_rf (some x)), (1, va_rf p1), (2, .int p2), (3, .int p3), (4, va_rf p4), (5, .int (p5 + 1)), (6, .int (p6 + 1)), (7, .int r3)]) (cat_R (cat_R (cat_I (cat_I (cat_R (cat_I (cat_I (cat_I cat_nil)))))))) dJ3_appendChars_136 (k0 := 5) rfl rfl (by decide) rfl [1, 2, 3, 4, 5, 0, 6, 7] rfl ?_
      refine g_goto 51 dJ3_appendChars_139 (by decide) ?_
      refine GW.lsub (lv' := [(0, va_rf (some x)), (1, va_rf p1), (2, .int p2), (3, .int p3), (4, va_rf p4), (5, .int (p5 + 1)), (6, .int (p6 + 1))]) [0, 1, 2, 3, 4, 5, 6] rfl ?_
      exact F
theorem rJ3_charAt_0 {Γ : GE} {l : Launch} {h MC MS : Nat} {Q : Option Value → GH → Prop} {bc bs : Nat} {G : GH} (x : Nat) (p1 : Int32) (F : (gC G x = kO 14 ∧ ∃ a2, (gR G x 0) = some a2 ∧ gC G a2 = kA 2 ∧ cI Γ l h mJ7_min [.int (gI G x 3), .int ((nI (gL G a2)) >>> ((gI G x 1) &&& 31))] G bc bs fun r5 Gr5 br5 sr5 => cV Γ l h mJ5_checkIndex [.int p1, .int r5] Gr5 br5 sr5 fun Gr7 br7 sr7 => ((¬ (gI G x 1) = 0 → (cI Γ l h mJ6_getChar [va_rf (gR G x 0), .int p1] Gr7 br7 sr7 fun r9 Gr9 br9 sr9 => narrow .char (.int r9) = .int r9 ∧ Q (some (.int r9)) Gr9)) ∧ ((gI G x 1) = 0 → (gC Gr7 a2 = kA 2 ∧ vp_in p1 (gL Gr7 a2) ∧ narrow .char (.int ((((gI Gr7 a2 p1.toNatClampNeg) &&& 255).toUInt32 % 65536).toInt32)) = .int ((((gI Gr7 a2 p1.toNatClampNeg) &&& 255).toUInt32 % 65536).toInt32) ∧ Q (some (.int ((((gI Gr7 a2 p1.toNatClampNeg) &&& 255).toUInt32 % 65536).toInt32))) Gr7))))) : GW Γ l mJ3_charAt h MC MS Q 0 [(0, va_rf (some x)), (1, .int p1)] [] G bc bs := by
  refine g_aload_n dJ3_charAt_0 rfl 0 rfl ?_
  obtain ⟨c1, F⟩ := F
  refine h_get (v := .int (gI G x 1)) 14 1 (C := RJ4) (T := TJ4) (N := 4) rfl in_J4 (by decide) q220 (Or.inl rfl) rfl c1 rfl dJ3_charAt_1 ?_
  refine s_istore_n (lv' := [(0, va_rf (some x)), (1, .int p1), (2, .int (gI G x 1))]) (cat_R (cat_I cat_nil)) dJ3_charAt_4 rfl (by decide) rfl [1, 2, 0] rfl ?_
  refine g_aload_n dJ3_charAt_5 rfl 0 rfl ?_
  refine h_get (v := va_rf (gR G x 0)) 14 0 (C := RJ4) (T := TJ4) (N := 4) rfl in_J4 (by decide) q219 (Or.inl rfl) rfl c1 rfl dJ3_charAt_6 ?_
  refine s_astore_n (lv' := [(0, va_rf (some x)), (1, .int p1), (2, .int (gI G x 1)), (3, va_rf (gR G x 0))]) (cat_R (cat_I (cat_I cat_nil))) dJ3_charAt_9 rfl (by decide) rfl [1, 2, 3, 0] rfl ?_
  refine g_aload_n dJ3_charAt_10 rfl 0 rfl ?_
  refine h_get (v := .int (gI G x 3)) 14 3 (C := RJ4) (T := TJ4) (N := 4) rfl in_J4 (by decide) q223 (Or.inl rfl) rfl c1 rfl dJ3_charAt_11 ?_
  refine g_aload_n dJ3_charAt_14 rfl 3 rfl ?_
  obtain ⟨a2, e3, F⟩ := F
  obtain ⟨c4, F⟩ := F
  refine h_alen 2 e3 c4 (by decide) dJ3_charAt_15 ?_
  refine g_iload_n dJ3_charAt_16 rfl 2 rfl ?_
  refine g_ishr dJ3_charAt_17 ?_
  refine h_callSI (As := [.int (gI G x 3), .int ((nI (gL G a2)) >>> ((gI G x 1) &&& 31))]) (rest := []) F 2 rfl (lw_S q1811 q435 q119 q436) vm_J7_min.2 (by decide) rfl (room_of sc_nil (Nat.le_of_ble_eq_true rfl)) dJ3_charAt_18 (fun r5 Gr5 br5 sr5 F => ?_)
  refine s_istore (lv' := [(0, va_rf (some x)), (1, .int p1), (2, .int (gI G x 1)), (3, va_rf (gR G x 0)), (4, .int r5)]) (cat_R (cat_I (cat_I (cat_R cat_nil)))) dJ3_charAt_21 (by decide) rfl [1, 2, 3, 4, 0] rfl ?_
  refine g_iload_n dJ3_charAt_23 rfl 1 rfl ?_
  refine g_iload dJ3_charAt_24 4 rfl ?_
  refine h_callSV (As := [.int p1, .int r5]) (rest := []) F 2 rfl (lw_S q1812 q1780 q115 q1781) vm_J5_checkIndex.2 (by decide) rfl (room_of sc_nil (Nat.le_of_ble_eq_true rfl)) dJ3_charAt_26 (fun Gr7 br7 sr7 F => ?_)
  refine g_iload_n dJ3_charAt_29 rfl 2 rfl ?_
  refine g_if_ne 42 dJ3_charAt_30 (by decide) (fun h15 => ?_) (fun h15 => ?_)
  · have F := F.1 h15
    refine g_aload_n dJ3_charAt_42 rfl 3 rfl ?_
    refine g_iload_n dJ3_charAt_43 rfl 1 rfl ?_
    refine h_callSI (As := [va_rf (gR G x 0), .int p1]) (rest := []) F 2 rfl (lw_S q1813 q635 q116 q636) vm_J6_getChar.2 (by decide) rfl (room_of sc_nil (Nat.le_of_ble_eq_true rfl)) dJ3_charAt_44 (fun r9 Gr9 br9 sr9 F => ?_)
    obtain ⟨k11, F⟩ := F
    exact g_zret rfl k11 dJ3_charAt_47 F
  · have F := F.2 h15
    refine g_aload_n dJ3_charAt_33 rfl 3 rfl ?_
    refine g_iload_n dJ3_charAt_34 rfl 1 rfl ?_
    obtain ⟨c12, F⟩ := F
    obtain ⟨k13, F⟩ := F
    refine h_bald e3 c12 k13 dJ3_charAt_35 ?_
    refine g_sipush (v := 255) dJ3_charAt_36 (by decide) ?_
    refine g_iand dJ3_charAt_39 ?_
    refine g_i2c dJ3_charAt_40 ?_
    obtain ⟨k14, F⟩ := F
    exact g_zret rfl k14 dJ3_charAt_41 F
theorem rJ3_appendChars_2_0 {Γ : GE} {l : Launch} {h MC MS : Nat} {Q : Option Value → GH → Prop} {bc bs : Nat} {G : GH} (x : Nat) (p1 : Option Nat) (p2 : Int32) (p3 : Int32) (F : (gC G x = kO 14 ∧ cI Γ l h mJ3_isLatin1 [.ref x] G bc bs fun r1 Gr1 br1 sr1 => ((r1 = 0 → (gC Gr1 x = kO 14 ∧ cV Γ l h mJ6_putCharsSB [va_rf (gR Gr1 x 0), .int (gI Gr1 x 3), va_rf p1, .int p2, .int p3] Gr1 br1 sr1 fun Gr5 br5 sr5 => gC Gr5 x = kO 14 ∧ gM Gr5 x = true ∧ Q none (sI Gr5 x 3 ((gI Gr5 x 3) + (p3 - p2))))) ∧ (¬ r1 = 0 → (gC Gr1 x = kO 14 ∧ GW Γ l mJ3_appendChars_2 h MC MS Q 22 [(0, va_rf (some x)), (1, va_rf p1), (2, .int p2), (3, .int p3), (4, va_rf (gR Gr1 x 0)), (5, .int p2), (6, .int (gI Gr1 x 3))] [] Gr1 br1 sr1))))) : GW Γ l mJ3_appendChars_2 h MC MS Q 0 [(0, va_rf (some x)), (1, va_rf p1), (2, .int p2), (3, .int p3)] [] G bc bs := by
  refine g_aload_n dJ3_appendChars_2_0 rfl 0 rfl ?_
  obtain ⟨c2, F⟩ := F
  refine h_callUI (ci := 14) (x := ⟨"java/lang/AbstractStringBuilder", "isLatin1", "()Z"⟩) (owner := "java/lang/AbstractStringBuilder") (C := RJ4) (T := TJ4) (N := 4) (As := []) (rest := []) F 0 rfl rfl (hasW.all q909) (hasW.all q911) (hasD.of q910 q913) (hasW.all q912) q910 q113 q913 ⟨by decide +kernel, by decide +kernel, by decide +kernel⟩ (by decide) rfl c2 rfl (room_of sc_nil (Nat.le_of_ble_eq_true rfl)) dJ3_appendChars_2_1 (fun r1 Gr1 br1 sr1 F => ?_)
  refine g_if_eq 129 dJ3_appendChars_2_4 (by decide) (fun h10 => ?_) (fun h10 => ?_)
  · have F := F.1 h10
    refine g_aload_n dJ3_appendChars_2_129 rfl 0 rfl ?_
    obtain ⟨c4, F⟩ := F
    refine h_get (v := va_rf (gR Gr1 x 0)) 14 0 (C := RJ4) (T := TJ4) (N := 4) rfl in_J4 (by decide) q219 (Or.inl rfl) rfl c4 rfl dJ3_appendChars_2_130 ?_
    refine g_aload_n dJ3_appendChars_2_133 rfl 0 rfl ?_
    refine h_get (v := .int (gI Gr1 x 3)) 14 3 (C := RJ4) (T := TJ4) (N := 4) rfl in_J4 (by decide) q223 (Or.inl rfl) rfl c4 rfl dJ3_appendChars_2_134 ?_
    refine g_aload_n dJ3_appendChars_2_137 rfl 1 rfl ?_
    refine g_iload_n dJ3_appendChars_2_138 rfl 2 rfl ?_
    refine g_iload_n dJ3_appendChars_2_139 rfl 3 rfl ?_
    refine h_callSV (As := [va_rf (gR Gr1 x 0), .int (gI Gr1 x 3), va_rf p1, .int p2, .int p3]) (rest := []) F 5 rfl (lw_S q1793 q1794 q116 q1795) vm_J6_putCharsSB.2 (by decide) rfl (room_of sc_nil (Nat.le_of_ble_eq_true rfl)) dJ3_appendChars_2_140 (fun Gr5 br5 sr5 F => ?_)
    refine g_aload_n dJ3_appendChars_2_143 rfl 0 rfl ?_
    refine g_dup dJ3_appendChars_2_144 (va_rf_cat _) ?_
    obtain ⟨c7, F⟩ := F
    refine h_get (v := .int (gI Gr5 x 3)) 14 3 (C := RJ4) (T := TJ4) (N := 4) rfl in_J4 (by decide) q223 (Or.inl rfl) rfl c7 rfl dJ3_appendChars_2_145 ?_
    refine g_iload_n dJ3_appendChars_2_148 rfl 3 rfl ?_
    refine g_iload_n dJ3_appendChars_2_149 rfl 2 rfl ?_
    refine g_isub dJ3_appendChars_2_150 ?_
    refine g_iadd dJ3_appendChars_2_151 ?_
    obtain ⟨m8, F⟩ := F
    refine h_putI (mi := mJ3_appendChars_2) 14 3 (C := RJ4) (T := TJ4) (N := 4) rfl in_J4 tyJ4_ok nmJ4 (by decide) q223 (Or.inl rfl) (Or.inl rfl) rfl rfl c7 m8 rfl rfl dJ3_appendChars_2_152 ?_
    exact g_vret rfl dJ3_appendChars_2_155 F
  · have F := F.2 h10
    refine g_aload_n dJ3_appendChars_2_7 rfl 0 rfl ?_
    obtain ⟨c9, F⟩ := F
    refine h_get (v := va_rf (gR Gr1 x 0)) 14 0 (C := RJ4) (T := TJ4) (N := 4) rfl in_J4 (by decide) q219 (Or.inl rfl) rfl c9 rfl dJ3_appendChars_2_8 ?_
    refine s_astore (lv' := [(0, va_rf (some x)), (1, va_rf p1), (2, .int p2), (3, .int p3), (4, va_rf (gR Gr1 x 0))]) (cat_R (cat_R (cat_I (cat_I cat_nil)))) dJ3_appendChars_2_11 (by decide) rfl [1, 2, 3, 4, 0] rfl ?_
    refine g_iload_n dJ3_appendChars_2_13 rfl 2 rfl ?_
    refine s_istore (lv' := [(0, va_rf (some x)), (1, va_rf p1), (2, .int p2), (3, .int p3), (4, va_rf (gR Gr1 x 0)), (5, .int p2)]) (cat_R (cat_R (cat_I (cat_I (cat_R cat_nil))))) dJ3_appendChars_2_14 (by decide) rfl [1, 2, 3, 4, 5, 0] rfl ?_
    refine g_aload_n dJ3_appendChars_2_16 rfl 0 rfl ?_
    refine h_get (v := .int (gI Gr1 x 3)) 14 3 (C := RJ4) (T := TJ4) (N := 4) rfl in_J4 (by decide) q223 (Or.inl rfl) rfl c9 rfl dJ3_appendChars_2_17 ?_
    refine s_istore (lv' := [(0, va_rf (some x)), (1, va_rf p1), (2, .int p2), (3, .int p3), (4, va_rf (gR Gr1 x 0)), (5, .int p2), (6, .int (gI Gr1 x 3))]) (cat_R (cat_R (cat_I (cat_I (cat_R (cat_I cat_nil)))))) dJ3_appendChars_2_20 (by decide) rfl [1, 2, 3, 4, 5, 6, 0] rfl ?_
    exact F
theorem rJ3_appendChars_2_22 {Γ : GE} {l : Launch} {h MC MS : Nat} {Q : Option Value → GH → Prop} {bc bs : Nat} {G : GH} (x : Nat) (p1 : Option Nat) (p2 : Int32) (p3 : Int32) (p4 : Option Nat) (p5 : Int32) (p6 : Int32) (F : ((p3 ≤ p5 → (gC G x = kO 14 ∧ gM G x = true ∧ Q none (sI G x 3 ((gI G x 3) + (p3 - p2))))) ∧ (¬ p3 ≤ p5 → (∃ a4, p1 = some a4 ∧ gC G a4 = kO 15 ∧ cI Γ l h mJ5_charAt [.ref a4, .int p5] G bc bs fun r3 Gr3 br3 sr3 => cI Γ l h mJ14_canEncode [.int r3] Gr3 br3 sr3 fun r8 Gr8 br8 sr8 => ((r8 = 0 → (gC Gr8 x = kO 14 ∧ gM Gr8 x = true ∧ False)) ∧ (¬ r8 = 0 → (∃ a13, p4 = some a13 ∧ gC Gr8 a13 = kA 2 ∧ gM Gr8 a13 = true ∧ vp_in p6 (gL Gr8 a13) ∧ GW Γ l mJ3_appendChars_2 h MC MS Q 22 [(0, va_rf (some x)), (1, va_rf p1), (2, .int p2), (3, .int p3), (4, va_rf p4), (5, .int (p5 + 1)), (6, .int (p6 + 1))] [] (sI Gr8 a13 p6.toNatClampNeg (vp_nar .byte r3.toInt8.toInt32)) br8 sr8))))))) : GW Γ l mJ3_appendChars_2 h MC MS Q 22 [(0, va_rf (some x)), (1, va_rf p1), (2, .int p2), (3, .int p3), (4, va_rf p4), (5, .int p5), (6, .int p6)] [] G bc bs := by
  refine g_iload dJ3_appendChars_2_22 5 rfl ?_
  refine g_iload_n dJ3_appendChars_2_24 rfl 3 rfl ?_
  refine g_icmp_ge 126 dJ3_appendChars_2_25 (by decide) (fun h19 => ?_) (fun h19 => ?_)
  · have F := F.1 h19
    refine g_goto 143 dJ3_appendChars_2_126 (by decide) ?_
    refine g_aload_n dJ3_appendChars_2_143 rfl 0 rfl ?_
    refine g_dup dJ3_appendChars_2_144 (va_rf_cat _) ?_
    obtain ⟨c1, F⟩ := F
    refine h_get (v := .int (gI G x 3)) 14 3 (C := RJ4) (T := TJ4) (N := 4) rfl in_J4 (by decide) q223 (Or.inl rfl) rfl c1 rfl dJ3_appendChars_2_145 ?_
    refine g_iload_n dJ3_appendChars_2_148 rfl 3 rfl ?_
    refine g_iload_n dJ3_appendChars_2_149 rfl 2 rfl ?_
    refine g_isub dJ3_appendChars_2_150 ?_
    refine g_iadd dJ3_appendChars_2_151 ?_
    obtain ⟨m2, F⟩ := F
    refine h_putI (mi := mJ3_appendChars_2) 14 3 (C := RJ4) (T := TJ4) (N := 4) rfl in_J4 tyJ4_ok nmJ4 (by decide) q223 (Or.inl rfl) (Or.inl rfl) rfl rfl c1 m2 rfl rfl dJ3_appendChars_2_152 ?_
    exact g_vret rfl dJ3_appendChars_2_155 F
  · have F := F.2 h19
    refine g_aload_n dJ3_appendChars_2_28 rfl 1 rfl ?_
    refine g_iload dJ3_appendChars_2_29 5 rfl ?_
    obtain ⟨a4, e5, F⟩ := F
    obtain ⟨c6, F⟩ := F
    refine h_callFI (ci := 15) (x := ⟨"java/lang/CharSequence", "charAt", "(I)C"⟩) (C := RJ5) (T := TJ5) (N := 4) (As := [.int p5]) (rest := []) F 1 rfl rfl q1819 (by decide +kernel) q1800 q1773 q115 q1775 ⟨by decide +kernel, by decide +kernel, by decide +kernel⟩ (by decide) e5 c6 rfl (room_of sc_nil (Nat.le_of_ble_eq_true rfl)) dJ3_appendChars_2_31 (fun r3 Gr3 br3 sr3 F => ?_)
    refine s_istore (lv' := [(0, va_rf (some x)), (1, va_rf p1), (2, .int p2), (3, .int p3), (4, va_rf p4), (5, .int p5), (6, .int p6), (7, .int r3)]) (cat_R (cat_R (cat_I (cat_I (cat_R (cat_I (cat_I cat_nil))))))) dJ3_appendChars_2_36 (by decide) rfl [1, 2, 3, 4, 5, 6, 7, 0] rfl ?_
    refine g_iload dJ3_appendChars_2_38 7 rfl ?_
    refine h_callSI (As := [.int r3]) (rest := []) F 1 rfl (lw_S q1790 q1791 q127 q1792) vm_J14_canEncode.2 (by decide) rfl (room_of sc_nil (Nat.le_of_ble_eq_true rfl)) dJ3_appendChars_2_40 (fun r8 Gr8 br8 sr8 F => ?_)
    refine g_if_eq 60 dJ3_appendChars_2_43 (by decide) (fun h18 => ?_) (fun h18 => ?_)
    · have F := F.1 h18
      refine g_aload_n dJ3_appendChars_2_60 rfl 0 rfl ?_
      refine g_iload dJ3_appendChars_2_61 6 rfl ?_
      obtain ⟨c10, F⟩ := F
      obtain ⟨m11, F⟩ := F
      refine h_putI (mi := mJ3_appendChars_2) 14 3 (C := RJ4) (T := TJ4) (N := 4) rfl in_J4 tyJ4_ok nmJ4 (by decide) q223 (Or.inl rfl) (Or.inl rfl) rfl rfl c10 m11 rfl rfl dJ3_appendChars_2_63 ?_
      refine g_aload_n dJ3_appendChars_2_66 rfl 0 rfl ?_
      exact F.elim
    · have F := F.2 h18
      refine g_aload dJ3_appendChars_2_46 4 rfl ?_
      refine g_iload dJ3_appendChars_2_48 6 rfl ?_
      refine s_iinc (v := (p6 + 1)) (lv' := [(0, va_rf (some x)), (1, va_rf p1), (2, .int p2), (3, .int p3), (4, va_rf p4), (5, .int p5), (6, .int (p6 + 1)), (7, .int r3)]) (cat_R (cat_R (cat_I (cat_I (cat_R (cat_I (cat_I (cat_I cat_nil)))))))) dJ3_appendChars_2_50 (k0 := 6) rfl rfl (by decide) rfl [1, 2, 3, 4, 5, 6, 0, 7] rfl ?_
      refine g_iload dJ3_appendChars_2_53 7 rfl ?_
      refine g_i2b dJ3_appendChars_2_55 ?_
      obtain ⟨a13, e14, F⟩ := F
      obtain ⟨c15, F⟩ := F
      obtain ⟨m16, F⟩ := F
      obtain ⟨k17, F⟩ := F
      refine h_bast e14 c15 m16 k17 dJ3_appendChars_2_56 ?_
      refine g_goto 120 dJ3_appendChars_2_57 (by decide) ?_
      refine s_iinc (v := (p5 + 1)) (lv' := [(0, va_rf (some x)), (1, va_rf p1), (2, .int p2), (3, .int p3), (4, va_rf p4), (5, .int (p5 + 1)), (6, .int (p6 + 1)), (7, .int r3)]) (cat_R (cat_R (cat_I (cat_I (cat_R (cat_I (cat_I (cat_I cat_nil)))))))) dJ3_appendChars_2_120 (k0 := 5) rfl rfl (by decide) rfl [1, 2, 3, 4, 5, 0, 6, 7] rfl ?_
      refine g_goto 22 dJ3_appendChars_2_123 (by decide) ?_
      refine GW.lsub (lv' := [(0, va_rf (some x)), (1, va_rf p1), (2, .int p2), (3, .int p3), (4, va_rf p4), (5, .int (p5 + 1)), (6, .int (p6 + 1))]) [0, 1, 2, 3, 4, 5, 6] rfl ?_
      exact F
theorem rJ3_append_6_0 {Γ : GE} {l : Launch} {h MC MS : Nat} {Q : Option Value → GH → Prop} {bc bs : Nat} {G : GH} (x : Nat) (p1 : Int32) (F : (gC G x = kO 14 ∧ cV Γ l h mJ3_ensureCapacityInternal [.ref x, .int ((gI G x 3) + 1)] G bc bs fun Gr2 br2 sr2 => gC Gr2 x = kO 14 ∧ cI Γ l h mJ3_isLatin1 [.ref x] Gr2 br2 sr2 fun r4 Gr4 br4 sr4 => ((r4 = 0 → (GW Γ l mJ3_append_6 h MC MS Q 45 [(0, va_rf (some x)), (1, .int p1)] [] Gr4 br4 sr4)) ∧ (¬ r4 = 0 → (cI Γ l h mJ14_canEncode [.int p1] Gr4 br4 sr4 fun r7 Gr7 br7 sr7 => ((r7 = 0 → (GW Γ l mJ3_append_6 h MC MS Q 45 [(0, va_rf (some x)), (1, .int p1)] [] Gr7 br7 sr7)) ∧ (¬ r7 = 0 → (gC Gr7 x = kO 14 ∧ gM Gr7 x = true ∧ ∃ a11, (gR Gr7 x 0) = some a11 ∧ gC (sI Gr7 x 3 ((gI Gr7 x 3) + 1)) a11 = kA 2 ∧ gM (sI Gr7 x 3 ((gI Gr7 x 3) + 1)) a11 = true ∧ vp_in (gI Gr7 x 3) (gL (sI Gr7 x 3 ((gI Gr7 x 3) + 1)) a11) ∧ Q (some (va_rf (some x))) (sI (sI Gr7 x 3 ((gI Gr7 x 3) + 1)) a11 (gI Gr7 x 3).toNatClampNeg (vp_nar .byte p1.toInt8.toInt32)))))))))) : GW Γ l mJ3_append_6 h MC MS Q 0 [(0, va_rf (some x)), (1, .int p1)] [] G bc bs := by
  refine g_aload_n dJ3_append_6_0 rfl 0 rfl ?_
  refine g_aload_n dJ3_append_6_1 rfl 0 rfl ?_
  obtain ⟨c1, F⟩ := F
  refine h_get (v := .int (gI G x 3)) 14 3 (C := RJ4) (T := TJ4) (N := 4) rfl in_J4 (by decide) q223 (Or.inl rfl) rfl c1 rfl dJ3_append_6_2 ?_
  refine g_iconst (v := 1) dJ3_append_6_5 (by decide) ?_
  refine g_iadd dJ3_append_6_6 ?_
  refine h_callUV (ci := 14) (x := ⟨"java/lang/AbstractStringBuilder", "ensureCapacityInternal", "(I)V"⟩) (owner := "java/lang/AbstractStringBuilder") (C := RJ4) (T := TJ4) (N := 4) (As := [.int ((gI G x 3) + 1)]) (rest := []) F 1 rfl rfl (hasW.all q1528) (hasW.all q2508) (hasD.of q1530 q1531) (hasW.kw (by decide +kernel)) q1530 q113 q1531 ⟨by decide +kernel, by decide +kernel, by decide +kernel⟩ (by decide) rfl c1 rfl (room_of sc_nil (Nat.le_of_ble_eq_true rfl)) dJ3_append_6_7 (fun Gr2 br2 sr2 F => ?_)
  refine g_aload_n dJ3_append_6_10 rfl 0 rfl ?_
  obtain ⟨c5, F⟩ := F
  refine h_callUI (ci := 14) (x := ⟨"java/lang/AbstractStringBuilder", "isLatin1", "()Z"⟩) (owner := "java/lang/AbstractStringBuilder") (C := RJ4) (T := TJ4) (N := 4) (As := []) (rest := []) F 0 rfl rfl (hasW.all q909) (hasW.all q911) (hasD.of q910 q913) (hasW.all q912) q910 q113 q913 ⟨by decide +kernel, by decide +kernel, by decide +kernel⟩ (by decide) rfl c5 rfl (room_of sc_nil (Nat.le_of_ble_eq_true rfl)) dJ3_append_6_11 (fun r4 Gr4 br4 sr4 F => ?_)
  refine g_if_eq 45 dJ3_append_6_14 (by decide) (fun h17 => ?_) (fun h17 => ?_)
  · have F := F.1 h17
    exact F
  · have F := F.2 h17
    refine g_iload_n dJ3_append_6_17 rfl 1 rfl ?_
    refine h_callSI (As := [.int p1]) (rest := []) F 1 rfl (lw_S q1790 q1791 q127 q1792) vm_J14_canEncode.2 (by decide) rfl (room_of sc_nil (Nat.le_of_ble_eq_true rfl)) dJ3_append_6_18 (fun r7 Gr7 br7 sr7 F => ?_)
    refine g_if_eq 45 dJ3_append_6_21 (by decide) (fun h16 => ?_) (fun h16 => ?_)
    · have F := F.1 h16
      exact F
    · have F := F.2 h16
      refine g_aload_n dJ3_append_6_24 rfl 0 rfl ?_
      obtain ⟨c9, F⟩ := F
      refine h_get (v := va_rf (gR Gr7 x 0)) 14 0 (C := RJ4) (T := TJ4) (N := 4) rfl in_J4 (by decide) q219 (Or.inl rfl) rfl c9 rfl dJ3_append_6_25 ?_
      refine g_aload_n dJ3_append_6_28 rfl 0 rfl ?_
      refine g_dup dJ3_append_6_29 (va_rf_cat _) ?_
      refine h_get (v := .int (gI Gr7 x 3)) 14 3 (C := RJ4) (T := TJ4) (N := 4) rfl in_J4 (by decide) q223 (Or.inl rfl) rfl c9 rfl dJ3_append_6_30 ?_
      refine g_dup_x1 dJ3_append_6_33 rfl (va_rf_cat _) ?_
      refine g_iconst (v := 1) dJ3_append_6_34 (by decide) ?_
      refine g_iadd dJ3_append_6_35 ?_
      obtain ⟨m10, F⟩ := F
      refine h_putI (mi := mJ3_append_6) 14 3 (C := RJ4) (T := TJ4) (N := 4) rfl in_J4 tyJ4_ok nmJ4 (by decide) q223 (Or.inl rfl) (Or.inl rfl) rfl rfl c9 m10 rfl rfl dJ3_append_6_36 ?_
      refine g_iload_n dJ3_append_6_39 rfl 1 rfl ?_
      refine g_i2b dJ3_append_6_40 ?_
      obtain ⟨a11, e12, F⟩ := F
      obtain ⟨c13, F⟩ := F
      obtain ⟨m14, F⟩ := F
      obtain ⟨k15, F⟩ := F
      refine h_bast e12 c13 m14 k15 dJ3_append_6_41 ?_
      refine g_goto 75 dJ3_append_6_42 (by decide) ?_
      refine g_aload_n dJ3_append_6_75 rfl 0 rfl ?_
      exact g_aret (r := (some x)) rfl (Or.inl ⟨_, rfl⟩) dJ3_append_6_76 F
theorem rJ3_append_6_45 {Γ : GE} {l : Launch} {h MC MS : Nat} {Q : Option Value → GH → Prop} {bc bs : Nat} {G : GH} (x : Nat) (p1 : Int32) (F : (gC G x = kO 14 ∧ cI Γ l h mJ3_isLatin1 [.ref x] G bc bs fun r1 Gr1 br1 sr1 => ((r1 = 0 → (gC Gr1 x = kO 14 ∧ gM Gr1 x = true ∧ cV Γ l h mJ6_putCharSB [va_rf (gR Gr1 x 0), .int (gI Gr1 x 3), .int p1] (sI Gr1 x 3 ((gI Gr1 x 3) + 1)) br1 sr1 fun Gr6 br6 sr6 => Q (some (va_rf (some x))) Gr6)) ∧ (¬ r1 = 0 → (False))))) : GW Γ l mJ3_append_6 h MC MS Q 45 [(0, va_rf (some x)), (1, .int p1)] [] G bc bs := by
  refine g_aload_n dJ3_append_6_45 rfl 0 rfl ?_
  obtain ⟨c2, F⟩ := F
  refine h_callUI (ci := 14) (x := ⟨"java/lang/AbstractStringBuilder", "isLatin1", "()Z"⟩) (owner := "java/lang/AbstractStringBuilder") (C := RJ4) (T := TJ4) (N := 4) (As := []) (rest := []) F 0 rfl rfl (hasW.all q909) (hasW.all q911) (hasD.of q910 q913) (hasW.all q912) q910 q113 q913 ⟨by decide +kernel, by decide +kernel, by decide +kernel⟩ (by decide) rfl c2 rfl (room_of sc_nil (Nat.le_of_ble_eq_true rfl)) dJ3_append_6_46 (fun r1 Gr1 br1 sr1 F => ?_)
  refine g_if_eq 56 dJ3_append_6_49 (by decide) (fun h9 => ?_) (fun h9 => ?_)
  · have F := F.1 h9
    refine g_aload_n dJ3_append_6_56 rfl 0 rfl ?_
    obtain ⟨c4, F⟩ := F
    refine h_get (v := va_rf (gR Gr1 x 0)) 14 0 (C := RJ4) (T := TJ4) (N := 4) rfl in_J4 (by decide) q219 (Or.inl rfl) rfl c4 rfl dJ3_append_6_57 ?_
    refine g_aload_n dJ3_append_6_60 rfl 0 rfl ?_
    refine g_dup dJ3_append_6_61 (va_rf_cat _) ?_
    refine h_get (v := .int (gI Gr1 x 3)) 14 3 (C := RJ4) (T := TJ4) (N := 4) rfl in_J4 (by decide) q223 (Or.inl rfl) rfl c4 rfl dJ3_append_6_62 ?_
    refine g_dup_x1 dJ3_append_6_65 rfl (va_rf_cat _) ?_
    refine g_iconst (v := 1) dJ3_append_6_66 (by decide) ?_
    refine g_iadd dJ3_append_6_67 ?_
    obtain ⟨m5, F⟩ := F
    refine h_putI (mi := mJ3_append_6) 14 3 (C := RJ4) (T := TJ4) (N := 4) rfl in_J4 tyJ4_ok nmJ4 (by decide) q223 (Or.inl rfl) (Or.inl rfl) rfl rfl c4 m5 rfl rfl dJ3_append_6_68 ?_
    refine g_iload_n dJ3_append_6_71 rfl 1 rfl ?_
    refine h_callSV (As := [va_rf (gR Gr1 x 0), .int (gI Gr1 x 3), .int p1]) (rest := []) F 3 rfl (lw_S q1820 q1821 q116 q1822) vm_J6_putCharSB.2 (by decide) rfl (room_of sc_nil (Nat.le_of_ble_eq_true rfl)) dJ3_append_6_72 (fun Gr6 br6 sr6 F => ?_)
    refine g_aload_n dJ3_append_6_75 rfl 0 rfl ?_
    exact g_aret (r := (some x)) rfl (Or.inl ⟨_, rfl⟩) dJ3_append_6_76 F
  · have F := F.2 h9
    refine g_aload_n dJ3_append_6_52 rfl 0 rfl ?_
    exact F.elim
theorem rJ3_setLength_0 {Γ : GE} {l : Launch} {h MC MS : Nat} {Q : Option Value → GH → Prop} {bc bs : Nat} {G : GH} (x : Nat) (p1 : Int32) (F : (((0 : Int32) ≤ p1 → (gC G x = kO 14 ∧ cV Γ l h mJ3_ensureCapacityInternal [.ref x, .int p1] G bc bs fun Gr1 br1 sr1 => gC Gr1 x = kO 14 ∧ ((p1 ≤ (gI Gr1 x 3) → (((gI Gr1 x 3) ≤ p1 → (gM Gr1 x = true ∧ Q none (sI Gr1 x 3 p1))) ∧ (¬ (gI Gr1 x 3) ≤ p1 → (gM Gr1 x = true ∧ Q none (sI (sI Gr1 x 2 1) x 3 p1))))) ∧ (¬ p1 ≤ (gI Gr1 x 3) → (cI Γ l h mJ3_isLatin1 [.ref x] Gr1 br1 sr1 fun r8 Gr8 br8 sr8 => ((r8 = 0 → (gC Gr8 x = kO 14 ∧ cV Γ l h mJ6_fillNull [va_rf (gR Gr8 x 0), .int (gI Gr8 x 3), .int p1] Gr8 br8 sr8 fun Gr11 br11 sr11 => gC Gr11 x = kO 14 ∧ gM Gr11 x = true ∧ Q none (sI Gr11 x 3 p1))) ∧ (¬ r8 = 0 → (gC Gr8 x = kO 14 ∧ cV Γ l h mJ14_fillNull [va_rf (gR Gr8 x 0), .int (gI Gr8 x 3), .int p1] Gr8 br8 sr8 fun Gr16 br16 sr16 => gC Gr16 x = kO 14 ∧ gM Gr16 x = true ∧ Q none (sI Gr16 x 3 p1))))))))) ∧ (¬ (0 : Int32) ≤ p1 → (False)))) : GW Γ l mJ3_setLength h MC MS Q 0 [(0, va_rf (some x)), (1, .int p1)] [] G bc bs := by
  refine g_iload_n dJ3_setLength_0 rfl 1 rfl ?_
  refine g_if_ge 13 dJ3_setLength_1 (by decide) (fun h22 => ?_) (fun h22 => ?_)
  · have F := F.1 h22
    refine g_aload_n dJ3_setLength_13 rfl 0 rfl ?_
    refine g_iload_n dJ3_setLength_14 rfl 1 rfl ?_
    obtain ⟨c2, F⟩ := F
    refine h_callUV (ci := 14) (x := ⟨"java/lang/AbstractStringBuilder", "ensureCapacityInternal", "(I)V"⟩) (owner := "java/lang/AbstractStringBuilder") (C := RJ4) (T := TJ4) (N := 4) (As := [.int p1]) (rest := []) F 1 rfl rfl (hasW.all q1528) (hasW.all q2508) (hasD.of q1530 q1531) (hasW.kw (by decide +kernel)) q1530 q113 q1531 ⟨by decide +kernel, by decide +kernel, by decide +kernel⟩ (by decide) rfl c2 rfl (room_of sc_nil (Nat.le_of_ble_eq_true rfl)) dJ3_setLength_15 (fun Gr1 br1 sr1 F => ?_)
    refine g_aload_n dJ3_setLength_18 rfl 0 rfl ?_
    obtain ⟨c4, F⟩ := F
    refine h_get (v := .int (gI Gr1 x 3)) 14 3 (C := RJ4) (T := TJ4) (N := 4) rfl in_J4 (by decide) q223 (Or.inl rfl) rfl c4 rfl dJ3_setLength_19 ?_
    refine g_iload_n dJ3_setLength_22 rfl 1 rfl ?_
    refine g_icmp_ge 63 dJ3_setLength_23 (by decide) (fun h21 => ?_) (fun h21 => ?_)
    · have F := F.1 h21
      refine g_aload_n dJ3_setLength_63 rfl 0 rfl ?_
      refine h_get (v := .int (gI Gr1 x 3)) 14 3 (C := RJ4) (T := TJ4) (N := 4) rfl in_J4 (by decide) q223 (Or.inl rfl) rfl c4 rfl dJ3_setLength_64 ?_
      refine g_iload_n dJ3_setLength_67 rfl 1 rfl ?_
      refine g_icmp_le 76 dJ3_setLength_68 (by decide) (fun h7 => ?_) (fun h7 => ?_)
      · have F := F.1 h7
        refine g_aload_n dJ3_setLength_76 rfl 0 rfl ?_
        refine g_iload_n dJ3_setLength_77 rfl 1 rfl ?_
        obtain ⟨m5, F⟩ := F
        refine h_putI (mi := mJ3_setLength) 14 3 (C := RJ4) (T := TJ4) (N := 4) rfl in_J4 tyJ4_ok nmJ4 (by decide) q223 (Or.inl rfl) (Or.inl rfl) rfl rfl c4 m5 rfl rfl dJ3_setLength_78 ?_
        exact g_vret rfl dJ3_setLength_81 F
      · have F := F.2 h7
        refine g_aload_n dJ3_setLength_71 rfl 0 rfl ?_
        refine g_iconst (v := 1) dJ3_setLength_72 (by decide) ?_
        obtain ⟨m6, F⟩ := F
        refine h_putI (mi := mJ3_setLength) 14 2 (C := RJ4) (T := TJ4) (N := 4) rfl in_J4 tyJ4_ok nmJ4 (by decide) q221 (Or.inl rfl) (Or.inl rfl) rfl rfl c4 m6 rfl rfl dJ3_setLength_73 ?_
        refine g_aload_n dJ3_setLength_76 rfl 0 rfl ?_
        refine g_iload_n dJ3_setLength_77 rfl 1 rfl ?_
        refine h_putI (mi := mJ3_setLength) 14 3 (C := RJ4) (T := TJ4) (N := 4) rfl in_J4 tyJ4_ok nmJ4 (by decide) q223 (Or.inl rfl) (Or.inl rfl) rfl rfl c4 m6 rfl rfl dJ3_setLength_78 ?_
        exact g_vret rfl dJ3_setLength_81 F
    · have F := F.2 h21
      refine g_aload_n dJ3_setLength_26 rfl 0 rfl ?_
      refine h_callUI (ci := 14) (x := ⟨"java/lang/AbstractStringBuilder", "isLatin1", "()Z"⟩) (owner := "java/lang/AbstractStringBuilder") (C := RJ4) (T := TJ4) (N := 4) (As := []) (rest := []) F 0 rfl rfl (hasW.all q909) (hasW.all q911) (hasD.of q910 q913) (hasW.all q912) q910 q113 q913 ⟨by decide +kernel, by decide +kernel, by decide +kernel⟩ (by decide) rfl c4 rfl (room_of sc_nil (Nat.le_of_ble_eq_true rfl)) dJ3_setLength_27 (fun r8 Gr8 br8 sr8 F => ?_)
      refine g_if_eq 48 dJ3_setLength_30 (by decide) (fun h20 => ?_) (fun h20 => ?_)
      · have F := F.1 h20
        refine g_aload_n dJ3_setLength_48 rfl 0 rfl ?_
        obtain ⟨c10, F⟩ := F
        refine h_get (v := va_rf (gR Gr8 x 0)) 14 0 (C := RJ4) (T := TJ4) (N := 4) rfl in_J4 (by decide) q219 (Or.inl rfl) rfl c10 rfl dJ3_setLength_49 ?_
        refine g_aload_n dJ3_setLength_52 rfl 0 rfl ?_
        refine h_get (v := .int (gI Gr8 x 3)) 14 3 (C := RJ4) (T := TJ4) (N := 4) rfl in_J4 (by decide) q223 (Or.inl rfl) rfl c10 rfl dJ3_setLength_53 ?_
        refine g_iload_n dJ3_setLength_56 rfl 1 rfl ?_
        refine h_callSV (As := [va_rf (gR Gr8 x 0), .int (gI Gr8 x 3), .int p1]) (rest := []) F 3 rfl (lw_S q1858 q1859 q116 q1860) vm_J6_fillNull.2 (by decide) rfl (room_of sc_nil (Nat.le_of_ble_eq_true rfl)) dJ3_setLength_57 (fun Gr11 br11 sr11 F => ?_)
        refine g_goto 76 dJ3_setLength_60 (by decide) ?_
        refine g_aload_n dJ3_setLength_76 rfl 0 rfl ?_
        refine g_iload_n dJ3_setLength_77 rfl 1 rfl ?_
        obtain ⟨c13, F⟩ := F
        obtain ⟨m14, F⟩ := F
        refine h_putI (mi := mJ3_setLength) 14 3 (C := RJ4) (T := TJ4) (N := 4) rfl in_J4 tyJ4_ok nmJ4 (by decide) q223 (Or.inl rfl) (Or.inl rfl) rfl rfl c13 m14 rfl rfl dJ3_setLength_78 ?_
        exact g_vret rfl dJ3_setLength_81 F
      · have F := F.2 h20
        refine g_aload_n dJ3_setLength_33 rfl 0 rfl ?_
        obtain ⟨c15, F⟩ := F
        refine h_get (v := va_rf (gR Gr8 x 0)) 14 0 (C := RJ4) (T := TJ4) (N := 4) rfl in_J4 (by decide) q219 (Or.inl rfl) rfl c15 rfl dJ3_setLength_34 ?_
        refine g_aload_n dJ3_setLength_37 rfl 0 rfl ?_
        refine h_get (v := .int (gI Gr8 x 3)) 14 3 (C := RJ4) (T := TJ4) (N := 4) rfl in_J4 (by decide) q223 (Or.inl rfl) rfl c15 rfl dJ3_setLength_38 ?_
        refine g_iload_n dJ3_setLength_41 rfl 1 rfl ?_
        refine h_callSV (As := [va_rf (gR Gr8 x 0), .int (gI Gr8 x 3), .int p1]) (rest := []) F 3 rfl (lw_S q1849 q1850 q127 q1851) vm_J14_fillNull.2 (by decide) rfl (room_of sc_nil (Nat.le_of_ble_eq_true rfl)) dJ3_setLength_42 (fun Gr16 br16 sr16 F => ?_)
        refine g_goto 76 dJ3_setLength_45 (by decide) ?_
        refine g_aload_n dJ3_setLength_76 rfl 0 rfl ?_
        refine g_iload_n dJ3_setLength_77 rfl 1 rfl ?_
        obtain ⟨c18, F⟩ := F
        obtain ⟨m19, F⟩ := F
        refine h_putI (mi := mJ3_setLength) 14 3 (C := RJ4) (T := TJ4) (N := 4) rfl in_J4 tyJ4_ok nmJ4 (by decide) q223 (Or.inl rfl) (Or.inl rfl) rfl rfl c18 m19 rfl rfl dJ3_setLength_78 ?_
        exact g_vret rfl dJ3_setLength_81 F
  · have F := F.2 h22
    exact F.elim
theorem rJ10_init_0 {Γ : GE} {l : Launch} {h MC MS : Nat} {Q : Option Value → GH → Prop} {bc bs : Nat} {G : GH} (x : Nat) (F : (0 < h ∧ Q none G)) : GW Γ l mJ10_init h MC MS Q 0 [(0, va_rf (some x))] [] G bc bs := by
  refine g_aload_n dJ10_init_0 rfl 0 rfl ?_
  obtain ⟨k1, F⟩ := F
  refine h_objInit q523 q152 q153 rfl dJ10_init_1 k1 (room_of sc_nil (Nat.le_of_ble_eq_true rfl)) ?_
  exact g_vret rfl dJ10_init_4 F
theorem rJ21_split_0 {Γ : GE} {l : Launch} {h MC MS : Nat} {Q : Option Value → GH → Prop} {bc bs : Nat} {G : GH} (x : Nat) (p1 : Option Nat) (p2 : Option Nat) (p3 : Int32) (p4 : Int32) (F : (GW Γ l mJ21_split h MC MS Q 25 [(0, va_rf (some x)), (1, va_rf p1), (2, va_rf p2), (3, .int p3), (4, .int p4), (5, va_rf (some x)), (6, va_rf none), (7, va_rf none), (8, va_rf none), (9, va_rf none), (10, .int 0), (11, .int 0), (12, va_rf (some x))] [] G bc bs)) : GW Γ l mJ21_split h MC MS Q 0 [(0, va_rf (some x)), (1, va_rf p1), (2, va_rf p2), (3, .int p3), (4, .int p4)] [] G bc bs := by
  refine g_aload_n dJ21_split_0 rfl 0 rfl ?_
  refine s_astore (lv' := [(0, va_rf (some x)), (1, va_rf p1), (2, va_rf p2), (3, .int p3), (4, .int p4), (5, va_rf (some x))]) (cat_R (cat_R (cat_R (cat_I (cat_I cat_nil))))) dJ21_split_1 (by decide) rfl [1, 2, 3, 4, 5, 0] rfl ?_
  refine g_null dJ21_split_3 ?_
  refine s_astore (lv' := [(0, va_rf (some x)), (1, va_rf p1), (2, va_rf p2), (3, .int p3), (4, .int p4), (5, va_rf (some x)), (6, va_rf none)]) (cat_R (cat_R (cat_R (cat_I (cat_I (cat_R cat_nil)))))) dJ21_split_4 (by decide) rfl [1, 2, 3, 4, 5, 6, 0] rfl ?_
  refine g_null dJ21_split_6 ?_
  refine s_astore (lv' := [(0, va_rf (some x)), (1, va_rf p1), (2, va_rf p2), (3, .int p3), (4, .int p4), (5, va_rf (some x)), (6, va_rf none), (7, va_rf none)]) (cat_R (cat_R (cat_R (cat_I (cat_I (cat_R (cat_R cat_nil))))))) dJ21_split_7 (by decide) rfl [1, 2, 3, 4, 5, 6, 7, 0] rfl ?_
  refine g_null dJ21_split_9 ?_
  refine s_astore (lv' := [(0, va_rf (some x)), (1, va_rf p1), (2, va_rf p2), (3, .int p3), (4, .int p4), (5, va_rf (some x)), (6, va_rf none), (7, va_rf none), (8, va_rf none)]) (cat_R (cat_R (cat_R (cat_I (cat_I (cat_R (cat_R (cat_R cat_nil)))))))) dJ21_split_10 (by decide) rfl [1, 2, 3, 4, 5, 6, 7, 8, 0] rfl ?_
  refine g_null dJ21_split_12 ?_
  refine s_astore (lv' := [(0, va_rf (some x)), (1, va_rf p1), (2, va_rf p2), (3, .int p3), (4, .int p4), (5, va_rf (some x)), (6, va_rf none), (7, va_rf none), (8, va_rf none), (9, va_rf none)]) (cat_R (cat_R (cat_R (cat_I (cat_I (cat_R (cat_R (cat_R (cat_R cat_nil))))))))) dJ21_split_13 (by decide) rfl [1, 2, 3, 4, 5, 6, 7, 8, 9, 0] rfl ?_
  refine g_iconst (v := 0) dJ21_split_15 (by decide) ?_
  refine s_istore (lv' := [(0, va_rf (some x)), (1, va_rf p1), (2, va_rf p2), (3, .int p3), (4, .int p4), (5, va_rf (some x)), (6, va_rf none), (7, va_rf none), (8, va_rf none), (9, va_rf none), (10, .int 0)]) (cat_R (cat_R (cat_R (cat_I (cat_I (cat_R (cat_R (cat_R (cat_R (cat_R cat_nil)))))))))) dJ21_split_16 (by decide) rfl [1, 2, 3, 4, 5, 6, 7, 8, 9, 10, 0] rfl ?_
  refine g_iconst (v := 0) dJ21_split_18 (by decide) ?_
  refine s_istore (lv' := [(0, va_rf (some x)), (1, va_rf p1), (2, va_rf p2), (3, .int p3), (4, .int p4), (5, va_rf (some x)), (6, va_rf none), (7, va_rf none), (8, va_rf none), (9, va_rf none), (10, .int 0), (11, .int 0)]) (cat_R (cat_R (cat_R (cat_I (cat_I (cat_R (cat_R (cat_R (cat_R (cat_R (cat_I cat_nil))))))))))) dJ21_split_19 (by decide) rfl [1, 2, 3, 4, 5, 6, 7, 8, 9, 10, 11, 0] rfl ?_
  refine g_aload dJ21_split_21 5 rfl ?_
  refine s_astore (lv' := [(0, va_rf (some x)), (1, va_rf p1), (2, va_rf p2), (3, .int p3), (4, .int p4), (5, va_rf (some x)), (6, va_rf none), (7, va_rf none), (8, va_rf none), (9, va_rf none), (10, .int 0), (11, .int 0), (12, va_rf (some x))]) (cat_R (cat_R (cat_R (cat_I (cat_I (cat_R (cat_R (cat_R (cat_R (cat_R (cat_I (cat_I cat_nil)))))))))))) dJ21_split_23 (by decide) rfl [1, 2, 3, 4, 5, 6, 7, 8, 9, 10, 11, 12, 0] rfl ?_
  exact F
theorem rJ21_split_25 {Γ : GE} {l : Launch} {h MC MS : Nat} {Q : Option Value → GH → Prop} {bc bs : Nat} {G : GH} (x : Nat) (p1 : Option Nat) (p2 : Option Nat) (p3 : Int32) (p4 : Int32) (p5 : Option Nat) (p6 : Option Nat) (p7 : Option Nat) (p8 : Option Nat) (p9 : Option Nat) (p10 : Int32) (p11 : Int32) (p12 : Option Nat) (F : ((p12 = none → ((p6 = none → (GW Γ l mJ21_split h MC MS Q 171 [(0, va_rf (some x)), (1, va_rf p1), (2, va_rf p2), (3, .int p3), (4, .int p4), (5, va_rf p5), (6, va_rf p6), (7, va_rf p7), (8, va_rf p8), (9, va_rf p9), (10, .int p10), (11, .int p11), (12, va_rf p12)] [] G bc bs)) ∧ (∀ a3, p6 = some a3 → (((6 : Int32) < p10 → (∃ a5, p2 = some a5 ∧ gC G a5 = kA 7 ∧ gM G a5 = true ∧ vp_in p3 (gL G a5) ∧ okS G 7 p6 ∧ ((p8 = none → (GW Γ l mJ21_split h MC MS Q 171 [(0, va_rf (some x)), (1, va_rf p1), (2, va_rf p2), (3, .int p3), (4, .int p4), (5, va_rf p5), (6, va_rf p6), (7, va_rf p7), (8, va_rf p8), (9, va_rf p9), (10, .int p10), (11, .int p11), (12, va_rf p12)] [] (sR G a5 p3.toNatClampNeg p6) bc bs)) ∧ (∀ a11, p8 = some a11 → (gC (sR G a5 p3.toNatClampNeg p6) a3 = kO 13 ∧ cV Γ l h mJ21_treeify [.ref a3, va_rf p2] (sR G a5 p3.toNatClampNeg p6) bc bs fun Gr13 br13 sr13 => GW Γ l mJ21_split h MC MS Q 171 [(0, va_rf (some x)), (1, va_rf p1), (2, va_rf p2), (3, .int p3), (4, .int p4), (5, va_rf p5), (6, va_rf p6), (7, va_rf p7), (8, va_rf p8), (9, va_rf p9), (10, .int p10), (11, .int p11), (12, va_rf p12)] [] Gr13 br13 sr13))))) ∧ (¬ (6 : Int32) < p10 → (gC G a3 = kO 13 ∧ cR Γ l h mJ21_untreeify [.ref a3, va_rf p1] G bc bs fun r16 Gr16 br16 sr16 => ∃ a19, p2 = some a19 ∧ gC Gr16 a19 = kA 7 ∧ gM Gr16 a19 = true ∧ vp_in p3 (gL Gr16 a19) ∧ okS Gr16 7 r16 ∧ GW Γ l mJ21_split h MC MS Q 171 [(0, va_rf (some x)), (1, va_rf p1), (2, va_rf p2), (3, .int p3), (4, .int p4), (5, va_rf p5), (6, va_rf p6), (7, va_rf p7), (8, va_rf p8), (9, va_rf p9), (10, .int p10), (11, .int p11), (12, va_rf p12)] [] (sR Gr16 a19 p3.toNatClampNeg r16) br16 sr16)))))) ∧ (∀ a1, p12 = some a1 → (gC G a1 = kO 13 ∧ okCast G (gR G a1 5) "java/util/HashMap$TreeNode" ∧ gM G a1 = true ∧ ((¬ ((gI (sR G a1 5 none) a1 2) &&& p4) = 0 → ((∀ a29, p9 = some a29 → (gC (sR (sR G a1 5 none) a1 9 p9) a29 = kO 13 ∧ gM (sR (sR G a1 5 none) a1 9 p9) a29 = true ∧ GW Γ l mJ21_split h MC MS Q 25 [(0, va_rf (some x)), (1, va_rf p1), (2, va_rf p2), (3, .int p3), (4, .int p4), (5, va_rf p5), (6, va_rf p6), (7, va_rf p7), (8, va_rf p8), (9, va_rf p12), (10, .int p10), (11, .int (p11 + 1)), (12, va_rf (gR G a1 5))] [] (sR (sR (sR G a1 5 none) a1 9 p9) a29 5 p12) bc bs)) ∧ (p9 = none → (GW Γ l mJ21_split h MC MS Q 25 [(0, va_rf (some x)), (1, va_rf p1), (2, va_rf p2), (3, .int p3), (4, .int p4), (5, va_rf p5), (6, va_rf p6), (7, va_rf p7), (8, va_rf p12), (9, va_rf p12), (10, .int p10), (11, .int (p11 + 1)), (12, va_rf (gR G a1 5))] [] (sR (sR G a1 5 none) a1 9 p9) bc bs)))) ∧ (((gI (sR G a1 5 none) a1 2) &&& p4) = 0 → ((∀ a33, p7 = some a33 → (gC (sR (sR G a1 5 none) a1 9 p7) a33 = kO 13 ∧ gM (sR (sR G a1 5 none) a1 9 p7) a33 = true ∧ GW Γ l mJ21_split h MC MS Q 25 [(0, va_rf (some x)), (1, va_rf p1), (2, va_rf p2), (3, .int p3), (4, .int p4), (5, va_rf p5), (6, va_rf p6), (7, va_rf p12), (8, va_rf p8), (9, va_rf p9), (10, .int (p10 + 1)), (11, .int p11), (12, va_rf (gR G a1 5))] [] (sR (sR (sR G a1 5 none) a1 9 p7) a33 5 p12) bc bs)) ∧ (p7 = none → (GW Γ l mJ21_split h MC MS Q 25 [(0, va_rf (some x)), (1, va_rf p1), (2, va_rf p2), (3, .int p3), (4, .int p4), (5, va_rf p5), (6, va_rf p12), (7, va_rf p12), (8, va_rf p8), (9, va_rf p9), (10, .int (p10 + 1)), (11, .int p11), (12, va_rf (gR G a1 5))] [] (sR (sR G a1 5 none) a1 9 p7) bc bs))))))))) : GW Γ l mJ21_split h MC MS Q 25 [(0, va_rf (some x)), (1, va_rf p1), (2, va_rf p2), (3, .int p3), (4, .int p4), (5, va_rf p5), (6, va_rf p6), (7, va_rf p7), (8, va_rf p8), (9, va_rf p9), (10, .int p10), (11, .int p11), (12, va_rf p12)] [] G bc bs := by
  refine g_aload dJ21_split_25 12 rfl ?_
  refine g_ifnull 131 dJ21_split_27 (by decide) (fun e2 => ?_) (fun a1 e2 => ?_)
  · have F := F.1 e2
    refine g_aload dJ21_split_131 6 rfl ?_
    refine g_ifnull 171 dJ21_split_133 (by decide) (fun e4 => ?_) (fun a3 e4 => ?_)
    · have F := F.1 e4
      exact F
    · have F := F.2 a3 e4
      refine g_iload dJ21_split_136 10 rfl ?_
      refine g_bipush (v := 6) dJ21_split_138 (by decide) ?_
      refine g_icmp_gt 155 dJ21_split_140 (by decide) (fun h25 => ?_) (fun h25 => ?_)
      · have F := F.1 h25
        refine g_aload_n dJ21_split_155 rfl 2 rfl ?_
        refine g_iload_n dJ21_split_156 rfl 3 rfl ?_
        refine g_aload dJ21_split_157 6 rfl ?_
        obtain ⟨a5, e6, F⟩ := F
        obtain ⟨c7, F⟩ := F
        obtain ⟨m8, F⟩ := F
        obtain ⟨k9, F⟩ := F
        obtain ⟨k10, F⟩ := F
        refine h_aast 7 e6 c7 (by decide) (by decide) m8 k9 k10 dJ21_split_159 ?_
        refine g_aload dJ21_split_160 8 rfl ?_
        refine g_ifnull 171 dJ21_split_162 (by decide) (fun e12 => ?_) (fun a11 e12 => ?_)
        · have F := F.1 e12
          exact F
        · have F := F.2 a11 e12
          refine g_aload dJ21_split_165 6 rfl ?_
          refine g_aload_n dJ21_split_167 rfl 2 rfl ?_
          obtain ⟨c14, F⟩ := F
          refine h_callVV (ci := 13) (C := RJ21) (T := TJ21) (N := 11) (As := [va_rf p2]) (rest := []) F 1 rfl rfl (lw_V q727 q728 q729 q136 q730) vm_J21_treeify (by decide) e4 c14 rfl (room_of sc_nil (Nat.le_of_ble_eq_true rfl)) dJ21_split_168 (fun Gr13 br13 sr13 F => ?_)
          exact F
      · have F := F.2 h25
        refine g_aload_n dJ21_split_143 rfl 2 rfl ?_
        refine g_iload_n dJ21_split_144 rfl 3 rfl ?_
        refine g_aload dJ21_split_145 6 rfl ?_
        refine g_aload_n dJ21_split_147 rfl 1 rfl ?_
        obtain ⟨c17, F⟩ := F
        refine h_callVR (ci := 13) (C := RJ21) (T := TJ21) (N := 11) (As := [va_rf p1]) (rest := [.int p3, va_rf p2]) F 1 rfl rfl (lw_V q689 q690 q691 q136 q692) vm_J21_untreeify (by decide) e4 c17 rfl (room_of (sc_I (sc_R sc_nil)) (Nat.le_of_ble_eq_true rfl)) dJ21_split_148 (fun r16 Gr16 br16 sr16 F => ?_)
        obtain ⟨a19, e20, F⟩ := F
        obtain ⟨c21, F⟩ := F
        obtain ⟨m22, F⟩ := F
        obtain ⟨k23, F⟩ := F
        obtain ⟨k24, F⟩ := F
        refine h_aast 7 e20 c21 (by decide) (by decide) m22 k23 k24 dJ21_split_151 ?_
        refine g_goto 171 dJ21_split_152 (by decide) ?_
        exact F
  · have F := F.2 a1 e2
    refine g_aload dJ21_split_30 12 rfl ?_
    obtain ⟨c26, F⟩ := F
    refine h_get (v := va_rf (gR G a1 5)) 13 5 (C := RJ21) (T := TJ21) (N := 11) rfl in_J21 (by decide) q713 (Or.inr q714) e2 c26 rfl dJ21_split_32 ?_
    obtain ⟨k27, F⟩ := F
    refine h_castO q688 k27 dJ21_split_35 ?_
    refine s_astore (lv' := [(0, va_rf (some x)), (1, va_rf p1), (2, va_rf p2), (3, .int p3), (4, .int p4), (5, va_rf p5), (6, va_rf p6), (7, va_rf p7), (8, va_rf p8), (9, va_rf p9), (10, .int p10), (11, .int p11), (12, va_rf p12), (13, va_rf (gR G a1 5))]) (cat_R (cat_R (cat_R (cat_I (cat_I (cat_R (cat_R (cat_R (cat_R (cat_R (cat_I (cat_I (cat_R cat_nil))))))))))))) dJ21_split_38 (by decide) rfl [1, 2, 3, 4, 5, 6, 7, 8, 9, 10, 11, 12, 13, 0] rfl ?_
    refine g_aload dJ21_split_40 12 rfl ?_
    refine g_null dJ21_split_42 ?_
    obtain ⟨m28, F⟩ := F
    refine h_putR (mi := mJ21_split) 13 5 (C := RJ21) (T := TJ21) (N := 11) rfl in_J21 tyJ21_ok nmJ21 (by decide) q713 (Or.inr q714) (Or.inl rfl) rfl rfl e2 c26 m28 dJ21_split_43 ?_
    refine g_aload dJ21_split_46 12 rfl ?_
    refine h_get (v := .int (gI (sR G a1 5 none) a1 2)) 13 2 (C := RJ21) (T := TJ21) (N := 11) rfl in_J21 (by decide) q703 (Or.inr q704) e2 c26 rfl dJ21_split_48 ?_
    refine g_iload dJ21_split_51 4 rfl ?_
    refine g_iand dJ21_split_53 ?_
    refine g_if_ne 92 dJ21_split_54 (by decide) (fun h37 => ?_) (fun h37 => ?_)
    · have F := F.1 h37
      refine g_aload dJ21_split_92 12 rfl ?_
      refine g_aload dJ21_split_94 9 rfl ?_
      refine g_dup_x1 dJ21_split_96 (va_rf_cat _) (va_rf_cat _) ?_
      refine h_putR (mi := mJ21_split) 13 9 (C := RJ21) (T := TJ21) (N := 11) rfl in_J21 tyJ21_ok nmJ21 (by decide) q1009 (Or.inl rfl) (Or.inl rfl) rfl rfl e2 c26 m28 dJ21_split_97 ?_
      refine g_ifnonnull 110 dJ21_split_100 (by decide) (fun a29 e30 => ?_) (fun e30 => ?_)
      · have F := F.1 a29 e30
        refine g_aload dJ21_split_110 9 rfl ?_
        refine g_aload dJ21_split_112 12 rfl ?_
        obtain ⟨c31, F⟩ := F
        obtain ⟨m32, F⟩ := F
        refine h_putR (mi := mJ21_split) 13 5 (C := RJ21) (T := TJ21) (N := 11) rfl in_J21 tyJ21_ok nmJ21 (by decide) q713 (Or.inr q714) (Or.inl rfl) rfl rfl e30 c31 m32 dJ21_split_114 ?_
        refine g_aload dJ21_split_117 12 rfl ?_
        refine s_astore (lv' := [(0, va_rf (some x)), (1, va_rf p1), (2, va_rf p2), (3, .int p3), (4, .int p4), (5, va_rf p5), (6, va_rf p6), (7, va_rf p7), (8, va_rf p8), (9, va_rf p12), (10, .int p10), (11, .int p11), (12, va_rf p12), (13, va_rf (gR G a1 5))]) (cat_R (cat_R (cat_R (cat_I (cat_I (cat_R (cat_R (cat_R (cat_R (cat_R (cat_I (cat_I (cat_R (cat_R cat_nil)))))))))))))) dJ21_split_119 (by decide) rfl [1, 2, 3, 4, 5, 6, 7, 8, 9, 0, 10, 11, 12, 13] rfl ?_
        refine s_iinc (v := (p11 + 1)) (lv' := [(0, va_rf (some x)), (1, va_rf p1), (2, va_rf p2), (3, .int p3), (4, .int p4), (5, va_rf p5), (6, va_rf p6), (7, va_rf p7), (8, va_rf p8), (9, va_rf p12), (10, .int p10), (11, .int (p11 + 1)), (12, va_rf p12), (13, va_rf (gR G a1 5))]) (cat_R (cat_R (cat_R (cat_I (cat_I (cat_R (cat_R (cat_R (cat_R (cat_R (cat_I (cat_I (cat_R (cat_R cat_nil)))))))))))))) dJ21_split_121 (k0 := 11) rfl rfl (by decide) rfl [1, 2, 3, 4, 5, 6, 7, 8, 9, 10, 11, 0, 12, 13] rfl ?_
        refine g_aload dJ21_split_124 13 rfl ?_
        refine s_astore (lv' := [(0, va_rf (some x)), (1, va_rf p1), (2, va_rf p2), (3, .int p3), (4, .int p4), (5, va_rf p5), (6, va_rf p6), (7, va_rf p7), (8, va_rf p8), (9, va_rf p12), (10, .int p10), (11, .int (p11 + 1)), (12, va_rf (gR G a1 5)), (13, va_rf (gR G a1 5))]) (cat_R (cat_R (cat_R (cat_I (cat_I (cat_R (cat_R (cat_R (cat_R (cat_R (cat_I (cat_I (cat_R (cat_R cat_nil)))))))))))))) dJ21_split_126 (by decide) rfl [1, 2, 3, 4, 5, 6, 7, 8, 9, 10, 11, 12, 0, 13] rfl ?_
        refine g_goto 25 dJ21_split_128 (by decide) ?_
        refine GW.lsub (lv' := [(0, va_rf (some x)), (1, va_rf p1), (2, va_rf p2), (3, .int p3), (4, .int p4), (5, va_rf p5), (6, va_rf p6), (7, va_rf p7), (8, va_rf p8), (9, va_rf p12), (10, .int p10), (11, .int (p11 + 1)), (12, va_rf (gR G a1 5))]) [0, 1, 2, 3, 4, 5, 6, 7, 8, 9, 10, 11, 12] rfl ?_
        exact F
      · have F := F.2 e30
        refine g_aload dJ21_split_103 12 rfl ?_
        refine s_astore (lv' := [(0, va_rf (some x)), (1, va_rf p1), (2, va_rf p2), (3, .int p3), (4, .int p4), (5, va_rf p5), (6, va_rf p6), (7, va_rf p7), (8, va_rf p12), (9, va_rf p9), (10, .int p10), (11, .int p11), (12, va_rf p12), (13, va_rf (gR G a1 5))]) (cat_R (cat_R (cat_R (cat_I (cat_I (cat_R (cat_R (cat_R (cat_R (cat_R (cat_I (cat_I (cat_R (cat_R cat_nil)))))))))))))) dJ21_split_105 (by decide) rfl [1, 2, 3, 4, 5, 6, 7, 8, 0, 9, 10, 11, 12, 13] rfl ?_
        refine g_goto 117 dJ21_split_107 (by decide) ?_
        refine g_aload dJ21_split_117 12 rfl ?_
        refine s_astore (lv' := [(0, va_rf (some x)), (1, va_rf p1), (2, va_rf p2), (3, .int p3), (4, .int p4), (5, va_rf p5), (6, va_rf p6), (7, va_rf p7), (8, va_rf p12), (9, va_rf p12), (10, .int p10), (11, .int p11), (12, va_rf p12), (13, va_rf (gR G a1 5))]) (cat_R (cat_R (cat_R (cat_I (cat_I (cat_R (cat_R (cat_R (cat_R (cat_R (cat_I (cat_I (cat_R (cat_R cat_nil)))))))))))))) dJ21_split_119 (by decide) rfl [1, 2, 3, 4, 5, 6, 7, 8, 9, 0, 10, 11, 12, 13] rfl ?_
        refine s_iinc (v := (p11 + 1)) (lv' := [(0, va_rf (some x)), (1, va_rf p1), (2, va_rf p2), (3, .int p3), (4, .int p4), (5, va_rf p5), (6, va_rf p6), (7, va_rf p7), (8, va_rf p12), (9, va_rf p12), (10, .int p10), (11, .int (p11 + 1)), (12, va_rf p12), (13, va_rf (gR G a1 5))]) (cat_R (cat_R (cat_R (cat_I (cat_I (cat_R (cat_R (cat_R (cat_R (cat_R (cat_I (cat_I (cat_R (cat_R cat_nil)))))))))))))) dJ21_split_121 (k0 := 11) rfl rfl (by decide) rfl [1, 2, 3, 4, 5, 6, 7, 8, 9, 10, 11, 0, 12, 13] rfl ?_
        refine g_aload dJ21_split_124 13 rfl ?_
        refine s_astore (lv' := [(0, va_rf (some x)), (1, va_rf p1), (2, va_rf p2), (3, .int p3), (4, .int p4), (5, va_rf p5), (6, va_rf p6), (7, va_rf p7), (8, va_rf p12), (9, va_rf p12), (10, .int p10), (11, .int (p11 + 1)), (12, va_rf (gR G a1 5)), (13, va_rf (gR G a1 5))]) (cat_R (cat_R (cat_R (cat_I (cat_I (cat_R (cat_R (cat_R (cat_R (cat_R (cat_I (cat_I (cat_R (cat_R cat_nil)))))))))))))) dJ21_split_126 (by decide) rfl [1, 2, 3, 4, 5, 6, 7, 8, 9, 10, 11, 12, 0, 13] rfl ?_
        refine g_goto 25 dJ21_split_128 (by decide) ?_
        refine GW.lsub (lv' := [(0, va_rf (some x)), (1, va_rf p1), (2, va_rf p2), (3, .int p3), (4, .int p4), (5, va_rf p5), (6, va_rf p6), (7, va_rf p7), (8, va_rf p12), (9, va_rf p12), (10, .int p10), (11, .int (p11 + 1)), (12, va_rf (gR G a1 5))]) [0, 1, 2, 3, 4, 5, 6, 7, 8, 9, 10, 11, 12] rfl ?_
        exact F
    · have F := F.2 h37
      refine g_aload dJ21_split_57 12 rfl ?_
      refine g_aload dJ21_split_59 7 rfl ?_
      refine g_dup_x1 dJ21_split_61 (va_rf_cat _) (va_rf_cat _) ?_
      refine h_putR (mi := mJ21_split) 13 9 (C := RJ21) (T := TJ21) (N := 11) rfl in_J21 tyJ21_ok nmJ21 (by decide) q1009 (Or.inl rfl) (Or.inl rfl) rfl rfl e2 c26 m28 dJ21_split_62 ?_
      refine g_ifnonnull 75 dJ21_split_65 (by decide) (fun a33 e34 => ?_) (fun e34 => ?_)
      · have F := F.1 a33 e34
        refine g_aload dJ21_split_75 7 rfl ?_
        refine g_aload dJ21_split_77 12 rfl ?_
        obtain ⟨c35, F⟩ := F
        obtain ⟨m36, F⟩ := F
        refine h_putR (mi := mJ21_split) 13 5 (C := RJ21) (T := TJ21) (N := 11) rfl in_J21 tyJ21_ok nmJ21 (by decide) q713 (Or.inr q714) (Or.inl rfl) rfl rfl e34 c35 m36 dJ21_split_79 ?_
        refine g_aload dJ21_split_82 12 rfl ?_
        refine s_astore (lv' := [(0, va_rf (some x)), (1, va_rf p1), (2, va_rf p2), (3, .int p3), (4, .int p4), (5, va_rf p5), (6, va_rf p6), (7, va_rf p12), (8, va_rf p8), (9, va_rf p9), (10, .int p10), (11, .int p11), (12, va_rf p12), (13, va_rf (gR G a1 5))]) (cat_R (cat_R (cat_R (cat_I (cat_I (cat_R (cat_R (cat_R (cat_R (cat_R (cat_I (cat_I (cat_R (cat_R cat_nil)))))))))))))) dJ21_split_84 (by decide) rfl [1, 2, 3, 4, 5, 6, 7, 0, 8, 9, 10, 11, 12, 13] rfl ?_
        refine s_iinc (v := (p10 + 1)) (lv' := [(0, va_rf (some x)), (1, va_rf p1), (2, va_rf p2), (3, .int p3), (4, .int p4), (5, va_rf p5), (6, va_rf p6), (7, va_rf p12), (8, va_rf p8), (9, va_rf p9), (10, .int (p10 + 1)), (11, .int p11), (12, va_rf p12), (13, va_rf (gR G a1 5))]) (cat_R (cat_R (cat_R (cat_I (cat_I (cat_R (cat_R (cat_R (cat_R (cat_R (cat_I (cat_I (cat_R (cat_R cat_nil)))))))))))))) dJ21_split_86 (k0 := 10) rfl rfl (by decide) rfl [1, 2, 3, 4, 5, 6, 7, 8, 9, 10, 0, 11, 12, 13] rfl ?_
        refine g_goto 124 dJ21_split_89 (by decide) ?_
        refine g_aload dJ21_split_124 13 rfl ?_
        refine s_astore (lv' := [(0, va_rf (some x)), (1, va_rf p1), (2, va_rf p2), (3, .int p3), (4, .int p4), (5, va_rf p5), (6, va_rf p6), (7, va_rf p12), (8, va_rf p8), (9, va_rf p9), (10, .int (p10 + 1)), (11, .int p11), (12, va_rf (gR G a1 5)), (13, va_rf (gR G a1 5))]) (cat_R (cat_R (cat_R (cat_I (cat_I (cat_R (cat_R (cat_R (cat_R (cat_R (cat_I (cat_I (cat_R (cat_R cat_nil)))))))))))))) dJ21_split_126 (by decide) rfl [1, 2, 3, 4, 5, 6, 7, 8, 9, 10, 11, 12, 0, 13] rfl ?_
        refine g_goto 25 dJ21_split_128 (by decide) ?_
        refine GW.lsub (lv' := [(0, va_rf (some x)), (1, va_rf p1), (2, va_rf p2), (3, .int p3), (4, .int p4), (5, va_rf p5), (6, va_rf p6), (7, va_rf p12), (8, va_rf p8), (9, va_rf p9), (10, .int (p10 + 1)), (11, .int p11), (12, va_rf (gR G a1 5))]) [0, 1, 2, 3, 4, 5, 6, 7, 8, 9, 10, 11, 12] rfl ?_
        exact F
      · have F := F.2 e34
        refine g_aload dJ21_split_68 12 rfl ?_
        refine s_astore (lv' := [(0, va_rf (some x)), (1, va_rf p1), (2, va_rf p2), (3, .int p3), (4, .int p4), (5, va_rf p5), (6, va_rf p12), (7, va_rf p7), (8, va_rf p8), (9, va_rf p9), (10, .int p10), (11, .int p11), (12, va_rf p12), (13, va_rf (gR G a1 5))]) (cat_R (cat_R (cat_R (cat_I (cat_I (cat_R (cat_R (cat_R (cat_R (cat_R (cat_I (cat_I (cat_R (cat_R cat_nil)))))))))))))) dJ21_split_70 (by decide) rfl [1, 2, 3, 4, 5, 6, 0, 7, 8, 9, 10, 11, 12, 13] rfl ?_
        refine g_goto 82 dJ21_split_72 (by decide) ?_
        refine g_aload dJ21_split_82 12 rfl ?_
        refine s_astore (lv' := [(0, va_rf (some x)), (1, va_rf p1), (2, va_rf p2), (3, .int p3), (4, .int p4), (5, va_rf p5), (6, va_rf p12), (7, va_rf p12), (8, va_rf p8), (9, va_rf p9), (10, .int p10), (11, .int p11), (12, va_rf p12), (13, va_rf (gR G a1 5))]) (cat_R (cat_R (cat_R (cat_I (cat_I (cat_R (cat_R (cat_R (cat_R (cat_R (cat_I (cat_I (cat_R (cat_R cat_nil)))))))))))))) dJ21_split_84 (by decide) rfl [1, 2, 3, 4, 5, 6, 7, 0, 8, 9, 10, 11, 12, 13] rfl ?_
        refine s_iinc (v := (p10 + 1)) (lv' := [(0, va_rf (some x)), (1, va_rf p1), (2, va_rf p2), (3, .int p3), (4, .int p4), (5, va_rf p5), (6, va_rf p12), (7, va_rf p12), (8, va_rf p8), (9, va_rf p9), (10, .int (p10 + 1)), (11, .int p11), (12, va_rf p12), (13, va_rf (gR G a1 5))]) (cat_R (cat_R (cat_R (cat_I (cat_I (cat_R (cat_R (cat_R (cat_R (cat_R (cat_I (cat_I (cat_R (cat_R cat_nil)))))))))))))) dJ21_split_86 (k0 := 10) rfl rfl (by decide) rfl [1, 2, 3, 4, 5, 6, 7, 8, 9, 10, 0, 11, 12, 13] rfl ?_
        refine g_goto 124 dJ21_split_89 (by decide) ?_
        refine g_aload dJ21_split_124 13 rfl ?_
        refine s_astore (lv' := [(0, va_rf (some x)), (1, va_rf p1), (2, va_rf p2), (3, .int p3), (4, .int p4), (5, va_rf p5), (6, va_rf p12), (7, va_rf p12), (8, va_rf p8), (9, va_rf p9), (10, .int (p10 + 1)), (11, .int p11), (12, va_rf (gR G a1 5)), (13, va_rf (gR G a1 5))]) (cat_R (cat_R (cat_R (cat_I (cat_I (cat_R (cat_R (cat_R (cat_R (cat_R (cat_I (cat_I (cat_R (cat_R cat_nil)))))))))))))) dJ21_split_126 (by decide) rfl [1, 2, 3, 4, 5, 6, 7, 8, 9, 10, 11, 12, 0, 13] rfl ?_
        refine g_goto 25 dJ21_split_128 (by decide) ?_
        refine GW.lsub (lv' := [(0, va_rf (some x)), (1, va_rf p1), (2, va_rf p2), (3, .int p3), (4, .int p4), (5, va_rf p5), (6, va_rf p12), (7, va_rf p12), (8, va_rf p8), (9, va_rf p9), (10, .int (p10 + 1)), (11, .int p11), (12, va_rf (gR G a1 5))]) [0, 1, 2, 3, 4, 5, 6, 7, 8, 9, 10, 11, 12] rfl ?_
        exact F
theorem rJ21_split_171 {Γ : GE} {l : Launch} {h MC MS : Nat} {Q : Option Value → GH → Prop} {bc bs : Nat} {G : GH} (x : Nat) (p1 : Option Nat) (p2 : Option Nat) (p3 : Int32) (p4 : Int32) (p5 : Option Nat) (p6 : Option Nat) (p7 : Option Nat) (p8 : Option Nat) (p9 : Option Nat) (p10 : Int32) (p11 : Int32) (p12 : Option Nat) (F : ((p8 = none → (Q none G)) ∧ (∀ a1, p8 = some a1 → (((6 : Int32) < p11 → (∃ a3, p2 = some a3 ∧ gC G a3 = kA 7 ∧ gM G a3 = true ∧ vp_in (p3 + p4) (gL G a3) ∧ okS G 7 p8 ∧ ((p6 = none → (Q none (sR G a3 (p3 + p4).toNatClampNeg p8))) ∧ (∀ a9, p6 = some a9 → (gC (sR G a3 (p3 + p4).toNatClampNeg p8) a1 = kO 13 ∧ cV Γ l h mJ21_treeify [.ref a1, va_rf p2] (sR G a3 (p3 + p4).toNatClampNeg p8) bc bs fun Gr11 br11 sr11 => Q none Gr11))))) ∧ (¬ (6 : Int32) < p11 → (gC G a1 = kO 13 ∧ cR Γ l h mJ21_untreeify [.ref a1, va_rf p1] G bc bs fun r14 Gr14 br14 sr14 => ∃ a17, p2 = some a17 ∧ gC Gr14 a17 = kA 7 ∧ gM Gr14 a17 = true ∧ vp_in (p3 + p4) (gL Gr14 a17) ∧ okS Gr14 7 r14 ∧ Q none (sR Gr14 a17 (p3 + p4).toNatClampNeg r14))))))) : GW Γ l mJ21_split h MC MS Q 171 [(0, va_rf (some x)), (1, va_rf p1), (2, va_rf p2), (3, .int p3), (4, .int p4), (5, va_rf p5), (6, va_rf p6), (7, va_rf p7), (8, va_rf p8), (9, va_rf p9), (10, .int p10), (11, .int p11), (12, va_rf p12)] [] G bc bs := by
  refine g_aload dJ21_split_171 8 rfl ?_
  refine g_ifnull 217 dJ21_split_173 (by decide) (fun e2 => ?_) (fun a1 e2 => ?_)
  · have F := F.1 e2
    exact g_vret rfl dJ21_split_217 F
  · have F := F.2 a1 e2
    refine g_iload dJ21_split_176 11 rfl ?_
    refine g_bipush (v := 6) dJ21_split_178 (by decide) ?_
    refine g_icmp_gt 198 dJ21_split_180 (by decide) (fun h23 => ?_) (fun h23 => ?_)
    · have F := F.1 h23
      refine g_aload_n dJ21_split_198 rfl 2 rfl ?_
      refine g_iload_n dJ21_split_199 rfl 3 rfl ?_
      refine g_iload dJ21_split_200 4 rfl ?_
      refine g_iadd dJ21_split_202 ?_
      refine g_aload dJ21_split_203 8 rfl ?_
      obtain ⟨a3, e4, F⟩ := F
      obtain ⟨c5, F⟩ := F
      obtain ⟨m6, F⟩ := F
      obtain ⟨k7, F⟩ := F
      obtain ⟨k8, F⟩ := F
      refine h_aast 7 e4 c5 (by decide) (by decide) m6 k7 k8 dJ21_split_205 ?_
      refine g_aload dJ21_split_206 6 rfl ?_
      refine g_ifnull 217 dJ21_split_208 (by decide) (fun e10 => ?_) (fun a9 e10 => ?_)
      · have F := F.1 e10
        exact g_vret rfl dJ21_split_217 F
      · have F := F.2 a9 e10
        refine g_aload dJ21_split_211 8 rfl ?_
        refine g_aload_n dJ21_split_213 rfl 2 rfl ?_
        obtain ⟨c12, F⟩ := F
        refine h_callVV (ci := 13) (C := RJ21) (T := TJ21) (N := 11) (As := [va_rf p2]) (rest := []) F 1 rfl rfl (lw_V q727 q728 q729 q136 q730) vm_J21_treeify (by decide) e2 c12 rfl (room_of sc_nil (Nat.le_of_ble_eq_true rfl)) dJ21_split_214 (fun Gr11 br11 sr11 F => ?_)
        exact g_vret rfl dJ21_split_217 F
    · have F := F.2 h23
      refine g_aload_n dJ21_split_183 rfl 2 rfl ?_
      refine g_iload_n dJ21_split_184 rfl 3 rfl ?_
      refine g_iload dJ21_split_185 4 rfl ?_
      refine g_iadd dJ21_split_187 ?_
      refine g_aload dJ21_split_188 8 rfl ?_
      refine g_aload_n dJ21_split_190 rfl 1 rfl ?_
      obtain ⟨c15, F⟩ := F
      refine h_callVR (ci := 13) (C := RJ21) (T := TJ21) (N := 11) (As := [va_rf p1]) (rest := [.int (p3 + p4), va_rf p2]) F 1 rfl rfl (lw_V q689 q690 q691 q136 q692) vm_J21_untreeify (by decide) e2 c15 rfl (room_of (sc_I (sc_R sc_nil)) (Nat.le_of_ble_eq_true rfl)) dJ21_split_191 (fun r14 Gr14 br14 sr14 F => ?_)
      obtain ⟨a17, e18, F⟩ := F
      obtain ⟨c19, F⟩ := F
      obtain ⟨m20, F⟩ := F
      obtain ⟨k21, F⟩ := F
      obtain ⟨k22, F⟩ := F
      refine h_aast 7 e18 c19 (by decide) (by decide) m20 k21 k22 dJ21_split_194 ?_
      refine g_goto 217 dJ21_split_195 (by decide) ?_
      exact g_vret rfl dJ21_split_217 F
theorem rJ21_untreeify_0 {Γ : GE} {l : Launch} {h MC MS : Nat} {Q : Option Value → GH → Prop} {bc bs : Nat} {G : GH} (x : Nat) (p1 : Option Nat) (F : (GW Γ l mJ21_untreeify h MC MS Q 7 [(0, va_rf (some x)), (1, va_rf p1), (2, va_rf none), (3, va_rf none), (4, va_rf (some x))] [] G bc bs)) : GW Γ l mJ21_untreeify h MC MS Q 0 [(0, va_rf (some x)), (1, va_rf p1)] [] G bc bs := by
  refine g_null dJ21_untreeify_0 ?_
  refine s_astore_n (lv' := [(0, va_rf (some x)), (1, va_rf p1), (2, va_rf none)]) (cat_R (cat_R cat_nil)) dJ21_untreeify_1 rfl (by decide) rfl [1, 2, 0] rfl ?_
  refine g_null dJ21_untreeify_2 ?_
  refine s_astore_n (lv' := [(0, va_rf (some x)), (1, va_rf p1), (2, va_rf none), (3, va_rf none)]) (cat_R (cat_R (cat_R cat_nil))) dJ21_untreeify_3 rfl (by decide) rfl [1, 2, 3, 0] rfl ?_
  refine g_aload_n dJ21_untreeify_4 rfl 0 rfl ?_
  refine s_astore (lv' := [(0, va_rf (some x)), (1, va_rf p1), (2, va_rf none), (3, va_rf none), (4, va_rf (some x))]) (cat_R (cat_R (cat_R (cat_R cat_nil)))) dJ21_untreeify_5 (by decide) rfl [1, 2, 3, 4, 0] rfl ?_
  exact F
theorem rJ21_untreeify_7 {Γ : GE} {l : Launch} {h MC MS : Nat} {Q : Option Value → GH → Prop} {bc bs : Nat} {G : GH} (x : Nat) (p1 : Option Nat) (p2 : Option Nat) (p3 : Option Nat) (p4 : Option Nat) (F : ((p4 = none → (Q (some (va_rf p2)) G)) ∧ (∀ a1, p4 = some a1 → (∃ a4, p1 = some a4 ∧ gC G a4 = kO 11 ∧ cR Γ l h mJ11_replacementNode [.ref a4, va_rf p4, va_rf none] G bc bs fun r3 Gr3 br3 sr3 => ((∀ a8, p3 = some a8 → ((gC Gr3 a8 = kO 12 ∨ gC Gr3 a8 = kO 13) ∧ gM Gr3 a8 = true ∧ (gC (ndsR Gr3 a8 3 r3) a1 = kO 12 ∨ gC (ndsR Gr3 a8 3 r3) a1 = kO 13) ∧ GW Γ l mJ21_untreeify h MC MS Q 7 [(0, va_rf (some x)), (1, va_rf p1), (2, va_rf p2), (3, va_rf r3), (4, va_rf (ndR (ndsR Gr3 a8 3 r3) a1 3))] [] (ndsR Gr3 a8 3 r3) br3 sr3)) ∧ (p3 = none → ((gC Gr3 a1 = kO 12 ∨ gC Gr3 a1 = kO 13) ∧ GW Γ l mJ21_untreeify h MC MS Q 7 [(0, va_rf (some x)), (1, va_rf p1), (2, va_rf r3), (3, va_rf r3), (4, va_rf (ndR Gr3 a1 3))] [] Gr3 br3 sr3))))))) : GW Γ l mJ21_untreeify h MC MS Q 7 [(0, va_rf (some x)), (1, va_rf p1), (2, va_rf p2), (3, va_rf p3), (4, va_rf p4)] [] G bc bs := by
  refine g_aload dJ21_untreeify_7 4 rfl ?_
  refine g_ifnull 50 dJ21_untreeify_9 (by decide) (fun e2 => ?_) (fun a1 e2 => ?_)
  · have F := F.1 e2
    refine g_aload_n dJ21_untreeify_50 rfl 2 rfl ?_
    exact g_aret (r := p2) rfl (Or.inl ⟨_, rfl⟩) dJ21_untreeify_51 F
  · have F := F.2 a1 e2
    refine g_aload_n dJ21_untreeify_12 rfl 1 rfl ?_
    refine g_aload dJ21_untreeify_13 4 rfl ?_
    refine g_null dJ21_untreeify_15 ?_
    obtain ⟨a4, e5, F⟩ := F
    obtain ⟨c6, F⟩ := F
    refine h_callVR (ci := 11) (C := RJ11) (T := TJ11) (N := 8) (As := [va_rf p4, va_rf none]) (rest := []) F 2 rfl rfl (lw_V q693 q694 q695 q123 q696) vm_J11_replacementNode (by decide) e5 c6 rfl (room_of sc_nil (Nat.le_of_ble_eq_true rfl)) dJ21_untreeify_16 (fun r3 Gr3 br3 sr3 F => ?_)
    refine s_astore (lv' := [(0, va_rf (some x)), (1, va_rf p1), (2, va_rf p2), (3, va_rf p3), (4, va_rf p4), (5, va_rf r3)]) (cat_R (cat_R (cat_R (cat_R (cat_R cat_nil))))) dJ21_untreeify_19 (by decide) rfl [1, 2, 3, 4, 5, 0] rfl ?_
    refine g_aload_n dJ21_untreeify_21 rfl 3 rfl ?_
    refine g_ifnonnull 31 dJ21_untreeify_22 (by decide) (fun a8 e9 => ?_) (fun e9 => ?_)
    · have F := F.1 a8 e9
      refine g_aload_n dJ21_untreeify_31 rfl 3 rfl ?_
      refine g_aload dJ21_untreeify_32 5 rfl ?_
      obtain ⟨c10, F⟩ := F
      obtain ⟨m11, F⟩ := F
      refine h_putNDR (mi := mJ21_untreeify) 3 (by decide) q715 (Or.inl rfl) e9 c10 m11 dJ21_untreeify_34 ?_
      refine g_aload dJ21_untreeify_37 5 rfl ?_
      refine s_astore_n (lv' := [(0, va_rf (some x)), (1, va_rf p1), (2, va_rf p2), (3, va_rf r3), (4, va_rf p4), (5, va_rf r3)]) (cat_R (cat_R (cat_R (cat_R (cat_R (cat_R cat_nil)))))) dJ21_untreeify_39 rfl (by decide) rfl [1, 2, 3, 0, 4, 5] rfl ?_
      refine g_aload dJ21_untreeify_40 4 rfl ?_
      obtain ⟨c12, F⟩ := F
      refine h_getNDR 3 (by decide) q715 e2 c12 dJ21_untreeify_42 ?_
      refine s_astore (lv' := [(0, va_rf (some x)), (1, va_rf p1), (2, va_rf p2), (3, va_rf r3), (4, va_rf (ndR (ndsR Gr3 a8 3 r3) a1 3)), (5, va_rf r3)]) (cat_R (cat_R (cat_R (cat_R (cat_R (cat_R cat_nil)))))) dJ21_untreeify_45 (by decide) rfl [1, 2, 3, 4, 0, 5] rfl ?_
      refine g_goto 7 dJ21_untreeify_47 (by decide) ?_
      refine GW.lsub (lv' := [(0, va_rf (some x)), (1, va_rf p1), (2, va_rf p2), (3, va_rf r3), (4, va_rf (ndR (ndsR Gr3 a8 3 r3) a1 3))]) [0, 1, 2, 3, 4] rfl ?_
      exact F
    · have F := F.2 e9
      refine g_aload dJ21_untreeify_25 5 rfl ?_
      refine s_astore_n (lv' := [(0, va_rf (some x)), (1, va_rf p1), (2, va_rf r3), (3, va_rf p3), (4, va_rf p4), (5, va_rf r3)]) (cat_R (cat_R (cat_R (cat_R (cat_R (cat_R cat_nil)))))) dJ21_untreeify_27 rfl (by decide) rfl [1, 2, 0, 3, 4, 5] rfl ?_
      refine g_goto 37 dJ21_untreeify_28 (by decide) ?_
      refine g_aload dJ21_untreeify_37 5 rfl ?_
      refine s_astore_n (lv' := [(0, va_rf (some x)), (1, va_rf p1), (2, va_rf r3), (3, va_rf r3), (4, va_rf p4), (5, va_rf r3)]) (cat_R (cat_R (cat_R (cat_R (cat_R (cat_R cat_nil)))))) dJ21_untreeify_39 rfl (by decide) rfl [1, 2, 3, 0, 4, 5] rfl ?_
      refine g_aload dJ21_untreeify_40 4 rfl ?_
      obtain ⟨c13, F⟩ := F
      refine h_getNDR 3 (by decide) q715 e2 c13 dJ21_untreeify_42 ?_
      refine s_astore (lv' := [(0, va_rf (some x)), (1, va_rf p1), (2, va_rf r3), (3, va_rf r3), (4, va_rf (ndR Gr3 a1 3)), (5, va_rf r3)]) (cat_R (cat_R (cat_R (cat_R (cat_R (cat_R cat_nil)))))) dJ21_untreeify_45 (by decide) rfl [1, 2, 3, 4, 0, 5] rfl ?_
      refine g_goto 7 dJ21_untreeify_47 (by decide) ?_
      refine GW.lsub (lv' := [(0, va_rf (some x)), (1, va_rf p1), (2, va_rf r3), (3, va_rf r3), (4, va_rf (ndR Gr3 a1 3))]) [0, 1, 2, 3, 4] rfl ?_
      exact F
theorem rJ21_treeify_0 {Γ : GE} {l : Launch} {h MC MS : Nat} {Q : Option Value → GH → Prop} {bc bs : Nat} {G : GH} (x : Nat) (p1 : Option Nat) (F : (GW Γ l mJ21_treeify h MC MS Q 4 [(0, va_rf (some x)), (1, va_rf p1), (2, va_rf none), (3, va_rf (some x))] [] G bc bs)) : GW Γ l mJ21_treeify h MC MS Q 0 [(0, va_rf (some x)), (1, va_rf p1)] [] G bc bs := by
  refine g_null dJ21_treeify_0 ?_
  refine s_astore_n (lv' := [(0, va_rf (some x)), (1, va_rf p1), (2, va_rf none)]) (cat_R (cat_R cat_nil)) dJ21_treeify_1 rfl (by decide) rfl [1, 2, 0] rfl ?_
  refine g_aload_n dJ21_treeify_2 rfl 0 rfl ?_
  refine s_astore_n (lv' := [(0, va_rf (some x)), (1, va_rf p1), (2, va_rf none), (3, va_rf (some x))]) (cat_R (cat_R (cat_R cat_nil))) dJ21_treeify_3 rfl (by decide) rfl [1, 2, 3, 0] rfl ?_
  exact F
theorem rJ21_treeify_4 {Γ : GE} {l : Launch} {h MC MS : Nat} {Q : Option Value → GH → Prop} {bc bs : Nat} {G : GH} (x : Nat) (p1 : Option Nat) (p2 : Option Nat) (p3 : Option Nat) (F : ((p3 = none → (cV Γ l h mJ21_moveRootToFront [va_rf p1, va_rf p2] G bc bs fun Gr3 br3 sr3 => Q none Gr3)) ∧ (∀ a1, p3 = some a1 → (gC G a1 = kO 13 ∧ okCast G (gR G a1 5) "java/util/HashMap$TreeNode" ∧ gM G a1 = true ∧ ((∀ a8, p2 = some a8 → (GW Γ l mJ21_treeify h MC MS Q 64 [(0, va_rf (some x)), (1, va_rf p1), (2, va_rf p2), (3, va_rf p3), (4, va_rf (gR G a1 5)), (5, va_rf (gR (sR (sR G a1 8 none) a1 7 none) a1 3)), (6, .int (gI (sR (sR G a1 8 none) a1 7 none) a1 2)), (7, va_rf none), (8, va_rf p2)] [] (sR (sR G a1 8 none) a1 7 none) bc bs)) ∧ (p2 = none → (GW Γ l mJ21_treeify h MC MS Q 4 [(0, va_rf (some x)), (1, va_rf p1), (2, va_rf p3), (3, va_rf (gR G a1 5))] [] (sI (sR (sR (sR G a1 8 none) a1 7 none) a1 6 none) a1 10 0) bc bs))))))) : GW Γ l mJ21_treeify h MC MS Q 4 [(0, va_rf (some x)), (1, va_rf p1), (2, va_rf p2), (3, va_rf p3)] [] G bc bs := by
  refine g_aload_n dJ21_treeify_4 rfl 3 rfl ?_
  refine g_ifnull 215 dJ21_treeify_5 (by decide) (fun e2 => ?_) (fun a1 e2 => ?_)
  · have F := F.1 e2
    refine g_aload_n dJ21_treeify_215 rfl 1 rfl ?_
    refine g_aload_n dJ21_treeify_216 rfl 2 rfl ?_
    refine h_callSV (As := [va_rf p1, va_rf p2]) (rest := []) F 2 rfl (lw_S q946 q947 q136 q948) vm_J21_moveRootToFront.2 (by decide) rfl (room_of sc_nil (Nat.le_of_ble_eq_true rfl)) dJ21_treeify_217 (fun Gr3 br3 sr3 F => ?_)
    exact g_vret rfl dJ21_treeify_220 F
  · have F := F.2 a1 e2
    refine g_aload_n dJ21_treeify_8 rfl 3 rfl ?_
    obtain ⟨c5, F⟩ := F
    refine h_get (v := va_rf (gR G a1 5)) 13 5 (C := RJ21) (T := TJ21) (N := 11) rfl in_J21 (by decide) q713 (Or.inr q714) e2 c5 rfl dJ21_treeify_9 ?_
    obtain ⟨k6, F⟩ := F
    refine h_castO q688 k6 dJ21_treeify_12 ?_
    refine s_astore (lv' := [(0, va_rf (some x)), (1, va_rf p1), (2, va_rf p2), (3, va_rf p3), (4, va_rf (gR G a1 5))]) (cat_R (cat_R (cat_R (cat_R cat_nil)))) dJ21_treeify_15 (by decide) rfl [1, 2, 3, 4, 0] rfl ?_
    refine g_aload_n dJ21_treeify_17 rfl 3 rfl ?_
    refine g_aload_n dJ21_treeify_18 rfl 3 rfl ?_
    refine g_null dJ21_treeify_19 ?_
    refine g_dup_x1 dJ21_treeify_20 (va_rf_cat _) (va_rf_cat _) ?_
    obtain ⟨m7, F⟩ := F
    refine h_putR (mi := mJ21_treeify) 13 8 (C := RJ21) (T := TJ21) (N := 11) rfl in_J21 tyJ21_ok nmJ21 (by decide) q1008 (Or.inl rfl) (Or.inl rfl) rfl rfl e2 c5 m7 dJ21_treeify_21 ?_
    refine h_putR (mi := mJ21_treeify) 13 7 (C := RJ21) (T := TJ21) (N := 11) rfl in_J21 tyJ21_ok nmJ21 (by decide) q1007 (Or.inl rfl) (Or.inl rfl) rfl rfl e2 c5 m7 dJ21_treeify_24 ?_
    refine g_aload_n dJ21_treeify_27 rfl 2 rfl ?_
    refine g_ifnonnull 46 dJ21_treeify_28 (by decide) (fun a8 e9 => ?_) (fun e9 => ?_)
    · have F := F.1 a8 e9
      refine g_aload_n dJ21_treeify_46 rfl 3 rfl ?_
      refine h_get (v := va_rf (gR (sR (sR G a1 8 none) a1 7 none) a1 3)) 13 3 (C := RJ21) (T := TJ21) (N := 11) rfl in_J21 (by decide) q707 (Or.inr q708) e2 c5 rfl dJ21_treeify_47 ?_
      refine s_astore (lv' := [(0, va_rf (some x)), (1, va_rf p1), (2, va_rf p2), (3, va_rf p3), (4, va_rf (gR G a1 5)), (5, va_rf (gR (sR (sR G a1 8 none) a1 7 none) a1 3))]) (cat_R (cat_R (cat_R (cat_R (cat_R cat_nil))))) dJ21_treeify_50 (by decide) rfl [1, 2, 3, 4, 5, 0] rfl ?_
      refine g_aload_n dJ21_treeify_52 rfl 3 rfl ?_
      refine h_get (v := .int (gI (sR (sR G a1 8 none) a1 7 none) a1 2)) 13 2 (C := RJ21) (T := TJ21) (N := 11) rfl in_J21 (by decide) q703 (Or.inr q704) e2 c5 rfl dJ21_treeify_53 ?_
      refine s_istore (lv' := [(0, va_rf (some x)), (1, va_rf p1), (2, va_rf p2), (3, va_rf p3), (4, va_rf (gR G a1 5)), (5, va_rf (gR (sR (sR G a1 8 none) a1 7 none) a1 3)), (6, .int (gI (sR (sR G a1 8 none) a1 7 none) a1 2))]) (cat_R (cat_R (cat_R (cat_R (cat_R (cat_R cat_nil)))))) dJ21_treeify_56 (by decide) rfl [1, 2, 3, 4, 5, 6, 0] rfl ?_
      refine g_null dJ21_treeify_58 ?_
      refine s_astore (lv' := [(0, va_rf (some x)), (1, va_rf p1), (2, va_rf p2), (3, va_rf p3), (4, va_rf (gR G a1 5)), (5, va_rf (gR (sR (sR G a1 8 none) a1 7 none) a1 3)), (6, .int (gI (sR (sR G a1 8 none) a1 7 none) a1 2)), (7, va_rf none)]) (cat_R (cat_R (cat_R (cat_R (cat_R (cat_R (cat_I cat_nil))))))) dJ21_treeify_59 (by decide) rfl [1, 2, 3, 4, 5, 6, 7, 0] rfl ?_
      refine g_aload_n dJ21_treeify_61 rfl 2 rfl ?_
      refine s_astore (lv' := [(0, va_rf (some x)), (1, va_rf p1), (2, va_rf p2), (3, va_rf p3), (4, va_rf (gR G a1 5)), (5, va_rf (gR (sR (sR G a1 8 none) a1 7 none) a1 3)), (6, .int (gI (sR (sR G a1 8 none) a1 7 none) a1 2)), (7, va_rf none), (8, va_rf p2)]) (cat_R (cat_R (cat_R (cat_R (cat_R (cat_R (cat_I (cat_R cat_nil)))))))) dJ21_treeify_62 (by decide) rfl [1, 2, 3, 4, 5, 6, 7, 8, 0] rfl ?_
      exact F
    · have F := F.2 e9
      refine g_aload_n dJ21_treeify_31 rfl 3 rfl ?_
      refine g_null dJ21_treeify_32 ?_
      refine h_putR (mi := mJ21_treeify) 13 6 (C := RJ21) (T := TJ21) (N := 11) rfl in_J21 tyJ21_ok nmJ21 (by decide) q1006 (Or.inl rfl) (Or.inl rfl) rfl rfl e2 c5 m7 dJ21_treeify_33 ?_
      refine g_aload_n dJ21_treeify_36 rfl 3 rfl ?_
      refine g_iconst (v := 0) dJ21_treeify_37 (by decide) ?_
      refine h_putI (mi := mJ21_treeify) 13 10 (C := RJ21) (T := TJ21) (N := 11) rfl in_J21 tyJ21_ok nmJ21 (by decide) q1011 (Or.inl rfl) (Or.inl rfl) rfl e2 c5 m7 rfl rfl dJ21_treeify_38 ?_
      refine g_aload_n dJ21_treeify_41 rfl 3 rfl ?_
      refine s_astore_n (lv' := [(0, va_rf (some x)), (1, va_rf p1), (2, va_rf p3), (3, va_rf p3), (4, va_rf (gR G a1 5))]) (cat_R (cat_R (cat_R (cat_R (cat_R cat_nil))))) dJ21_treeify_42 rfl (by decide) rfl [1, 2, 0, 3, 4] rfl ?_
      refine g_goto 209 dJ21_treeify_43 (by decide) ?_
      refine g_aload dJ21_treeify_209 4 rfl ?_
      refine s_astore_n (lv' := [(0, va_rf (some x)), (1, va_rf p1), (2, va_rf p3), (3, va_rf (gR G a1 5)), (4, va_rf (gR G a1 5))]) (cat_R (cat_R (cat_R (cat_R (cat_R cat_nil))))) dJ21_treeify_211 rfl (by decide) rfl [1, 2, 3, 0, 4] rfl ?_
      refine g_goto 4 dJ21_treeify_212 (by decide) ?_
      refine GW.lsub (lv' := [(0, va_rf (some x)), (1, va_rf p1), (2, va_rf p3), (3, va_rf (gR G a1 5))]) [0, 1, 2, 3] rfl ?_
      exact F
theorem rJ21_treeify_64 {Γ : GE} {l : Launch} {h MC MS : Nat} {Q : Option Value → GH → Prop} {bc bs : Nat} {G : GH} (x : Nat) (p1 : Option Nat) (p2 : Option Nat) (p3 : Option Nat) (p4 : Option Nat) (p5 : Option Nat) (p6 : Int32) (p7 : Option Nat) (p8 : Option Nat) (F : (∃ a1, p8 = some a1 ∧ gC G a1 = kO 13 ∧ (((gI G a1 2) ≤ p6 → ((p6 ≤ (gI G a1 2) → ((∀ a4, p7 = some a4 → (GW Γ l mJ21_treeify h MC MS Q 119 [(0, va_rf (some x)), (1, va_rf p1), (2, va_rf p2), (3, va_rf p3), (4, va_rf p4), (5, va_rf p5), (6, .int p6), (7, va_rf p7), (8, va_rf p8), (10, .int (gI G a1 2)), (11, va_rf (gR G a1 3))] [] G bc bs)) ∧ (p7 = none → (cR Γ l h mJ11_comparableClassFor [va_rf p5] G bc bs fun r6 Gr6 br6 sr6 => ((r6 = none → (False)) ∧ (∀ a8, r6 = some a8 → (GW Γ l mJ21_treeify h MC MS Q 119 [(0, va_rf (some x)), (1, va_rf p1), (2, va_rf p2), (3, va_rf p3), (4, va_rf p4), (5, va_rf p5), (6, .int p6), (7, va_rf r6), (8, va_rf p8), (10, .int (gI G a1 2)), (11, va_rf (gR G a1 3))] [] Gr6 br6 sr6))))))) ∧ (¬ p6 ≤ (gI G a1 2) → (((0 : Int32) < (1 : Int32) → (GW Γ l mJ21_treeify h MC MS Q 165 [(0, va_rf (some x)), (1, va_rf p1), (2, va_rf p2), (3, va_rf p3), (4, va_rf p4), (5, va_rf p5), (6, .int p6), (7, va_rf p7), (8, va_rf p8), (9, .int 1), (10, .int (gI G a1 2)), (11, va_rf (gR G a1 3)), (12, va_rf p8)] [va_rf (gR G a1 8)] G bc bs)) ∧ (¬ (0 : Int32) < (1 : Int32) → (GW Γ l mJ21_treeify h MC MS Q 165 [(0, va_rf (some x)), (1, va_rf p1), (2, va_rf p2), (3, va_rf p3), (4, va_rf p4), (5, va_rf p5), (6, .int p6), (7, va_rf p7), (8, va_rf p8), (9, .int 1), (10, .int (gI G a1 2)), (11, va_rf (gR G a1 3)), (12, va_rf p8)] [va_rf (gR G a1 7)] G bc bs)))))) ∧ (¬ (gI G a1 2) ≤ p6 → (((0 : Int32) < (-1) → (GW Γ l mJ21_treeify h MC MS Q 165 [(0, va_rf (some x)), (1, va_rf p1), (2, va_rf p2), (3, va_rf p3), (4, va_rf p4), (5, va_rf p5), (6, .int p6), (7, va_rf p7), (8, va_rf p8), (9, .int (-1)), (10, .int (gI G a1 2)), (11, va_rf (gR G a1 3)), (12, va_rf p8)] [va_rf (gR G a1 8)] G bc bs)) ∧ (¬ (0 : Int32) < (-1) → (GW Γ l mJ21_treeify h MC MS Q 165 [(0, va_rf (some x)), (1, va_rf p1), (2, va_rf p2), (3, va_rf p3), (4, va_rf p4), (5, va_rf p5), (6, .int p6), (7, va_rf p7), (8, va_rf p8), (9, .int (-1)), (10, .int (gI G a1 2)), (11, va_rf (gR G a1 3)), (12, va_rf p8)] [va_rf (gR G a1 7)] G bc bs))))))) : GW Γ l mJ21_treeify h MC MS Q 64 [(0, va_rf (some x)), (1, va_rf p1), (2, va_rf p2), (3, va_rf p3), (4, va_rf p4), (5, va_rf p5), (6, .int p6), (7, va_rf p7), (8, va_rf p8)] [] G bc bs := by
  refine g_aload dJ21_treeify_64 8 rfl ?_
  obtain ⟨a1, e2, F⟩ := F
  obtain ⟨c3, F⟩ := F
  refine h_get (v := va_rf (gR G a1 3)) 13 3 (C := RJ21) (T := TJ21) (N := 11) rfl in_J21 (by decide) q707 (Or.inr q708) e2 c3 rfl dJ21_treeify_66 ?_
  refine s_astore (lv' := [(0, va_rf (some x)), (1, va_rf p1), (2, va_rf p2), (3, va_rf p3), (4, va_rf p4), (5, va_rf p5), (6, .int p6), (7, va_rf p7), (8, va_rf p8), (11, va_rf (gR G a1 3))]) (cat_R (cat_R (cat_R (cat_R (cat_R (cat_R (cat_I (cat_R (cat_R cat_nil))))))))) dJ21_treeify_69 (by decide) rfl [1, 2, 3, 4, 5, 6, 7, 8, 9, 0] rfl ?_
  refine g_aload dJ21_treeify_71 8 rfl ?_
  refine h_get (v := .int (gI G a1 2)) 13 2 (C := RJ21) (T := TJ21) (N := 11) rfl in_J21 (by decide) q703 (Or.inr q704) e2 c3 rfl dJ21_treeify_73 ?_
  refine g_dup dJ21_treeify_76 rfl ?_
  refine s_istore (lv' := [(0, va_rf (some x)), (1, va_rf p1), (2, va_rf p2), (3, va_rf p3), (4, va_rf p4), (5, va_rf p5), (6, .int p6), (7, va_rf p7), (8, va_rf p8), (10, .int (gI G a1 2)), (11, va_rf (gR G a1 3))]) (cat_R (cat_R (cat_R (cat_R (cat_R (cat_R (cat_I (cat_R (cat_R (cat_R cat_nil)))))))))) dJ21_treeify_77 (by decide) rfl [1, 2, 3, 4, 5, 6, 7, 8, 9, 0, 10] rfl ?_
  refine g_iload dJ21_treeify_79 6 rfl ?_
  refine g_icmp_le 90 dJ21_treeify_81 (by decide) (fun h13 => ?_) (fun h13 => ?_)
  · have F := F.1 h13
    refine g_iload dJ21_treeify_90 9 rfl ?_
    refine g_iload dJ21_treeify_92 6 rfl ?_
    refine g_icmp_ge 103 dJ21_treeify_94 (by decide) (fun h11 => ?_) (fun h11 => ?_)
    · have F := F.1 h11
      refine g_aload dJ21_treeify_103 7 rfl ?_
      refine g_ifnonnull 119 dJ21_treeify_105 (by decide) (fun a4 e5 => ?_) (fun e5 => ?_)
      · have F := F.1 a4 e5
        exact F
      · have F := F.2 e5
        refine g_aload dJ21_treeify_108 5 rfl ?_
        refine h_callSR (As := [va_rf p5]) (rest := []) F 1 rfl (lw_S q731 q732 q123 q733) vm_J11_comparableClassFor.2 (by decide) rfl (room_of sc_nil (Nat.le_of_ble_eq_true rfl)) dJ21_treeify_110 (fun r6 Gr6 br6 sr6 F => ?_)
        refine g_dup dJ21_treeify_113 (va_rf_cat _) ?_
        refine s_astore (lv' := [(0, va_rf (some x)), (1, va_rf p1), (2, va_rf p2), (3, va_rf p3), (4, va_rf p4), (5, va_rf p5), (6, .int p6), (7, va_rf r6), (8, va_rf p8), (10, .int (gI G a1 2)), (11, va_rf (gR G a1 3))]) (cat_R (cat_R (cat_R (cat_R (cat_R (cat_R (cat_I (cat_R (cat_R (cat_I (cat_R cat_nil))))))))))) dJ21_treeify_114 (by decide) rfl [1, 2, 3, 4, 5, 6, 7, 0, 8, 9, 10] rfl ?_
        refine g_ifnull 134 dJ21_treeify_116 (by decide) (fun e9 => ?_) (fun a8 e9 => ?_)
        · have F := F.1 e9
          refine g_aload dJ21_treeify_134 5 rfl ?_
          refine g_aload dJ21_treeify_136 10 rfl ?_
          exact F.elim
        · have F := F.2 a8 e9
          exact F
    · have F := F.2 h11
      refine g_iconst (v := 1) dJ21_treeify_97 (by decide) ?_
      refine s_istore (lv' := [(0, va_rf (some x)), (1, va_rf p1), (2, va_rf p2), (3, va_rf p3), (4, va_rf p4), (5, va_rf p5), (6, .int p6), (7, va_rf p7), (8, va_rf p8), (9, .int 1), (10, .int (gI G a1 2)), (11, va_rf (gR G a1 3))]) (cat_R (cat_R (cat_R (cat_R (cat_R (cat_R (cat_I (cat_R (cat_R (cat_I (cat_R cat_nil))))))))))) dJ21_treeify_98 (by decide) rfl [1, 2, 3, 4, 5, 6, 7, 8, 9, 0, 10, 11] rfl ?_
      refine g_goto 143 dJ21_treeify_100 (by decide) ?_
      refine g_aload dJ21_treeify_143 8 rfl ?_
      refine s_astore (lv' := [(0, va_rf (some x)), (1, va_rf p1), (2, va_rf p2), (3, va_rf p3), (4, va_rf p4), (5, va_rf p5), (6, .int p6), (7, va_rf p7), (8, va_rf p8), (9, .int 1), (10, .int (gI G a1 2)), (11, va_rf (gR G a1 3)), (12, va_rf p8)]) (cat_R (cat_R (cat_R (cat_R (cat_R (cat_R (cat_I (cat_R (cat_R (cat_I (cat_I (cat_R cat_nil)))))))))))) dJ21_treeify_145 (by decide) rfl [1, 2, 3, 4, 5, 6, 7, 8, 9, 10, 11, 12, 0] rfl ?_
      refine g_iload dJ21_treeify_147 9 rfl ?_
      refine g_if_gt 160 dJ21_treeify_149 (by decide) (fun h10 => ?_) (fun h10 => ?_)
      · have F := F.1 h10
        refine g_aload dJ21_treeify_160 8 rfl ?_
        refine h_get (v := va_rf (gR G a1 8)) 13 8 (C := RJ21) (T := TJ21) (N := 11) rfl in_J21 (by decide) q1008 (Or.inl rfl) e2 c3 rfl dJ21_treeify_162 ?_
        exact F
      · have F := F.2 h10
        refine g_aload dJ21_treeify_152 8 rfl ?_
        refine h_get (v := va_rf (gR G a1 7)) 13 7 (C := RJ21) (T := TJ21) (N := 11) rfl in_J21 (by decide) q1007 (Or.inl rfl) e2 c3 rfl dJ21_treeify_154 ?_
        refine g_goto 165 dJ21_treeify_157 (by decide) ?_
        exact F
  · have F := F.2 h13
    refine g_iconst (v := (-1)) dJ21_treeify_84 (by decide) ?_
    refine s_istore (lv' := [(0, va_rf (some x)), (1, va_rf p1), (2, va_rf p2), (3, va_rf p3), (4, va_rf p4), (5, va_rf p5), (6, .int p6), (7, va_rf p7), (8, va_rf p8), (9, .int (-1)), (10, .int (gI G a1 2)), (11, va_rf (gR G a1 3))]) (cat_R (cat_R (cat_R (cat_R (cat_R (cat_R (cat_I (cat_R (cat_R (cat_I (cat_R cat_nil))))))))))) dJ21_treeify_85 (by decide) rfl [1, 2, 3, 4, 5, 6, 7, 8, 9, 0, 10, 11] rfl ?_
    refine g_goto 143 dJ21_treeify_87 (by decide) ?_
    refine g_aload dJ21_treeify_143 8 rfl ?_
    refine s_astore (lv' := [(0, va_rf (some x)), (1, va_rf p1), (2, va_rf p2), (3, va_rf p3), (4, va_rf p4), (5, va_rf p5), (6, .int p6), (7, va_rf p7), (8, va_rf p8), (9, .int (-1)), (10, .int (gI G a1 2)), (11, va_rf (gR G a1 3)), (12, va_rf p8)]) (cat_R (cat_R (cat_R (cat_R (cat_R (cat_R (cat_I (cat_R (cat_R (cat_I (cat_I (cat_R cat_nil)))))))))))) dJ21_treeify_145 (by decide) rfl [1, 2, 3, 4, 5, 6, 7, 8, 9, 10, 11, 12, 0] rfl ?_
    refine g_iload dJ21_treeify_147 9 rfl ?_
    refine g_if_gt 160 dJ21_treeify_149 (by decide) (fun h12 => ?_) (fun h12 => ?_)
    · have F := F.1 h12
      refine g_aload dJ21_treeify_160 8 rfl ?_
      refine h_get (v := va_rf (gR G a1 8)) 13 8 (C := RJ21) (T := TJ21) (N := 11) rfl in_J21 (by decide) q1008 (Or.inl rfl) e2 c3 rfl dJ21_treeify_162 ?_
      exact F
    · have F := F.2 h12
      refine g_aload dJ21_treeify_152 8 rfl ?_
      refine h_get (v := va_rf (gR G a1 7)) 13 7 (C := RJ21) (T := TJ21) (N := 11) rfl in_J21 (by decide) q1007 (Or.inl rfl) e2 c3 rfl dJ21_treeify_154 ?_
      refine g_goto 165 dJ21_treeify_157 (by decide) ?_
      exact F
theorem rJ21_treeify_119 {Γ : GE} {l : Launch} {h MC MS : Nat} {Q : Option Value → GH → Prop} {bc bs : Nat} {G : GH} (x : Nat) (p1 : Option Nat) (p2 : Option Nat) (p3 : Option Nat) (p4 : Option Nat) (p5 : Option Nat) (p6 : Int32) (p7 : Option Nat) (p8 : Option Nat) (p10 : Int32) (p11 : Option Nat) (F : (cI Γ l h mJ11_compareComparables [va_rf p7, va_rf p5, va_rf p11] G bc bs fun r1 Gr1 br1 sr1 => ((¬ r1 = 0 → (((0 : Int32) < r1 → (∃ a3, p8 = some a3 ∧ gC Gr1 a3 = kO 13 ∧ GW Γ l mJ21_treeify h MC MS Q 165 [(0, va_rf (some x)), (1, va_rf p1), (2, va_rf p2), (3, va_rf p3), (4, va_rf p4), (5, va_rf p5), (6, .int p6), (7, va_rf p7), (8, va_rf p8), (9, .int r1), (10, .int p10), (11, va_rf p11), (12, va_rf p8)] [va_rf (gR Gr1 a3 8)] Gr1 br1 sr1)) ∧ (¬ (0 : Int32) < r1 → (∃ a6, p8 = some a6 ∧ gC Gr1 a6 = kO 13 ∧ GW Γ l mJ21_treeify h MC MS Q 165 [(0, va_rf (some x)), (1, va_rf p1), (2, va_rf p2), (3, va_rf p3), (4, va_rf p4), (5, va_rf p5), (6, .int p6), (7, va_rf p7), (8, va_rf p8), (9, .int r1), (10, .int p10), (11, va_rf p11), (12, va_rf p8)] [va_rf (gR Gr1 a6 7)] Gr1 br1 sr1)))) ∧ (r1 = 0 → (False))))) : GW Γ l mJ21_treeify h MC MS Q 119 [(0, va_rf (some x)), (1, va_rf p1), (2, va_rf p2), (3, va_rf p3), (4, va_rf p4), (5, va_rf p5), (6, .int p6), (7, va_rf p7), (8, va_rf p8), (10, .int p10), (11, va_rf p11)] [] G bc bs := by
  refine g_aload dJ21_treeify_119 7 rfl ?_
  refine g_aload dJ21_treeify_121 5 rfl ?_
  refine g_aload dJ21_treeify_123 10 rfl ?_
  refine h_callSI (As := [va_rf p7, va_rf p5, va_rf p11]) (rest := []) F 3 rfl (lw_S q737 q738 q123 q739) vm_J11_compareComparables.2 (by decide) rfl (room_of sc_nil (Nat.le_of_ble_eq_true rfl)) dJ21_treeify_125 (fun r1 Gr1 br1 sr1 F => ?_)
  refine g_dup dJ21_treeify_128 rfl ?_
  refine s_istore (lv' := [(0, va_rf (some x)), (1, va_rf p1), (2, va_rf p2), (3, va_rf p3), (4, va_rf p4), (5, va_rf p5), (6, .int p6), (7, va_rf p7), (8, va_rf p8), (9, .int r1), (10, .int p10), (11, va_rf p11)]) (cat_R (cat_R (cat_R (cat_R (cat_R (cat_R (cat_I (cat_R (cat_R (cat_I (cat_R cat_nil))))))))))) dJ21_treeify_129 (by decide) rfl [1, 2, 3, 4, 5, 6, 7, 8, 9, 0, 10, 11] rfl ?_
  refine g_if_ne 143 dJ21_treeify_131 (by decide) (fun h10 => ?_) (fun h10 => ?_)
  · have F := F.1 h10
    refine g_aload dJ21_treeify_143 8 rfl ?_
    refine s_astore (lv' := [(0, va_rf (some x)), (1, va_rf p1), (2, va_rf p2), (3, va_rf p3), (4, va_rf p4), (5, va_rf p5), (6, .int p6), (7, va_rf p7), (8, va_rf p8), (9, .int r1), (10, .int p10), (11, va_rf p11), (12, va_rf p8)]) (cat_R (cat_R (cat_R (cat_R (cat_R (cat_R (cat_I (cat_R (cat_R (cat_I (cat_I (cat_R cat_nil)))))))))))) dJ21_treeify_145 (by decide) rfl [1, 2, 3, 4, 5, 6, 7, 8, 9, 10, 11, 12, 0] rfl ?_
    refine g_iload dJ21_treeify_147 9 rfl ?_
    refine g_if_gt 160 dJ21_treeify_149 (by decide) (fun h9 => ?_) (fun h9 => ?_)
    · have F := F.1 h9
      refine g_aload dJ21_treeify_160 8 rfl ?_
      obtain ⟨a3, e4, F⟩ := F
      obtain ⟨c5, F⟩ := F
      refine h_get (v := va_rf (gR Gr1 a3 8)) 13 8 (C := RJ21) (T := TJ21) (N := 11) rfl in_J21 (by decide) q1008 (Or.inl rfl) e4 c5 rfl dJ21_treeify_162 ?_
      exact F
    · have F := F.2 h9
      refine g_aload dJ21_treeify_152 8 rfl ?_
      obtain ⟨a6, e7, F⟩ := F
      obtain ⟨c8, F⟩ := F
      refine h_get (v := va_rf (gR Gr1 a6 7)) 13 7 (C := RJ21) (T := TJ21) (N := 11) rfl in_J21 (by decide) q1007 (Or.inl rfl) e7 c8 rfl dJ21_treeify_154 ?_
      refine g_goto 165 dJ21_treeify_157 (by decide) ?_
      exact F
  · have F := F.2 h10
    refine g_aload dJ21_treeify_134 5 rfl ?_
    refine g_aload dJ21_treeify_136 11 rfl ?_
    exact F.elim
theorem rJ21_treeify_165 {Γ : GE} {l : Launch} {h MC MS : Nat} {Q : Option Value → GH → Prop} {bc bs : Nat} {G : GH} (x : Nat) (p1 : Option Nat) (p2 : Option Nat) (p3 : Option Nat) (p4 : Option Nat) (p5 : Option Nat) (p6 : Int32) (p7 : Option Nat) (p8 : Option Nat) (p9 : Int32) (p10 : Int32) (p11 : Option Nat) (p12 : Option Nat) (s0 : Option Nat) (F : ((∀ a1, s0 = some a1 → (GW Γ l mJ21_treeify h MC MS Q 64 [(0, va_rf (some x)), (1, va_rf p1), (2, va_rf p2), (3, va_rf p3), (4, va_rf p4), (5, va_rf p5), (6, .int p6), (7, va_rf p7), (8, va_rf s0)] [] G bc bs)) ∧ (s0 = none → (∃ a3, p3 = some a3 ∧ gC G a3 = kO 13 ∧ gM G a3 = true ∧ (((0 : Int32) < p9 → (∃ a7, p12 = some a7 ∧ gC (sR G a3 6 p12) a7 = kO 13 ∧ gM (sR G a3 6 p12) a7 = true ∧ cR Γ l h mJ21_balanceInsertion [va_rf p2, va_rf p3] (sR (sR G a3 6 p12) a7 8 p3) bc bs fun r11 Gr11 br11 sr11 => GW Γ l mJ21_treeify h MC MS Q 4 [(0, va_rf (some x)), (1, va_rf p1), (2, va_rf r11), (3, va_rf p4)] [] Gr11 br11 sr11)) ∧ (¬ (0 : Int32) < p9 → (∃ a13, p12 = some a13 ∧ gC (sR G a3 6 p12) a13 = kO 13 ∧ gM (sR G a3 6 p12) a13 = true ∧ cR Γ l h mJ21_balanceInsertion [va_rf p2, va_rf p3] (sR (sR G a3 6 p12) a13 7 p3) bc bs fun r17 Gr17 br17 sr17 => GW Γ l mJ21_treeify h MC MS Q 4 [(0, va_rf (some x)), (1, va_rf p1), (2, va_rf r17), (3, va_rf p4)] [] Gr17 br17 sr17))))))) : GW Γ l mJ21_treeify h MC MS Q 165 [(0, va_rf (some x)), (1, va_rf p1), (2, va_rf p2), (3, va_rf p3), (4, va_rf p4), (5, va_rf p5), (6, .int p6), (7, va_rf p7), (8, va_rf p8), (9, .int p9), (10, .int p10), (11, va_rf p11), (12, va_rf p12)] [va_rf s0] G bc bs := by
  refine g_dup dJ21_treeify_165 (va_rf_cat _) ?_
  refine s_astore (lv' := [(0, va_rf (some x)), (1, va_rf p1), (2, va_rf p2), (3, va_rf p3), (4, va_rf p4), (5, va_rf p5), (6, .int p6), (7, va_rf p7), (8, va_rf s0), (9, .int p9), (10, .int p10), (11, va_rf p11), (12, va_rf p12)]) (cat_R (cat_R (cat_R (cat_R (cat_R (cat_R (cat_I (cat_R (cat_R (cat_I (cat_I (cat_R (cat_R cat_nil))))))))))))) dJ21_treeify_166 (by decide) rfl [1, 2, 3, 4, 5, 6, 7, 8, 0, 9, 10, 11, 12] rfl ?_
  refine g_ifnonnull 206 dJ21_treeify_168 (by decide) (fun a1 e2 => ?_) (fun e2 => ?_)
  · have F := F.1 a1 e2
    refine g_goto 64 dJ21_treeify_206 (by decide) ?_
    refine GW.lsub (lv' := [(0, va_rf (some x)), (1, va_rf p1), (2, va_rf p2), (3, va_rf p3), (4, va_rf p4), (5, va_rf p5), (6, .int p6), (7, va_rf p7), (8, va_rf s0)]) [0, 1, 2, 3, 4, 5, 6, 7, 8] rfl ?_
    exact F
  · have F := F.2 e2
    refine g_aload_n dJ21_treeify_171 rfl 3 rfl ?_
    refine g_aload dJ21_treeify_172 12 rfl ?_
    obtain ⟨a3, e4, F⟩ := F
    obtain ⟨c5, F⟩ := F
    obtain ⟨m6, F⟩ := F
    refine h_putR (mi := mJ21_treeify) 13 6 (C := RJ21) (T := TJ21) (N := 11) rfl in_J21 tyJ21_ok nmJ21 (by decide) q1006 (Or.inl rfl) (Or.inl rfl) rfl rfl e4 c5 m6 dJ21_treeify_174 ?_
    refine g_iload dJ21_treeify_177 9 rfl ?_
    refine g_if_gt 191 dJ21_treeify_179 (by decide) (fun h19 => ?_) (fun h19 => ?_)
    · have F := F.1 h19
      refine g_aload dJ21_treeify_191 12 rfl ?_
      refine g_aload_n dJ21_treeify_193 rfl 3 rfl ?_
      obtain ⟨a7, e8, F⟩ := F
      obtain ⟨c9, F⟩ := F
      obtain ⟨m10, F⟩ := F
      refine h_putR (mi := mJ21_treeify) 13 8 (C := RJ21) (T := TJ21) (N := 11) rfl in_J21 tyJ21_ok nmJ21 (by decide) q1008 (Or.inl rfl) (Or.inl rfl) rfl rfl e8 c9 m10 dJ21_treeify_194 ?_
      refine g_aload_n dJ21_treeify_197 rfl 2 rfl ?_
      refine g_aload_n dJ21_treeify_198 rfl 3 rfl ?_
      refine h_callSR (As := [va_rf p2, va_rf p3]) (rest := []) F 2 rfl (lw_S q937 q938 q136 q939) vm_J21_balanceInsertion.2 (by decide) rfl (room_of sc_nil (Nat.le_of_ble_eq_true rfl)) dJ21_treeify_199 (fun r11 Gr11 br11 sr11 F => ?_)
      refine s_astore_n (lv' := [(0, va_rf (some x)), (1, va_rf p1), (2, va_rf r11), (3, va_rf p3), (4, va_rf p4), (5, va_rf p5), (6, .int p6), (7, va_rf p7), (8, va_rf s0), (9, .int p9), (10, .int p10), (11, va_rf p11), (12, va_rf p12)]) (cat_R (cat_R (cat_R (cat_R (cat_R (cat_R (cat_I (cat_R (cat_R (cat_I (cat_I (cat_R (cat_R cat_nil))))))))))))) dJ21_treeify_202 rfl (by decide) rfl [1, 2, 0, 3, 4, 5, 6, 7, 8, 9, 10, 11, 12] rfl ?_
      refine g_goto 209 dJ21_treeify_203 (by decide) ?_
      refine g_aload dJ21_treeify_209 4 rfl ?_
      refine s_astore_n (lv' := [(0, va_rf (some x)), (1, va_rf p1), (2, va_rf r11), (3, va_rf p4), (4, va_rf p4), (5, va_rf p5), (6, .int p6), (7, va_rf p7), (8, va_rf s0), (9, .int p9), (10, .int p10), (11, va_rf p11), (12, va_rf p12)]) (cat_R (cat_R (cat_R (cat_R (cat_R (cat_R (cat_I (cat_R (cat_R (cat_I (cat_I (cat_R (cat_R cat_nil))))))))))))) dJ21_treeify_211 rfl (by decide) rfl [1, 2, 3, 0, 4, 5, 6, 7, 8, 9, 10, 11, 12] rfl ?_
      refine g_goto 4 dJ21_treeify_212 (by decide) ?_
      refine GW.lsub (lv' := [(0, va_rf (some x)), (1, va_rf p1), (2, va_rf r11), (3, va_rf p4)]) [0, 1, 2, 3] rfl ?_
      exact F
    · have F := F.2 h19
      refine g_aload dJ21_treeify_182 12 rfl ?_
      refine g_aload_n dJ21_treeify_184 rfl 3 rfl ?_
      obtain ⟨a13, e14, F⟩ := F
      obtain ⟨c15, F⟩ := F
      obtain ⟨m16, F⟩ := F
      refine h_putR (mi := mJ21_treeify) 13 7 (C := RJ21) (T := TJ21) (N := 11) rfl in_J21 tyJ21_ok nmJ21 (by decide) q1007 (Or.inl rfl) (Or.inl rfl) rfl rfl e14 c15 m16 dJ21_treeify_185 ?_
      refine g_goto 197 dJ21_treeify_188 (by decide) ?_
      refine g_aload_n dJ21_treeify_197 rfl 2 rfl ?_
      refine g_aload_n dJ21_treeify_198 rfl 3 rfl ?_
      refine h_callSR (As := [va_rf p2, va_rf p3]) (rest := []) F 2 rfl (lw_S q937 q938 q136 q939) vm_J21_balanceInsertion.2 (by decide) rfl (room_of sc_nil (Nat.le_of_ble_eq_true rfl)) dJ21_treeify_199 (fun r17 Gr17 br17 sr17 F => ?_)
      refine s_astore_n (lv' := [(0, va_rf (some x)), (1, va_rf p1), (2, va_rf r17), (3, va_rf p3), (4, va_rf p4), (5, va_rf p5), (6, .int p6), (7, va_rf p7), (8, va_rf s0), (9, .int p9), (10, .int p10), (11, va_rf p11), (12, va_rf p12)]) (cat_R (cat_R (cat_R (cat_R (cat_R (cat_R (cat_I (cat_R (cat_R (cat_I (cat_I (cat_R (cat_R cat_nil))))))))))))) dJ21_treeify_202 rfl (by decide) rfl [1, 2, 0, 3, 4, 5, 6, 7, 8, 9, 10, 11, 12] rfl ?_
      refine g_goto 209 dJ21_treeify_203 (by decide) ?_
      refine g_aload dJ21_treeify_209 4 rfl ?_
      refine s_astore_n (lv' := [(0, va_rf (some x)), (1, va_rf p1), (2, va_rf r17), (3, va_rf p4), (4, va_rf p4), (5, va_rf p5), (6, .int p6), (7, va_rf p7), (8, va_rf s0), (9, .int p9), (10, .int p10), (11, va_rf p11), (12, va_rf p12)]) (cat_R (cat_R (cat_R (cat_R (cat_R (cat_R (cat_I (cat_R (cat_R (cat_I (cat_I (cat_R (cat_R cat_nil))))))))))))) dJ21_treeify_211 rfl (by decide) rfl [1, 2, 3, 0, 4, 5, 6, 7, 8, 9, 10, 11, 12] rfl ?_
      refine g_goto 4 dJ21_treeify_212 (by decide) ?_
      refine GW.lsub (lv' := [(0, va_rf (some x)), (1, va_rf p1), (2, va_rf r17), (3, va_rf p4)]) [0, 1, 2, 3] rfl ?_
      exact F
theorem rJ21_balanceInsertion_0 {Γ : GE} {l : Launch} {h MC MS : Nat} {Q : Option Value → GH → Prop} {bc bs : Nat} {G : GH} (p0 : Option Nat) (p1 : Option Nat) (F : (∃ a1, p1 = some a1 ∧ gC G a1 = kO 13 ∧ gM G a1 = true ∧ GW Γ l mJ21_balanceInsertion h MC MS Q 5 [(0, va_rf p0), (1, va_rf p1)] [] (sI G a1 10 1) bc bs)) : GW Γ l mJ21_balanceInsertion h MC MS Q 0 [(0, va_rf p0), (1, va_rf p1)] [] G bc bs := by
  refine g_aload_n dJ21_balanceInsertion_0 rfl 1 rfl ?_
  refine g_iconst (v := 1) dJ21_balanceInsertion_1 (by decide) ?_
  obtain ⟨a1, e2, F⟩ := F
  obtain ⟨c3, F⟩ := F
  obtain ⟨m4, F⟩ := F
  refine h_putI (mi := mJ21_balanceInsertion) 13 10 (C := RJ21) (T := TJ21) (N := 11) rfl in_J21 tyJ21_ok nmJ21 (by decide) q1011 (Or.inl rfl) (Or.inl rfl) rfl e2 c3 m4 rfl rfl dJ21_balanceInsertion_2 ?_
  exact F
theorem rJ21_balanceInsertion_5 {Γ : GE} {l : Launch} {h MC MS : Nat} {Q : Option Value → GH → Prop} {bc bs : Nat} {G : GH} (p0 : Option Nat) (p1 : Option Nat) (F : (∃ a1, p1 = some a1 ∧ gC G a1 = kO 13 ∧ ((∀ a4, (gR G a1 6) = some a4 → (gC G a4 = kO 13 ∧ (((gI G a4 10) = 0 → (Q (some (va_rf p0)) G)) ∧ (¬ (gI G a4 10) = 0 → ((∀ a7, (gR G a4 6) = some a7 → (gC G a7 = kO 13 ∧ ((¬ (gR G a1 6) = (gR G a7 7) → (((gR G a7 7) = none → (GW Γ l mJ21_balanceInsertion h MC MS Q 184 [(0, va_rf p0), (1, va_rf p1), (2, va_rf (gR G a1 6)), (3, va_rf (gR G a4 6)), (4, va_rf (gR G a7 7))] [] G bc bs)) ∧ (∀ a10, (gR G a7 7) = some a10 → (gC G a10 = kO 13 ∧ (((gI G a10 10) = 0 → (GW Γ l mJ21_balanceInsertion h MC MS Q 184 [(0, va_rf p0), (1, va_rf p1), (2, va_rf (gR G a1 6)), (3, va_rf (gR G a4 6)), (4, va_rf (gR G a7 7))] [] G bc bs)) ∧ (¬ (gI G a10 10) = 0 → (gM G a10 = true ∧ gM (sI G a10 10 0) a4 = true ∧ gM (sI (sI G a10 10 0) a4 10 0) a7 = true ∧ GW Γ l mJ21_balanceInsertion h MC MS Q 5 [(0, va_rf p0), (1, va_rf (gR G a4 6))] [] (sI (sI (sI G a10 10 0) a4 10 0) a7 10 1) bc bs))))))) ∧ ((gR G a1 6) = (gR G a7 7) → (((gR G a7 8) = none → (GW Γ l mJ21_balanceInsertion h MC MS Q 89 [(0, va_rf p0), (1, va_rf p1), (2, va_rf (gR G a1 6)), (3, va_rf (gR G a4 6)), (4, va_rf (gR G a7 7)), (5, va_rf (gR G a7 8))] [] G bc bs)) ∧ (∀ a17, (gR G a7 8) = some a17 → (gC G a17 = kO 13 ∧ (((gI G a17 10) = 0 → (GW Γ l mJ21_balanceInsertion h MC MS Q 89 [(0, va_rf p0), (1, va_rf p1), (2, va_rf (gR G a1 6)), (3, va_rf (gR G a4 6)), (4, va_rf (gR G a7 7)), (5, va_rf (gR G a7 8))] [] G bc bs)) ∧ (¬ (gI G a17 10) = 0 → (gM G a17 = true ∧ gM (sI G a17 10 0) a4 = true ∧ gM (sI (sI G a17 10 0) a4 10 0) a7 = true ∧ GW Γ l mJ21_balanceInsertion h MC MS Q 5 [(0, va_rf p0), (1, va_rf (gR G a4 6))] [] (sI (sI (sI G a17 10 0) a4 10 0) a7 10 1) bc bs)))))))))) ∧ ((gR G a4 6) = none → (Q (some (va_rf p0)) G))))))) ∧ ((gR G a1 6) = none → (gM G a1 = true ∧ Q (some (va_rf p1)) (sI G a1 10 0)))))) : GW Γ l mJ21_balanceInsertion h MC MS Q 5 [(0, va_rf p0), (1, va_rf p1)] [] G bc bs := by
  refine g_aload_n dJ21_balanceInsertion_5 rfl 1 rfl ?_
  obtain ⟨a1, e2, F⟩ := F
  obtain ⟨c3, F⟩ := F
  refine h_get (v := va_rf (gR G a1 6)) 13 6 (C := RJ21) (T := TJ21) (N := 11) rfl in_J21 (by decide) q1006 (Or.inl rfl) e2 c3 rfl dJ21_balanceInsertion_6 ?_
  refine g_dup dJ21_balanceInsertion_9 (va_rf_cat _) ?_
  refine s_astore_n (lv' := [(0, va_rf p0), (1, va_rf p1), (2, va_rf (gR G a1 6))]) (cat_R (cat_R cat_nil)) dJ21_balanceInsertion_10 rfl (by decide) rfl [1, 2, 0] rfl ?_
  refine g_ifnonnull 21 dJ21_balanceInsertion_11 (by decide) (fun a4 e5 => ?_) (fun e5 => ?_)
  · have F := F.1 a4 e5
    refine g_aload_n dJ21_balanceInsertion_21 rfl 2 rfl ?_
    obtain ⟨c6, F⟩ := F
    refine h_get (v := .int (gI G a4 10)) 13 10 (C := RJ21) (T := TJ21) (N := 11) rfl in_J21 (by decide) q1011 (Or.inl rfl) e5 c6 rfl dJ21_balanceInsertion_22 ?_
    refine g_if_eq 37 dJ21_balanceInsertion_25 (by decide) (fun h25 => ?_) (fun h25 => ?_)
    · have F := F.1 h25
      refine g_aload_n dJ21_balanceInsertion_37 rfl 0 rfl ?_
      exact g_aret (r := p0) rfl (Or.inl ⟨_, rfl⟩) dJ21_balanceInsertion_38 F
    · have F := F.2 h25
      refine g_aload_n dJ21_balanceInsertion_28 rfl 2 rfl ?_
      refine h_get (v := va_rf (gR G a4 6)) 13 6 (C := RJ21) (T := TJ21) (N := 11) rfl in_J21 (by decide) q1006 (Or.inl rfl) e5 c6 rfl dJ21_balanceInsertion_29 ?_
      refine g_dup dJ21_balanceInsertion_32 (va_rf_cat _) ?_
      refine s_astore_n (lv' := [(0, va_rf p0), (1, va_rf p1), (2, va_rf (gR G a1 6)), (3, va_rf (gR G a4 6))]) (cat_R (cat_R (cat_R cat_nil))) dJ21_balanceInsertion_33 rfl (by decide) rfl [1, 2, 3, 0] rfl ?_
      refine g_ifnonnull 39 dJ21_balanceInsertion_34 (by decide) (fun a7 e8 => ?_) (fun e8 => ?_)
      · have F := F.1 a7 e8
        refine g_aload_n dJ21_balanceInsertion_39 rfl 2 rfl ?_
        refine g_aload_n dJ21_balanceInsertion_40 rfl 3 rfl ?_
        obtain ⟨c9, F⟩ := F
        refine h_get (v := va_rf (gR G a7 7)) 13 7 (C := RJ21) (T := TJ21) (N := 11) rfl in_J21 (by decide) q1007 (Or.inl rfl) e8 c9 rfl dJ21_balanceInsertion_41 ?_
        refine g_dup dJ21_balanceInsertion_44 (va_rf_cat _) ?_
        refine s_astore (lv' := [(0, va_rf p0), (1, va_rf p1), (2, va_rf (gR G a1 6)), (3, va_rf (gR G a4 6)), (4, va_rf (gR G a7 7))]) (cat_R (cat_R (cat_R (cat_R cat_nil)))) dJ21_balanceInsertion_45 (by decide) rfl [1, 2, 3, 4, 0] rfl ?_
        refine g_acmp_ne 150 dJ21_balanceInsertion_47 (by decide) (fun h24 => ?_) (fun h24 => ?_)
        · have F := F.1 h24
          refine g_aload dJ21_balanceInsertion_150 4 rfl ?_
          refine g_ifnull 184 dJ21_balanceInsertion_152 (by decide) (fun e11 => ?_) (fun a10 e11 => ?_)
          · have F := F.1 e11
            exact F
          · have F := F.2 a10 e11
            refine g_aload dJ21_balanceInsertion_155 4 rfl ?_
            obtain ⟨c12, F⟩ := F
            refine h_get (v := .int (gI G a10 10)) 13 10 (C := RJ21) (T := TJ21) (N := 11) rfl in_J21 (by decide) q1011 (Or.inl rfl) e11 c12 rfl dJ21_balanceInsertion_157 ?_
            refine g_if_eq 184 dJ21_balanceInsertion_160 (by decide) (fun h16 => ?_) (fun h16 => ?_)
            · have F := F.1 h16
              exact F
            · have F := F.2 h16
              refine g_aload dJ21_balanceInsertion_163 4 rfl ?_
              refine g_iconst (v := 0) dJ21_balanceInsertion_165 (by decide) ?_
              obtain ⟨m13, F⟩ := F
              refine h_putI (mi := mJ21_balanceInsertion) 13 10 (C := RJ21) (T := TJ21) (N := 11) rfl in_J21 tyJ21_ok nmJ21 (by decide) q1011 (Or.inl rfl) (Or.inl rfl) rfl e11 c12 m13 rfl rfl dJ21_balanceInsertion_166 ?_
              refine g_aload_n dJ21_balanceInsertion_169 rfl 2 rfl ?_
              refine g_iconst (v := 0) dJ21_balanceInsertion_170 (by decide) ?_
              obtain ⟨m14, F⟩ := F
              refine h_putI (mi := mJ21_balanceInsertion) 13 10 (C := RJ21) (T := TJ21) (N := 11) rfl in_J21 tyJ21_ok nmJ21 (by decide) q1011 (Or.inl rfl) (Or.inl rfl) rfl e5 c6 m14 rfl rfl dJ21_balanceInsertion_171 ?_
              refine g_aload_n dJ21_balanceInsertion_174 rfl 3 rfl ?_
              refine g_iconst (v := 1) dJ21_balanceInsertion_175 (by decide) ?_
              obtain ⟨m15, F⟩ := F
              refine h_putI (mi := mJ21_balanceInsertion) 13 10 (C := RJ21) (T := TJ21) (N := 11) rfl in_J21 tyJ21_ok nmJ21 (by decide) q1011 (Or.inl rfl) (Or.inl rfl) rfl e8 c9 m15 rfl rfl dJ21_balanceInsertion_176 ?_
              refine g_aload_n dJ21_balanceInsertion_179 rfl 3 rfl ?_
              refine s_astore_n (lv' := [(0, va_rf p0), (1, va_rf (gR G a4 6)), (2, va_rf (gR G a1 6)), (3, va_rf (gR G a4 6)), (4, va_rf (gR G a7 7))]) (cat_R (cat_R (cat_R (cat_R (cat_R cat_nil))))) dJ21_balanceInsertion_180 rfl (by decide) rfl [1, 0, 2, 3, 4] rfl ?_
              refine g_goto 5 dJ21_balanceInsertion_181 (by decide) ?_
              refine GW.lsub (lv' := [(0, va_rf p0), (1, va_rf (gR G a4 6))]) [0, 1] rfl ?_
              exact F
        · have F := F.2 h24
          refine g_aload_n dJ21_balanceInsertion_50 rfl 3 rfl ?_
          refine h_get (v := va_rf (gR G a7 8)) 13 8 (C := RJ21) (T := TJ21) (N := 11) rfl in_J21 (by decide) q1008 (Or.inl rfl) e8 c9 rfl dJ21_balanceInsertion_51 ?_
          refine g_dup dJ21_balanceInsertion_54 (va_rf_cat _) ?_
          refine s_astore (lv' := [(0, va_rf p0), (1, va_rf p1), (2, va_rf (gR G a1 6)), (3, va_rf (gR G a4 6)), (4, va_rf (gR G a7 7)), (5, va_rf (gR G a7 8))]) (cat_R (cat_R (cat_R (cat_R (cat_R cat_nil))))) dJ21_balanceInsertion_55 (by decide) rfl [1, 2, 3, 4, 5, 0] rfl ?_
          refine g_ifnull 89 dJ21_balanceInsertion_57 (by decide) (fun e18 => ?_) (fun a17 e18 => ?_)
          · have F := F.1 e18
            exact F
          · have F := F.2 a17 e18
            refine g_aload dJ21_balanceInsertion_60 5 rfl ?_
            obtain ⟨c19, F⟩ := F
            refine h_get (v := .int (gI G a17 10)) 13 10 (C := RJ21) (T := TJ21) (N := 11) rfl in_J21 (by decide) q1011 (Or.inl rfl) e18 c19 rfl dJ21_balanceInsertion_62 ?_
            refine g_if_eq 89 dJ21_balanceInsertion_65 (by decide) (fun h23 => ?_) (fun h23 => ?_)
            · have F := F.1 h23
              exact F
            · have F := F.2 h23
              refine g_aload dJ21_balanceInsertion_68 5 rfl ?_
              refine g_iconst (v := 0) dJ21_balanceInsertion_70 (by decide) ?_
              obtain ⟨m20, F⟩ := F
              refine h_putI (mi := mJ21_balanceInsertion) 13 10 (C := RJ21) (T := TJ21) (N := 11) rfl in_J21 tyJ21_ok nmJ21 (by decide) q1011 (Or.inl rfl) (Or.inl rfl) rfl e18 c19 m20 rfl rfl dJ21_balanceInsertion_71 ?_
              refine g_aload_n dJ21_balanceInsertion_74 rfl 2 rfl ?_
              refine g_iconst (v := 0) dJ21_balanceInsertion_75 (by decide) ?_
              obtain ⟨m21, F⟩ := F
              refine h_putI (mi := mJ21_balanceInsertion) 13 10 (C := RJ21) (T := TJ21) (N := 11) rfl in_J21 tyJ21_ok nmJ21 (by decide) q1011 (Or.inl rfl) (Or.inl rfl) rfl e5 c6 m21 rfl rfl dJ21_balanceInsertion_76 ?_
              refine g_aload_n dJ21_balanceInsertion_79 rfl 3 rfl ?_
              refine g_iconst (v := 1) dJ21_balanceInsertion_80 (by decide) ?_
              obtain ⟨m22, F⟩ := F
              refine h_putI (mi := mJ21_balanceInsertion) 13 10 (C := RJ21) (T := TJ21) (N := 11) rfl in_J21 tyJ21_ok nmJ21 (by decide) q1011 (Or.inl rfl) (Or.inl rfl) rfl e8 c9 m22 rfl rfl dJ21_balanceInsertion_81 ?_
              refine g_aload_n dJ21_balanceInsertion_84 rfl 3 rfl ?_
              refine s_astore_n (lv' := [(0, va_rf p0), (1, va_rf (gR G a4 6)), (2, va_rf (gR G a1 6)), (3, va_rf (gR G a4 6)), (4, va_rf (gR G a7 7)), (5, va_rf (gR G a7 8))]) (cat_R (cat_R (cat_R (cat_R (cat_R (cat_R cat_nil)))))) dJ21_balanceInsertion_85 rfl (by decide) rfl [1, 0, 2, 3, 4, 5] rfl ?_
              refine g_goto 5 dJ21_balanceInsertion_86 (by decide) ?_
              refine GW.lsub (lv' := [(0, va_rf p0), (1, va_rf (gR G a4 6))]) [0, 1] rfl ?_
              exact F
      · have F := F.2 e8
        refine g_aload_n dJ21_balanceInsertion_37 rfl 0 rfl ?_
        exact g_aret (r := p0) rfl (Or.inl ⟨_, rfl⟩) dJ21_balanceInsertion_38 F
  · have F := F.2 e5
    refine g_aload_n dJ21_balanceInsertion_14 rfl 1 rfl ?_
    refine g_iconst (v := 0) dJ21_balanceInsertion_15 (by decide) ?_
    obtain ⟨m26, F⟩ := F
    refine h_putI (mi := mJ21_balanceInsertion) 13 10 (C := RJ21) (T := TJ21) (N := 11) rfl in_J21 tyJ21_ok nmJ21 (by decide) q1011 (Or.inl rfl) (Or.inl rfl) rfl e2 c3 m26 rfl rfl dJ21_balanceInsertion_16 ?_
    refine g_aload_n dJ21_balanceInsertion_19 rfl 1 rfl ?_
    exact g_aret (r := p1) rfl (Or.inl ⟨_, rfl⟩) dJ21_balanceInsertion_20 F
theorem rJ21_balanceInsertion_89 {Γ : GE} {l : Launch} {h MC MS : Nat} {Q : Option Value → GH → Prop} {bc bs : Nat} {G : GH} (p0 : Option Nat) (p1 : Option Nat) (p2 : Option Nat) (p3 : Option Nat) (p4 : Option Nat) (p5 : Option Nat) (F : (∃ a1, p2 = some a1 ∧ gC G a1 = kO 13 ∧ ((¬ p1 = (gR G a1 8) → (GW Γ l mJ21_balanceInsertion h MC MS Q 123 [(0, va_rf p0), (1, va_rf p1), (2, va_rf p2), (3, va_rf p3), (4, va_rf p4), (5, va_rf p5)] [] G bc bs)) ∧ (p1 = (gR G a1 8) → (cR Γ l h mJ21_rotateLeft [va_rf p0, va_rf p2] G bc bs fun r4 Gr4 br4 sr4 => gC Gr4 a1 = kO 13 ∧ ((∀ a7, (gR Gr4 a1 6) = some a7 → (gC Gr4 a7 = kO 13 ∧ GW Γ l mJ21_balanceInsertion h MC MS Q 123 [(0, va_rf r4), (1, va_rf p2), (2, va_rf (gR Gr4 a1 6)), (3, va_rf (gR Gr4 a7 6)), (4, va_rf p4), (5, va_rf p5)] [] Gr4 br4 sr4)) ∧ ((gR Gr4 a1 6) = none → (GW Γ l mJ21_balanceInsertion h MC MS Q 123 [(0, va_rf r4), (1, va_rf p2), (2, va_rf (gR Gr4 a1 6)), (3, va_rf none), (4, va_rf p4), (5, va_rf p5)] [] Gr4 br4 sr4)))))))) : GW Γ l mJ21_balanceInsertion h MC MS Q 89 [(0, va_rf p0), (1, va_rf p1), (2, va_rf p2), (3, va_rf p3), (4, va_rf p4), (5, va_rf p5)] [] G bc bs := by
  refine g_aload_n dJ21_balanceInsertion_89 rfl 1 rfl ?_
  refine g_aload_n dJ21_balanceInsertion_90 rfl 2 rfl ?_
  obtain ⟨a1, e2, F⟩ := F
  obtain ⟨c3, F⟩ := F
  refine h_get (v := va_rf (gR G a1 8)) 13 8 (C := RJ21) (T := TJ21) (N := 11) rfl in_J21 (by decide) q1008 (Or.inl rfl) e2 c3 rfl dJ21_balanceInsertion_91 ?_
  refine g_acmp_ne 123 dJ21_balanceInsertion_94 (by decide) (fun h10 => ?_) (fun h10 => ?_)
  · have F := F.1 h10
    exact F
  · have F := F.2 h10
    refine g_aload_n dJ21_balanceInsertion_97 rfl 0 rfl ?_
    refine g_aload_n dJ21_balanceInsertion_98 rfl 2 rfl ?_
    refine g_dup dJ21_balanceInsertion_99 (va_rf_cat _) ?_
    refine s_astore_n (lv' := [(0, va_rf p0), (1, va_rf p2), (2, va_rf p2), (3, va_rf p3), (4, va_rf p4), (5, va_rf p5)]) (cat_R (cat_R (cat_R (cat_R (cat_R (cat_R cat_nil)))))) dJ21_balanceInsertion_100 rfl (by decide) rfl [1, 0, 2, 3, 4, 5] rfl ?_
    refine h_callSR (As := [va_rf p0, va_rf p2]) (rest := []) F 2 rfl (lw_S q940 q941 q136 q942) vm_J21_rotateLeft.2 (by decide) rfl (room_of sc_nil (Nat.le_of_ble_eq_true rfl)) dJ21_balanceInsertion_101 (fun r4 Gr4 br4 sr4 F => ?_)
    refine s_astore_n (lv' := [(0, va_rf r4), (1, va_rf p2), (2, va_rf p2), (3, va_rf p3), (4, va_rf p4), (5, va_rf p5)]) (cat_R (cat_R (cat_R (cat_R (cat_R (cat_R cat_nil)))))) dJ21_balanceInsertion_104 rfl (by decide) rfl [0, 1, 2, 3, 4, 5] rfl ?_
    refine g_aload_n dJ21_balanceInsertion_105 rfl 1 rfl ?_
    obtain ⟨c6, F⟩ := F
    refine h_get (v := va_rf (gR Gr4 a1 6)) 13 6 (C := RJ21) (T := TJ21) (N := 11) rfl in_J21 (by decide) q1006 (Or.inl rfl) e2 c6 rfl dJ21_balanceInsertion_106 ?_
    refine g_dup dJ21_balanceInsertion_109 (va_rf_cat _) ?_
    refine s_astore_n (lv' := [(0, va_rf r4), (1, va_rf p2), (2, va_rf (gR Gr4 a1 6)), (3, va_rf p3), (4, va_rf p4), (5, va_rf p5)]) (cat_R (cat_R (cat_R (cat_R (cat_R (cat_R cat_nil)))))) dJ21_balanceInsertion_110 rfl (by decide) rfl [1, 2, 0, 3, 4, 5] rfl ?_
    refine g_ifnonnull 118 dJ21_balanceInsertion_111 (by decide) (fun a7 e8 => ?_) (fun e8 => ?_)
    · have F := F.1 a7 e8
      refine g_aload_n dJ21_balanceInsertion_118 rfl 2 rfl ?_
      obtain ⟨c9, F⟩ := F
      refine h_get (v := va_rf (gR Gr4 a7 6)) 13 6 (C := RJ21) (T := TJ21) (N := 11) rfl in_J21 (by decide) q1006 (Or.inl rfl) e8 c9 rfl dJ21_balanceInsertion_119 ?_
      refine s_astore_n (lv' := [(0, va_rf r4), (1, va_rf p2), (2, va_rf (gR Gr4 a1 6)), (3, va_rf (gR Gr4 a7 6)), (4, va_rf p4), (5, va_rf p5)]) (cat_R (cat_R (cat_R (cat_R (cat_R (cat_R cat_nil)))))) dJ21_balanceInsertion_122 rfl (by decide) rfl [1, 2, 3, 0, 4, 5] rfl ?_
      exact F
    · have F := F.2 e8
      refine g_null dJ21_balanceInsertion_114 ?_
      refine g_goto 122 dJ21_balanceInsertion_115 (by decide) ?_
      refine s_astore_n (lv' := [(0, va_rf r4), (1, va_rf p2), (2, va_rf (gR Gr4 a1 6)), (3, va_rf none), (4, va_rf p4), (5, va_rf p5)]) (cat_R (cat_R (cat_R (cat_R (cat_R (cat_R cat_nil)))))) dJ21_balanceInsertion_122 rfl (by decide) rfl [1, 2, 3, 0, 4, 5] rfl ?_
      exact F
theorem rJ21_balanceInsertion_123 {Γ : GE} {l : Launch} {h MC MS : Nat} {Q : Option Value → GH → Prop} {bc bs : Nat} {G : GH} (p0 : Option Nat) (p1 : Option Nat) (p2 : Option Nat) (p3 : Option Nat) (p4 : Option Nat) (p5 : Option Nat) (F : ((p2 = none → (GW Γ l mJ21_balanceInsertion h MC MS Q 5 [(0, va_rf p0), (1, va_rf p1)] [] G bc bs)) ∧ (∀ a1, p2 = some a1 → (gC G a1 = kO 13 ∧ gM G a1 = true ∧ ((p3 = none → (GW Γ l mJ21_balanceInsertion h MC MS Q 5 [(0, va_rf p0), (1, va_rf p1)] [] (sI G a1 10 0) bc bs)) ∧ (∀ a5, p3 = some a5 → (gC (sI G a1 10 0) a5 = kO 13 ∧ gM (sI G a1 10 0) a5 = true ∧ cR Γ l h mJ21_rotateRight [va_rf p0, va_rf p3] (sI (sI G a1 10 0) a5 10 1) bc bs fun r9 Gr9 br9 sr9 => GW Γ l mJ21_balanceInsertion h MC MS Q 5 [(0, va_rf r9), (1, va_rf p1)] [] Gr9 br9 sr9))))))) : GW Γ l mJ21_balanceInsertion h MC MS Q 123 [(0, va_rf p0), (1, va_rf p1), (2, va_rf p2), (3, va_rf p3), (4, va_rf p4), (5, va_rf p5)] [] G bc bs := by
  refine g_aload_n dJ21_balanceInsertion_123 rfl 2 rfl ?_
  refine g_ifnull 5 dJ21_balanceInsertion_124 (by decide) (fun e2 => ?_) (fun a1 e2 => ?_)
  · have F := F.1 e2
    refine GW.lsub (lv' := [(0, va_rf p0), (1, va_rf p1)]) [0, 1] rfl ?_
    exact F
  · have F := F.2 a1 e2
    refine g_aload_n dJ21_balanceInsertion_127 rfl 2 rfl ?_
    refine g_iconst (v := 0) dJ21_balanceInsertion_128 (by decide) ?_
    obtain ⟨c3, F⟩ := F
    obtain ⟨m4, F⟩ := F
    refine h_putI (mi := mJ21_balanceInsertion) 13 10 (C := RJ21) (T := TJ21) (N := 11) rfl in_J21 tyJ21_ok nmJ21 (by decide) q1011 (Or.inl rfl) (Or.inl rfl) rfl e2 c3 m4 rfl rfl dJ21_balanceInsertion_129 ?_
    refine g_aload_n dJ21_balanceInsertion_132 rfl 3 rfl ?_
    refine g_ifnull 5 dJ21_balanceInsertion_133 (by decide) (fun e6 => ?_) (fun a5 e6 => ?_)
    · have F := F.1 e6
      refine GW.lsub (lv' := [(0, va_rf p0), (1, va_rf p1)]) [0, 1] rfl ?_
      exact F
    · have F := F.2 a5 e6
      refine g_aload_n dJ21_balanceInsertion_136 rfl 3 rfl ?_
      refine g_iconst (v := 1) dJ21_balanceInsertion_137 (by decide) ?_
      obtain ⟨c7, F⟩ := F
      obtain ⟨m8, F⟩ := F
      refine h_putI (mi := mJ21_balanceInsertion) 13 10 (C := RJ21) (T := TJ21) (N := 11) rfl in_J21 tyJ21_ok nmJ21 (by decide) q1011 (Or.inl rfl) (Or.inl rfl) rfl e6 c7 m8 rfl rfl dJ21_balanceInsertion_138 ?_
      refine g_aload_n dJ21_balanceInsertion_141 rfl 0 rfl ?_
      refine g_aload_n dJ21_balanceInsertion_142 rfl 3 rfl ?_
      refine h_callSR (As := [va_rf p0, va_rf p3]) (rest := []) F 2 rfl (lw_S q943 q944 q136 q945) vm_J21_rotateRight.2 (by decide) rfl (room_of sc_nil (Nat.le_of_ble_eq_true rfl)) dJ21_balanceInsertion_143 (fun r9 Gr9 br9 sr9 F => ?_)
      refine s_astore_n (lv' := [(0, va_rf r9), (1, va_rf p1), (2, va_rf p2), (3, va_rf p3), (4, va_rf p4), (5, va_rf p5)]) (cat_R (cat_R (cat_R (cat_R (cat_R (cat_R cat_nil)))))) dJ21_balanceInsertion_146 rfl (by decide) rfl [0, 1, 2, 3, 4, 5] rfl ?_
      refine g_goto 5 dJ21_balanceInsertion_147 (by decide) ?_
      refine GW.lsub (lv' := [(0, va_rf r9), (1, va_rf p1)]) [0, 1] rfl ?_
      exact F
theorem rJ21_balanceInsertion_184 {Γ : GE} {l : Launch} {h MC MS : Nat} {Q : Option Value → GH → Prop} {bc bs : Nat} {G : GH} (p0 : Option Nat) (p1 : Option Nat) (p2 : Option Nat) (p3 : Option Nat) (p4 : Option Nat) (F : (∃ a1, p2 = some a1 ∧ gC G a1 = kO 13 ∧ ((¬ p1 = (gR G a1 7) → (GW Γ l mJ21_balanceInsertion h MC MS Q 218 [(0, va_rf p0), (1, va_rf p1), (2, va_rf p2), (3, va_rf p3), (4, va_rf p4)] [] G bc bs)) ∧ (p1 = (gR G a1 7) → (cR Γ l h mJ21_rotateRight [va_rf p0, va_rf p2] G bc bs fun r4 Gr4 br4 sr4 => gC Gr4 a1 = kO 13 ∧ ((∀ a7, (gR Gr4 a1 6) = some a7 → (gC Gr4 a7 = kO 13 ∧ GW Γ l mJ21_balanceInsertion h MC MS Q 218 [(0, va_rf r4), (1, va_rf p2), (2, va_rf (gR Gr4 a1 6)), (3, va_rf (gR Gr4 a7 6)), (4, va_rf p4)] [] Gr4 br4 sr4)) ∧ ((gR Gr4 a1 6) = none → (GW Γ l mJ21_balanceInsertion h MC MS Q 218 [(0, va_rf r4), (1, va_rf p2), (2, va_rf (gR Gr4 a1 6)), (3, va_rf none), (4, va_rf p4)] [] Gr4 br4 sr4)))))))) : GW Γ l mJ21_balanceInsertion h MC MS Q 184 [(0, va_rf p0), (1, va_rf p1), (2, va_rf p2), (3, va_rf p3), (4, va_rf p4)] [] G bc bs := by
  refine g_aload_n dJ21_balanceInsertion_184 rfl 1 rfl ?_
  refine g_aload_n dJ21_balanceInsertion_185 rfl 2 rfl ?_
  obtain ⟨a1, e2, F⟩ := F
  obtain ⟨c3, F⟩ := F
  refine h_get (v := va_rf (gR G a1 7)) 13 7 (C := RJ21) (T := TJ21) (N := 11) rfl in_J21 (by decide) q1007 (Or.inl rfl) e2 c3 rfl dJ21_balanceInsertion_186 ?_
  refine g_acmp_ne 218 dJ21_balanceInsertion_189 (by decide) (fun h10 => ?_) (fun h10 => ?_)
  · have F := F.1 h10
    exact F
  · have F := F.2 h10
    refine g_aload_n dJ21_balanceInsertion_192 rfl 0 rfl ?_
    refine g_aload_n dJ21_balanceInsertion_193 rfl 2 rfl ?_
    refine g_dup dJ21_balanceInsertion_194 (va_rf_cat _) ?_
    refine s_astore_n (lv' := [(0, va_rf p0), (1, va_rf p2), (2, va_rf p2), (3, va_rf p3), (4, va_rf p4)]) (cat_R (cat_R (cat_R (cat_R (cat_R cat_nil))))) dJ21_balanceInsertion_195 rfl (by decide) rfl [1, 0, 2, 3, 4] rfl ?_
    refine h_callSR (As := [va_rf p0, va_rf p2]) (rest := []) F 2 rfl (lw_S q943 q944 q136 q945) vm_J21_rotateRight.2 (by decide) rfl (room_of sc_nil (Nat.le_of_ble_eq_true rfl)) dJ21_balanceInsertion_196 (fun r4 Gr4 br4 sr4 F => ?_)
    refine s_astore_n (lv' := [(0, va_rf r4), (1, va_rf p2), (2, va_rf p2), (3, va_rf p3), (4, va_rf p4)]) (cat_R (cat_R (cat_R (cat_R (cat_R cat_nil))))) dJ21_balanceInsertion_199 rfl (by decide) rfl [0, 1, 2, 3, 4] rfl ?_
    refine g_aload_n dJ21_balanceInsertion_200 rfl 1 rfl ?_
    obtain ⟨c6, F⟩ := F
    refine h_get (v := va_rf (gR Gr4 a1 6)) 13 6 (C := RJ21) (T := TJ21) (N := 11) rfl in_J21 (by decide) q1006 (Or.inl rfl) e2 c6 rfl dJ21_balanceInsertion_201 ?_
    refine g_dup dJ21_balanceInsertion_204 (va_rf_cat _) ?_
    refine s_astore_n (lv' := [(0, va_rf r4), (1, va_rf p2), (2, va_rf (gR Gr4 a1 6)), (3, va_rf p3), (4, va_rf p4)]) (cat_R (cat_R (cat_R (cat_R (cat_R cat_nil))))) dJ21_balanceInsertion_205 rfl (by decide) rfl [1, 2, 0, 3, 4] rfl ?_
    refine g_ifnonnull 213 dJ21_balanceInsertion_206 (by decide) (fun a7 e8 => ?_) (fun e8 => ?_)
    · have F := F.1 a7 e8
      refine g_aload_n dJ21_balanceInsertion_213 rfl 2 rfl ?_
      obtain ⟨c9, F⟩ := F
      refine h_get (v := va_rf (gR Gr4 a7 6)) 13 6 (C := RJ21) (T := TJ21) (N := 11) rfl in_J21 (by decide) q1006 (Or.inl rfl) e8 c9 rfl dJ21_balanceInsertion_214 ?_
      refine s_astore_n (lv' := [(0, va_rf r4), (1, va_rf p2), (2, va_rf (gR Gr4 a1 6)), (3, va_rf (gR Gr4 a7 6)), (4, va_rf p4)]) (cat_R (cat_R (cat_R (cat_R (cat_R cat_nil))))) dJ21_balanceInsertion_217 rfl (by decide) rfl [1, 2, 3, 0, 4] rfl ?_
      exact F
    · have F := F.2 e8
      refine g_null dJ21_balanceInsertion_209 ?_
      refine g_goto 217 dJ21_balanceInsertion_210 (by decide) ?_
      refine s_astore_n (lv' := [(0, va_rf r4), (1, va_rf p2), (2, va_rf (gR Gr4 a1 6)), (3, va_rf none), (4, va_rf p4)]) (cat_R (cat_R (cat_R (cat_R (cat_R cat_nil))))) dJ21_balanceInsertion_217 rfl (by decide) rfl [1, 2, 3, 0, 4] rfl ?_
      exact F
theorem rJ21_balanceInsertion_218 {Γ : GE} {l : Launch} {h MC MS : Nat} {Q : Option Value → GH → Prop} {bc bs : Nat} {G : GH} (p0 : Option Nat) (p1 : Option Nat) (p2 : Option Nat) (p3 : Option Nat) (p4 : Option Nat) (F : ((p2 = none → (GW Γ l mJ21_balanceInsertion h MC MS Q 5 [(0, va_rf p0), (1, va_rf p1)] [] G bc bs)) ∧ (∀ a1, p2 = some a1 → (gC G a1 = kO 13 ∧ gM G a1 = true ∧ ((p3 = none → (GW Γ l mJ21_balanceInsertion h MC MS Q 5 [(0, va_rf p0), (1, va_rf p1)] [] (sI G a1 10 0) bc bs)) ∧ (∀ a5, p3 = some a5 → (gC (sI G a1 10 0) a5 = kO 13 ∧ gM (sI G a1 10 0) a5 = true ∧ cR Γ l h mJ21_rotateLeft [va_rf p0, va_rf p3] (sI (sI G a1 10 0) a5 10 1) bc bs fun r9 Gr9 br9 sr9 => GW Γ l mJ21_balanceInsertion h MC MS Q 5 [(0, va_rf r9), (1, va_rf p1)] [] Gr9 br9 sr9))))))) : GW Γ l mJ21_balanceInsertion h MC MS Q 218 [(0, va_rf p0), (1, va_rf p1), (2, va_rf p2), (3, va_rf p3), (4, va_rf p4)] [] G bc bs := by
  refine g_aload_n dJ21_balanceInsertion_218 rfl 2 rfl ?_
  refine g_ifnull 5 dJ21_balanceInsertion_219 (by decide) (fun e2 => ?_) (fun a1 e2 => ?_)
  · have F := F.1 e2
    refine GW.lsub (lv' := [(0, va_rf p0), (1, va_rf p1)]) [0, 1] rfl ?_
    exact F
  · have F := F.2 a1 e2
    refine g_aload_n dJ21_balanceInsertion_222 rfl 2 rfl ?_
    refine g_iconst (v := 0) dJ21_balanceInsertion_223 (by decide) ?_
    obtain ⟨c3, F⟩ := F
    obtain ⟨m4, F⟩ := F
    refine h_putI (mi := mJ21_balanceInsertion) 13 10 (C := RJ21) (T := TJ21) (N := 11) rfl in_J21 tyJ21_ok nmJ21 (by decide) q1011 (Or.inl rfl) (Or.inl rfl) rfl e2 c3 m4 rfl rfl dJ21_balanceInsertion_224 ?_
    refine g_aload_n dJ21_balanceInsertion_227 rfl 3 rfl ?_
    refine g_ifnull 5 dJ21_balanceInsertion_228 (by decide) (fun e6 => ?_) (fun a5 e6 => ?_)
    · have F := F.1 e6
      refine GW.lsub (lv' := [(0, va_rf p0), (1, va_rf p1)]) [0, 1] rfl ?_
      exact F
    · have F := F.2 a5 e6
      refine g_aload_n dJ21_balanceInsertion_231 rfl 3 rfl ?_
      refine g_iconst (v := 1) dJ21_balanceInsertion_232 (by decide) ?_
      obtain ⟨c7, F⟩ := F
      obtain ⟨m8, F⟩ := F
      refine h_putI (mi := mJ21_balanceInsertion) 13 10 (C := RJ21) (T := TJ21) (N := 11) rfl in_J21 tyJ21_ok nmJ21 (by decide) q1011 (Or.inl rfl) (Or.inl rfl) rfl e6 c7 m8 rfl rfl dJ21_balanceInsertion_233 ?_
      refine g_aload_n dJ21_balanceInsertion_236 rfl 0 rfl ?_
      refine g_aload_n dJ21_balanceInsertion_237 rfl 3 rfl ?_
      refine h_callSR (As := [va_rf p0, va_rf p3]) (rest := []) F 2 rfl (lw_S q940 q941 q136 q942) vm_J21_rotateLeft.2 (by decide) rfl (room_of sc_nil (Nat.le_of_ble_eq_true rfl)) dJ21_balanceInsertion_238 (fun r9 Gr9 br9 sr9 F => ?_)
      refine s_astore_n (lv' := [(0, va_rf r9), (1, va_rf p1), (2, va_rf p2), (3, va_rf p3), (4, va_rf p4)]) (cat_R (cat_R (cat_R (cat_R (cat_R cat_nil))))) dJ21_balanceInsertion_241 rfl (by decide) rfl [0, 1, 2, 3, 4] rfl ?_
      refine g_goto 5 dJ21_balanceInsertion_242 (by decide) ?_
      refine GW.lsub (lv' := [(0, va_rf r9), (1, va_rf p1)]) [0, 1] rfl ?_
      exact F
theorem rJ21_rotateLeft_0 {Γ : GE} {l : Launch} {h MC MS : Nat} {Q : Option Value → GH → Prop} {bc bs : Nat} {G : GH} (p0 : Option Nat) (p1 : Option Nat) (F : ((p1 = none → (Q (some (va_rf p0)) G)) ∧ (∀ a1, p1 = some a1 → (gC G a1 = kO 13 ∧ (((gR G a1 8) = none → (Q (some (va_rf p0)) G)) ∧ (∀ a4, (gR G a1 8) = some a4 → (gC G a4 = kO 13 ∧ gM G a1 = true ∧ (((gR G a4 7) = none → (GW Γ l mJ21_rotateLeft h MC MS Q 34 [(0, va_rf p0), (1, va_rf p1), (2, va_rf (gR G a1 8)), (4, va_rf (gR G a4 7))] [] (sR G a1 8 (gR G a4 7)) bc bs)) ∧ (∀ a8, (gR G a4 7) = some a8 → (gC (sR G a1 8 (gR G a4 7)) a8 = kO 13 ∧ gM (sR G a1 8 (gR G a4 7)) a8 = true ∧ GW Γ l mJ21_rotateLeft h MC MS Q 34 [(0, va_rf p0), (1, va_rf p1), (2, va_rf (gR G a1 8)), (4, va_rf (gR G a4 7))] [] (sR (sR G a1 8 (gR G a4 7)) a8 6 p1) bc bs)))))))))) : GW Γ l mJ21_rotateLeft h MC MS Q 0 [(0, va_rf p0), (1, va_rf p1)] [] G bc bs := by
  refine g_aload_n dJ21_rotateLeft_0 rfl 1 rfl ?_
  refine g_ifnull 89 dJ21_rotateLeft_1 (by decide) (fun e2 => ?_) (fun a1 e2 => ?_)
  · have F := F.1 e2
    refine g_aload_n dJ21_rotateLeft_89 rfl 0 rfl ?_
    exact g_aret (r := p0) rfl (Or.inl ⟨_, rfl⟩) dJ21_rotateLeft_90 F
  · have F := F.2 a1 e2
    refine g_aload_n dJ21_rotateLeft_4 rfl 1 rfl ?_
    obtain ⟨c3, F⟩ := F
    refine h_get (v := va_rf (gR G a1 8)) 13 8 (C := RJ21) (T := TJ21) (N := 11) rfl in_J21 (by decide) q1008 (Or.inl rfl) e2 c3 rfl dJ21_rotateLeft_5 ?_
    refine g_dup dJ21_rotateLeft_8 (va_rf_cat _) ?_
    refine s_astore_n (lv' := [(0, va_rf p0), (1, va_rf p1), (2, va_rf (gR G a1 8))]) (cat_R (cat_R cat_nil)) dJ21_rotateLeft_9 rfl (by decide) rfl [1, 2, 0] rfl ?_
    refine g_ifnull 89 dJ21_rotateLeft_10 (by decide) (fun e5 => ?_) (fun a4 e5 => ?_)
    · have F := F.1 e5
      refine g_aload_n dJ21_rotateLeft_89 rfl 0 rfl ?_
      exact g_aret (r := p0) rfl (Or.inl ⟨_, rfl⟩) dJ21_rotateLeft_90 F
    · have F := F.2 a4 e5
      refine g_aload_n dJ21_rotateLeft_13 rfl 1 rfl ?_
      refine g_aload_n dJ21_rotateLeft_14 rfl 2 rfl ?_
      obtain ⟨c6, F⟩ := F
      refine h_get (v := va_rf (gR G a4 7)) 13 7 (C := RJ21) (T := TJ21) (N := 11) rfl in_J21 (by decide) q1007 (Or.inl rfl) e5 c6 rfl dJ21_rotateLeft_15 ?_
      refine g_dup_x1 dJ21_rotateLeft_18 (va_rf_cat _) (va_rf_cat _) ?_
      obtain ⟨m7, F⟩ := F
      refine h_putR (mi := mJ21_rotateLeft) 13 8 (C := RJ21) (T := TJ21) (N := 11) rfl in_J21 tyJ21_ok nmJ21 (by decide) q1008 (Or.inl rfl) (Or.inl rfl) rfl rfl e2 c3 m7 dJ21_rotateLeft_19 ?_
      refine g_dup dJ21_rotateLeft_22 (va_rf_cat _) ?_
      refine s_astore (lv' := [(0, va_rf p0), (1, va_rf p1), (2, va_rf (gR G a1 8)), (4, va_rf (gR G a4 7))]) (cat_R (cat_R (cat_R cat_nil))) dJ21_rotateLeft_23 (by decide) rfl [1, 2, 3, 0] rfl ?_
      refine g_ifnull 34 dJ21_rotateLeft_25 (by decide) (fun e9 => ?_) (fun a8 e9 => ?_)
      · have F := F.1 e9
        exact F
      · have F := F.2 a8 e9
        refine g_aload dJ21_rotateLeft_28 3 rfl ?_
        refine g_aload_n dJ21_rotateLeft_30 rfl 1 rfl ?_
        obtain ⟨c10, F⟩ := F
        obtain ⟨m11, F⟩ := F
        refine h_putR (mi := mJ21_rotateLeft) 13 6 (C := RJ21) (T := TJ21) (N := 11) rfl in_J21 tyJ21_ok nmJ21 (by decide) q1006 (Or.inl rfl) (Or.inl rfl) rfl rfl e9 c10 m11 dJ21_rotateLeft_31 ?_
        exact F
theorem rJ21_rotateLeft_34 {Γ : GE} {l : Launch} {h MC MS : Nat} {Q : Option Value → GH → Prop} {bc bs : Nat} {G : GH} (p0 : Option Nat) (p1 : Option Nat) (p2 : Option Nat) (p4 : Option Nat) (F : (∃ a1, p1 = some a1 ∧ gC G a1 = kO 13 ∧ ∃ a4, p2 = some a4 ∧ gC G a4 = kO 13 ∧ gM G a4 = true ∧ ((∀ a8, (gR G a1 6) = some a8 → (gC (sR G a4 6 (gR G a1 6)) a8 = kO 13 ∧ ((¬ (gR (sR G a4 6 (gR G a1 6)) a8 7) = p1 → (gM (sR G a4 6 (gR G a1 6)) a8 = true ∧ gM (sR (sR (sR G a4 6 (gR G a1 6)) a8 8 p2) a4 7 p1) a1 = true ∧ Q (some (va_rf p0)) (sR (sR (sR (sR G a4 6 (gR G a1 6)) a8 8 p2) a4 7 p1) a1 6 p2))) ∧ ((gR (sR G a4 6 (gR G a1 6)) a8 7) = p1 → (gM (sR G a4 6 (gR G a1 6)) a8 = true ∧ gM (sR (sR (sR G a4 6 (gR G a1 6)) a8 7 p2) a4 7 p1) a1 = true ∧ Q (some (va_rf p0)) (sR (sR (sR (sR G a4 6 (gR G a1 6)) a8 7 p2) a4 7 p1) a1 6 p2)))))) ∧ ((gR G a1 6) = none → (gM (sR (sI (sR G a4 6 (gR G a1 6)) a4 10 0) a4 7 p1) a1 = true ∧ Q (some (va_rf p2)) (sR (sR (sI (sR G a4 6 (gR G a1 6)) a4 10 0) a4 7 p1) a1 6 p2)))))) : GW Γ l mJ21_rotateLeft h MC MS Q 34 [(0, va_rf p0), (1, va_rf p1), (2, va_rf p2), (4, va_rf p4)] [] G bc bs := by
  refine g_aload_n dJ21_rotateLeft_34 rfl 2 rfl ?_
  refine g_aload_n dJ21_rotateLeft_35 rfl 1 rfl ?_
  obtain ⟨a1, e2, F⟩ := F
  obtain ⟨c3, F⟩ := F
  refine h_get (v := va_rf (gR G a1 6)) 13 6 (C := RJ21) (T := TJ21) (N := 11) rfl in_J21 (by decide) q1006 (Or.inl rfl) e2 c3 rfl dJ21_rotateLeft_36 ?_
  refine g_dup_x1 dJ21_rotateLeft_39 (va_rf_cat _) (va_rf_cat _) ?_
  obtain ⟨a4, e5, F⟩ := F
  obtain ⟨c6, F⟩ := F
  obtain ⟨m7, F⟩ := F
  refine h_putR (mi := mJ21_rotateLeft) 13 6 (C := RJ21) (T := TJ21) (N := 11) rfl in_J21 tyJ21_ok nmJ21 (by decide) q1006 (Or.inl rfl) (Or.inl rfl) rfl rfl e5 c6 m7 dJ21_rotateLeft_40 ?_
  refine g_dup dJ21_rotateLeft_43 (va_rf_cat _) ?_
  refine s_astore_n (lv' := [(0, va_rf p0), (1, va_rf p1), (2, va_rf p2), (3, va_rf (gR G a1 6)), (4, va_rf p4)]) (cat_R (cat_R (cat_R (cat_R cat_nil)))) dJ21_rotateLeft_44 rfl (by decide) rfl [1, 2, 3, 0, 4] rfl ?_
  refine g_ifnonnull 58 dJ21_rotateLeft_45 (by decide) (fun a8 e9 => ?_) (fun e9 => ?_)
  · have F := F.1 a8 e9
    refine g_aload_n dJ21_rotateLeft_58 rfl 3 rfl ?_
    obtain ⟨c10, F⟩ := F
    refine h_get (v := va_rf (gR (sR G a4 6 (gR G a1 6)) a8 7)) 13 7 (C := RJ21) (T := TJ21) (N := 11) rfl in_J21 (by decide) q1007 (Or.inl rfl) e9 c10 rfl dJ21_rotateLeft_59 ?_
    refine g_aload_n dJ21_rotateLeft_62 rfl 1 rfl ?_
    refine g_acmp_ne 74 dJ21_rotateLeft_63 (by decide) (fun h15 => ?_) (fun h15 => ?_)
    · have F := F.1 h15
      refine g_aload_n dJ21_rotateLeft_74 rfl 3 rfl ?_
      refine g_aload_n dJ21_rotateLeft_75 rfl 2 rfl ?_
      obtain ⟨m11, F⟩ := F
      refine h_putR (mi := mJ21_rotateLeft) 13 8 (C := RJ21) (T := TJ21) (N := 11) rfl in_J21 tyJ21_ok nmJ21 (by decide) q1008 (Or.inl rfl) (Or.inl rfl) rfl rfl e9 c10 m11 dJ21_rotateLeft_76 ?_
      refine g_aload_n dJ21_rotateLeft_79 rfl 2 rfl ?_
      refine g_aload_n dJ21_rotateLeft_80 rfl 1 rfl ?_
      refine h_putR (mi := mJ21_rotateLeft) 13 7 (C := RJ21) (T := TJ21) (N := 11) rfl in_J21 tyJ21_ok nmJ21 (by decide) q1007 (Or.inl rfl) (Or.inl rfl) rfl rfl e5 c6 m7 dJ21_rotateLeft_81 ?_
      refine g_aload_n dJ21_rotateLeft_84 rfl 1 rfl ?_
      refine g_aload_n dJ21_rotateLeft_85 rfl 2 rfl ?_
      obtain ⟨m12, F⟩ := F
      refine h_putR (mi := mJ21_rotateLeft) 13 6 (C := RJ21) (T := TJ21) (N := 11) rfl in_J21 tyJ21_ok nmJ21 (by decide) q1006 (Or.inl rfl) (Or.inl rfl) rfl rfl e2 c3 m12 dJ21_rotateLeft_86 ?_
      refine g_aload_n dJ21_rotateLeft_89 rfl 0 rfl ?_
      exact g_aret (r := p0) rfl (Or.inl ⟨_, rfl⟩) dJ21_rotateLeft_90 F
    · have F := F.2 h15
      refine g_aload_n dJ21_rotateLeft_66 rfl 3 rfl ?_
      refine g_aload_n dJ21_rotateLeft_67 rfl 2 rfl ?_
      obtain ⟨m13, F⟩ := F
      refine h_putR (mi := mJ21_rotateLeft) 13 7 (C := RJ21) (T := TJ21) (N := 11) rfl in_J21 tyJ21_ok nmJ21 (by decide) q1007 (Or.inl rfl) (Or.inl rfl) rfl rfl e9 c10 m13 dJ21_rotateLeft_68 ?_
      refine g_goto 79 dJ21_rotateLeft_71 (by decide) ?_
      refine g_aload_n dJ21_rotateLeft_79 rfl 2 rfl ?_
      refine g_aload_n dJ21_rotateLeft_80 rfl 1 rfl ?_
      refine h_putR (mi := mJ21_rotateLeft) 13 7 (C := RJ21) (T := TJ21) (N := 11) rfl in_J21 tyJ21_ok nmJ21 (by decide) q1007 (Or.inl rfl) (Or.inl rfl) rfl rfl e5 c6 m7 dJ21_rotateLeft_81 ?_
      refine g_aload_n dJ21_rotateLeft_84 rfl 1 rfl ?_
      refine g_aload_n dJ21_rotateLeft_85 rfl 2 rfl ?_
      obtain ⟨m14, F⟩ := F
      refine h_putR (mi := mJ21_rotateLeft) 13 6 (C := RJ21) (T := TJ21) (N := 11) rfl in_J21 tyJ21_ok nmJ21 (by decide) q1006 (Or.inl rfl) (Or.inl rfl) rfl rfl e2 c3 m14 dJ21_rotateLeft_86 ?_
      refine g_aload_n dJ21_rotateLeft_89 rfl 0 rfl ?_
      exact g_aret (r := p0) rfl (Or.inl ⟨_, rfl⟩) dJ21_rotateLeft_90 F
  · have F := F.2 e9
    refine g_aload_n dJ21_rotateLeft_48 rfl 2 rfl ?_
    refine g_dup dJ21_rotateLeft_49 (va_rf_cat _) ?_
    refine s_astore_n (lv' := [(0, va_rf p2), (1, va_rf p1), (2, va_rf p2), (3, va_rf (gR G a1 6)), (4, va_rf p4)]) (cat_R (cat_R (cat_R (cat_R (cat_R cat_nil))))) dJ21_rotateLeft_50 rfl (by decide) rfl [0, 1, 2, 3, 4] rfl ?_
    refine g_iconst (v := 0) dJ21_rotateLeft_51 (by decide) ?_
    refine h_putI (mi := mJ21_rotateLeft) 13 10 (C := RJ21) (T := TJ21) (N := 11) rfl in_J21 tyJ21_ok nmJ21 (by decide) q1011 (Or.inl rfl) (Or.inl rfl) rfl e5 c6 m7 rfl rfl dJ21_rotateLeft_52 ?_
    refine g_goto 79 dJ21_rotateLeft_55 (by decide) ?_
    refine g_aload_n dJ21_rotateLeft_79 rfl 2 rfl ?_
    refine g_aload_n dJ21_rotateLeft_80 rfl 1 rfl ?_
    refine h_putR (mi := mJ21_rotateLeft) 13 7 (C := RJ21) (T := TJ21) (N := 11) rfl in_J21 tyJ21_ok nmJ21 (by decide) q1007 (Or.inl rfl) (Or.inl rfl) rfl rfl e5 c6 m7 dJ21_rotateLeft_81 ?_
    refine g_aload_n dJ21_rotateLeft_84 rfl 1 rfl ?_
    refine g_aload_n dJ21_rotateLeft_85 rfl 2 rfl ?_
    obtain ⟨m16, F⟩ := F
    refine h_putR (mi := mJ21_rotateLeft) 13 6 (C := RJ21) (T := TJ21) (N := 11) rfl in_J21 tyJ21_ok nmJ21 (by decide) q1006 (Or.inl rfl) (Or.inl rfl) rfl rfl e2 c3 m16 dJ21_rotateLeft_86 ?_
    refine g_aload_n dJ21_rotateLeft_89 rfl 0 rfl ?_
    exact g_aret (r := p2) rfl (Or.inl ⟨_, rfl⟩) dJ21_rotateLeft_90 F
theorem rJ21_rotateRight_0 {Γ : GE} {l : Launch} {h MC MS : Nat} {Q : Option Value → GH → Prop} {bc bs : Nat} {G : GH} (p0 : Option Nat) (p1 : Option Nat) (F : ((p1 = none → (Q (some (va_rf p0)) G)) ∧ (∀ a1, p1 = some a1 → (gC G a1 = kO 13 ∧ (((gR G a1 7) = none → (Q (some (va_rf p0)) G)) ∧ (∀ a4, (gR G a1 7) = some a4 → (gC G a4 = kO 13 ∧ gM G a1 = true ∧ (((gR G a4 8) = none → (GW Γ l mJ21_rotateRight h MC MS Q 34 [(0, va_rf p0), (1, va_rf p1), (2, va_rf (gR G a1 7)), (4, va_rf (gR G a4 8))] [] (sR G a1 7 (gR G a4 8)) bc bs)) ∧ (∀ a8, (gR G a4 8) = some a8 → (gC (sR G a1 7 (gR G a4 8)) a8 = kO 13 ∧ gM (sR G a1 7 (gR G a4 8)) a8 = true ∧ GW Γ l mJ21_rotateRight h MC MS Q 34 [(0, va_rf p0), (1, va_rf p1), (2, va_rf (gR G a1 7)), (4, va_rf (gR G a4 8))] [] (sR (sR G a1 7 (gR G a4 8)) a8 6 p1) bc bs)))))))))) : GW Γ l mJ21_rotateRight h MC MS Q 0 [(0, va_rf p0), (1, va_rf p1)] [] G bc bs := by
  refine g_aload_n dJ21_rotateRight_0 rfl 1 rfl ?_
  refine g_ifnull 89 dJ21_rotateRight_1 (by decide) (fun e2 => ?_) (fun a1 e2 => ?_)
  · have F := F.1 e2
    refine g_aload_n dJ21_rotateRight_89 rfl 0 rfl ?_
    exact g_aret (r := p0) rfl (Or.inl ⟨_, rfl⟩) dJ21_rotateRight_90 F
  · have F := F.2 a1 e2
    refine g_aload_n dJ21_rotateRight_4 rfl 1 rfl ?_
    obtain ⟨c3, F⟩ := F
    refine h_get (v := va_rf (gR G a1 7)) 13 7 (C := RJ21) (T := TJ21) (N := 11) rfl in_J21 (by decide) q1007 (Or.inl rfl) e2 c3 rfl dJ21_rotateRight_5 ?_
    refine g_dup dJ21_rotateRight_8 (va_rf_cat _) ?_
    refine s_astore_n (lv' := [(0, va_rf p0), (1, va_rf p1), (2, va_rf (gR G a1 7))]) (cat_R (cat_R cat_nil)) dJ21_rotateRight_9 rfl (by decide) rfl [1, 2, 0] rfl ?_
    refine g_ifnull 89 dJ21_rotateRight_10 (by decide) (fun e5 => ?_) (fun a4 e5 => ?_)
    · have F := F.1 e5
      refine g_aload_n dJ21_rotateRight_89 rfl 0 rfl ?_
      exact g_aret (r := p0) rfl (Or.inl ⟨_, rfl⟩) dJ21_rotateRight_90 F
    · have F := F.2 a4 e5
      refine g_aload_n dJ21_rotateRight_13 rfl 1 rfl ?_
      refine g_aload_n dJ21_rotateRight_14 rfl 2 rfl ?_
      obtain ⟨c6, F⟩ := F
      refine h_get (v := va_rf (gR G a4 8)) 13 8 (C := RJ21) (T := TJ21) (N := 11) rfl in_J21 (by decide) q1008 (Or.inl rfl) e5 c6 rfl dJ21_rotateRight_15 ?_
      refine g_dup_x1 dJ21_rotateRight_18 (va_rf_cat _) (va_rf_cat _) ?_
      obtain ⟨m7, F⟩ := F
      refine h_putR (mi := mJ21_rotateRight) 13 7 (C := RJ21) (T := TJ21) (N := 11) rfl in_J21 tyJ21_ok nmJ21 (by decide) q1007 (Or.inl rfl) (Or.inl rfl) rfl rfl e2 c3 m7 dJ21_rotateRight_19 ?_
      refine g_dup dJ21_rotateRight_22 (va_rf_cat _) ?_
      refine s_astore (lv' := [(0, va_rf p0), (1, va_rf p1), (2, va_rf (gR G a1 7)), (4, va_rf (gR G a4 8))]) (cat_R (cat_R (cat_R cat_nil))) dJ21_rotateRight_23 (by decide) rfl [1, 2, 3, 0] rfl ?_
      refine g_ifnull 34 dJ21_rotateRight_25 (by decide) (fun e9 => ?_) (fun a8 e9 => ?_)
      · have F := F.1 e9
        exact F
      · have F := F.2 a8 e9
        refine g_aload dJ21_rotateRight_28 3 rfl ?_
        refine g_aload_n dJ21_rotateRight_30 rfl 1 rfl ?_
        obtain ⟨c10, F⟩ := F
        obtain ⟨m11, F⟩ := F
        refine h_putR (mi := mJ21_rotateRight) 13 6 (C := RJ21) (T := TJ21) (N := 11) rfl in_J21 tyJ21_ok nmJ21 (by decide) q1006 (Or.inl rfl) (Or.inl rfl) rfl rfl e9 c10 m11 dJ21_rotateRight_31 ?_
        exact F
theorem rJ21_rotateRight_34 {Γ : GE} {l : Launch} {h MC MS : Nat} {Q : Option Value → GH → Prop} {bc bs : Nat} {G : GH} (p0 : Option Nat) (p1 : Option Nat) (p2 : Option Nat) (p4 : Option Nat) (F : (∃ a1, p1 = some a1 ∧ gC G a1 = kO 13 ∧ ∃ a4, p2 = some a4 ∧ gC G a4 = kO 13 ∧ gM G a4 = true ∧ ((∀ a8, (gR G a1 6) = some a8 → (gC (sR G a4 6 (gR G a1 6)) a8 = kO 13 ∧ ((¬ (gR (sR G a4 6 (gR G a1 6)) a8 8) = p1 → (gM (sR G a4 6 (gR G a1 6)) a8 = true ∧ gM (sR (sR (sR G a4 6 (gR G a1 6)) a8 7 p2) a4 8 p1) a1 = true ∧ Q (some (va_rf p0)) (sR (sR (sR (sR G a4 6 (gR G a1 6)) a8 7 p2) a4 8 p1) a1 6 p2))) ∧ ((gR (sR G a4 6 (gR G a1 6)) a8 8) = p1 → (gM (sR G a4 6 (gR G a1 6)) a8 = true ∧ gM (sR (sR (sR G a4 6 (gR G a1 6)) a8 8 p2) a4 8 p1) a1 = true ∧ Q (some (va_rf p0)) (sR (sR (sR (sR G a4 6 (gR G a1 6)) a8 8 p2) a4 8 p1) a1 6 p2)))))) ∧ ((gR G a1 6) = none → (gM (sR (sI (sR G a4 6 (gR G a1 6)) a4 10 0) a4 8 p1) a1 = true ∧ Q (some (va_rf p2)) (sR (sR (sI (sR G a4 6 (gR G a1 6)) a4 10 0) a4 8 p1) a1 6 p2)))))) : GW Γ l mJ21_rotateRight h MC MS Q 34 [(0, va_rf p0), (1, va_rf p1), (2, va_rf p2), (4, va_rf p4)] [] G bc bs := by
  refine g_aload_n dJ21_rotateRight_34 rfl 2 rfl ?_
  refine g_aload_n dJ21_rotateRight_35 rfl 1 rfl ?_
  obtain ⟨a1, e2, F⟩ := F
  obtain ⟨c3, F⟩ := F
  refine h_get (v := va_rf (gR G a1 6)) 13 6 (C := RJ21) (T := TJ21) (N := 11) rfl in_J21 (by decide) q1006 (Or.inl rfl) e2 c3 rfl dJ21_rotateRight_36 ?_
  refine g_dup_x1 dJ21_rotateRight_39 (va_rf_cat _) (va_rf_cat _) ?_
  obtain ⟨a4, e5, F⟩ := F
  obtain ⟨c6, F⟩ := F
  obtain ⟨m7, F⟩ := F
  refine h_putR (mi := mJ21_rotateRight) 13 6 (C := RJ21) (T := TJ21) (N := 11) rfl in_J21 tyJ21_ok nmJ21 (by decide) q1006 (Or.inl rfl) (Or.inl rfl) rfl rfl e5 c6 m7 dJ21_rotateRight_40 ?_
  refine g_dup dJ21_rotateRight_43 (va_rf_cat _) ?_
  refine s_astore_n (lv' := [(0, va_rf p0), (1, va_rf p1), (2, va_rf p2), (3, va_rf (gR G a1 6)), (4, va_rf p4)]) (cat_R (cat_R (cat_R (cat_R cat_nil)))) dJ21_rotateRight_44 rfl (by decide) rfl [1, 2, 3, 0, 4] rfl ?_
  refine g_ifnonnull 58 dJ21_rotateRight_45 (by decide) (fun a8 e9 => ?_) (fun e9 => ?_)
  · have F := F.1 a8 e9
    refine g_aload_n dJ21_rotateRight_58 rfl 3 rfl ?_
    obtain ⟨c10, F⟩ := F
    refine h_get (v := va_rf (gR (sR G a4 6 (gR G a1 6)) a8 8)) 13 8 (C := RJ21) (T := TJ21) (N := 11) rfl in_J21 (by decide) q1008 (Or.inl rfl) e9 c10 rfl dJ21_rotateRight_59 ?_
    refine g_aload_n dJ21_rotateRight_62 rfl 1 rfl ?_
    refine g_acmp_ne 74 dJ21_rotateRight_63 (by decide) (fun h15 => ?_) (fun h15 => ?_)
    · have F := F.1 h15
      refine g_aload_n dJ21_rotateRight_74 rfl 3 rfl ?_
      refine g_aload_n dJ21_rotateRight_75 rfl 2 rfl ?_
      obtain ⟨m11, F⟩ := F
      refine h_putR (mi := mJ21_rotateRight) 13 7 (C := RJ21) (T := TJ21) (N := 11) rfl in_J21 tyJ21_ok nmJ21 (by decide) q1007 (Or.inl rfl) (Or.inl rfl) rfl rfl e9 c10 m11 dJ21_rotateRight_76 ?_
      refine g_aload_n dJ21_rotateRight_79 rfl 2 rfl ?_
      refine g_aload_n dJ21_rotateRight_80 rfl 1 rfl ?_
      refine h_putR (mi := mJ21_rotateRight) 13 8 (C := RJ21) (T := TJ21) (N := 11) rfl in_J21 tyJ21_ok nmJ21 (by decide) q1008 (Or.inl rfl) (Or.inl rfl) rfl rfl e5 c6 m7 dJ21_rotateRight_81 ?_
      refine g_aload_n dJ21_rotateRight_84 rfl 1 rfl ?_
      refine g_aload_n dJ21_rotateRight_85 rfl 2 rfl ?_
      obtain ⟨m12, F⟩ := F
      refine h_putR (mi := mJ21_rotateRight) 13 6 (C := RJ21) (T := TJ21) (N := 11) rfl in_J21 tyJ21_ok nmJ21 (by decide) q1006 (Or.inl rfl) (Or.inl rfl) rfl rfl e2 c3 m12 dJ21_rotateRight_86 ?_
      refine g_aload_n dJ21_rotateRight_89 rfl 0 rfl ?_
      exact g_aret (r := p0) rfl (Or.inl ⟨_, rfl⟩) dJ21_rotateRight_90 F
    · have F := F.2 h15
      refine g_aload_n dJ21_rotateRight_66 rfl 3 rfl ?_
      refine g_aload_n dJ21_rotateRight_67 rfl 2 rfl ?_
      obtain ⟨m13, F⟩ := F
      refine h_putR (mi := mJ21_rotateRight) 13 8 (C := RJ21) (T := TJ21) (N := 11) rfl in_J21 tyJ21_ok nmJ21 (by decide) q1008 (Or.inl rfl) (Or.inl rfl) rfl rfl e9 c10 m13 dJ21_rotateRight_68 ?_
      refine g_goto 79 dJ21_rotateRight_71 (by decide) ?_
      refine g_aload_n dJ21_rotateRight_79 rfl 2 rfl ?_
      refine g_aload_n dJ21_rotateRight_80 rfl 1 rfl ?_
      refine h_putR (mi := mJ21_rotateRight) 13 8 (C := RJ21) (T := TJ21) (N := 11) rfl in_J21 tyJ21_ok nmJ21 (by decide) q1008 (Or.inl rfl) (Or.inl rfl) rfl rfl e5 c6 m7 dJ21_rotateRight_81 ?_
      refine g_aload_n dJ21_rotateRight_84 rfl 1 rfl ?_
      refine g_aload_n dJ21_rotateRight_85 rfl 2 rfl ?_
      obtain ⟨m14, F⟩ := F
      refine h_putR (mi := mJ21_rotateRight) 13 6 (C := RJ21) (T := TJ21) (N := 11) rfl in_J21 tyJ21_ok nmJ21 (by decide) q1006 (Or.inl rfl) (Or.inl rfl) rfl rfl e2 c3 m14 dJ21_rotateRight_86 ?_
      refine g_aload_n dJ21_rotateRight_89 rfl 0 rfl ?_
      exact g_aret (r := p0) rfl (Or.inl ⟨_, rfl⟩) dJ21_rotateRight_90 F
  · have F := F.2 e9
    refine g_aload_n dJ21_rotateRight_48 rfl 2 rfl ?_
    refine g_dup dJ21_rotateRight_49 (va_rf_cat _) ?_
    refine s_astore_n (lv' := [(0, va_rf p2), (1, va_rf p1), (2, va_rf p2), (3, va_rf (gR G a1 6)), (4, va_rf p4)]) (cat_R (cat_R (cat_R (cat_R (cat_R cat_nil))))) dJ21_rotateRight_50 rfl (by decide) rfl [0, 1, 2, 3, 4] rfl ?_
    refine g_iconst (v := 0) dJ21_rotateRight_51 (by decide) ?_
    refine h_putI (mi := mJ21_rotateRight) 13 10 (C := RJ21) (T := TJ21) (N := 11) rfl in_J21 tyJ21_ok nmJ21 (by decide) q1011 (Or.inl rfl) (Or.inl rfl) rfl e5 c6 m7 rfl rfl dJ21_rotateRight_52 ?_
    refine g_goto 79 dJ21_rotateRight_55 (by decide) ?_
    refine g_aload_n dJ21_rotateRight_79 rfl 2 rfl ?_
    refine g_aload_n dJ21_rotateRight_80 rfl 1 rfl ?_
    refine h_putR (mi := mJ21_rotateRight) 13 8 (C := RJ21) (T := TJ21) (N := 11) rfl in_J21 tyJ21_ok nmJ21 (by decide) q1008 (Or.inl rfl) (Or.inl rfl) rfl rfl e5 c6 m7 dJ21_rotateRight_81 ?_
    refine g_aload_n dJ21_rotateRight_84 rfl 1 rfl ?_
    refine g_aload_n dJ21_rotateRight_85 rfl 2 rfl ?_
    obtain ⟨m16, F⟩ := F
    refine h_putR (mi := mJ21_rotateRight) 13 6 (C := RJ21) (T := TJ21) (N := 11) rfl in_J21 tyJ21_ok nmJ21 (by decide) q1006 (Or.inl rfl) (Or.inl rfl) rfl rfl e2 c3 m16 dJ21_rotateRight_86 ?_
    refine g_aload_n dJ21_rotateRight_89 rfl 0 rfl ?_
    exact g_aret (r := p2) rfl (Or.inl ⟨_, rfl⟩) dJ21_rotateRight_90 F
theorem rJ21_moveRootToFront_0 {Γ : GE} {l : Launch} {h MC MS : Nat} {Q : Option Value → GH → Prop} {bc bs : Nat} {G : GH} (p0 : Option Nat) (p1 : Option Nat) (F : ((p1 = none → (Q none G)) ∧ (∀ a1, p1 = some a1 → ((p0 = none → (Q none G)) ∧ (∀ a3, p0 = some a3 → (gC G a3 = kA 7 ∧ (((nI (gL G a3)) ≤ 0 → (Q none G)) ∧ (¬ (nI (gL G a3)) ≤ 0 → (gC G a1 = kO 13 ∧ gM G a3 = true ∧ vp_in (((nI (gL G a3)) - 1) &&& (gI G a1 2)) (gL G a3) ∧ okCast G (gR G a3 (((nI (gL G a3)) - 1) &&& (gI G a1 2)).toNatClampNeg) "java/util/HashMap$TreeNode" ∧ ((p1 = (gR G a3 (((nI (gL G a3)) - 1) &&& (gI G a1 2)).toNatClampNeg) → ((¬ (1 : Int32) = 0 → (Q none G)) ∧ ((1 : Int32) = 0 → (False)))) ∧ (¬ p1 = (gR G a3 (((nI (gL G a3)) - 1) &&& (gI G a1 2)).toNatClampNeg) → (vp_in (((nI (gL G a3)) - 1) &&& (gI G a1 2)) (gL G a3) ∧ okS G 7 p1 ∧ (((gR (sR G a3 (((nI (gL G a3)) - 1) &&& (gI G a1 2)).toNatClampNeg p1) a1 5) = none → (GW Γ l mJ21_moveRootToFront h MC MS Q 68 [(0, va_rf p0), (1, va_rf p1), (2, .int (nI (gL G a3))), (3, .int (((nI (gL G a3)) - 1) &&& (gI G a1 2))), (4, va_rf (gR G a3 (((nI (gL G a3)) - 1) &&& (gI G a1 2)).toNatClampNeg)), (5, va_rf (gR (sR G a3 (((nI (gL G a3)) - 1) &&& (gI G a1 2)).toNatClampNeg p1) a1 5)), (6, va_rf (gR (sR G a3 (((nI (gL G a3)) - 1) &&& (gI G a1 2)).toNatClampNeg p1) a1 9))] [] (sR G a3 (((nI (gL G a3)) - 1) &&& (gI G a1 2)).toNatClampNeg p1) bc bs)) ∧ (∀ a13, (gR (sR G a3 (((nI (gL G a3)) - 1) &&& (gI G a1 2)).toNatClampNeg p1) a1 5) = some a13 → (okCast (sR G a3 (((nI (gL G a3)) - 1) &&& (gI G a1 2)).toNatClampNeg p1) (gR (sR G a3 (((nI (gL G a3)) - 1) &&& (gI G a1 2)).toNatClampNeg p1) a1 5) "java/util/HashMap$TreeNode" ∧ gC (sR G a3 (((nI (gL G a3)) - 1) &&& (gI G a1 2)).toNatClampNeg p1) a13 = kO 13 ∧ gM (sR G a3 (((nI (gL G a3)) - 1) &&& (gI G a1 2)).toNatClampNeg p1) a13 = true ∧ GW Γ l mJ21_moveRootToFront h MC MS Q 68 [(0, va_rf p0), (1, va_rf p1), (2, .int (nI (gL G a3))), (3, .int (((nI (gL G a3)) - 1) &&& (gI G a1 2))), (4, va_rf (gR G a3 (((nI (gL G a3)) - 1) &&& (gI G a1 2)).toNatClampNeg)), (5, va_rf (gR (sR G a3 (((nI (gL G a3)) - 1) &&& (gI G a1 2)).toNatClampNeg p1) a1 5)), (6, va_rf (gR (sR G a3 (((nI (gL G a3)) - 1) &&& (gI G a1 2)).toNatClampNeg p1) a1 9))] [] (sR (sR G a3 (((nI (gL G a3)) - 1) &&& (gI G a1 2)).toNatClampNeg p1) a13 9 (gR (sR G a3 (((nI (gL G a3)) - 1) &&& (gI G a1 2)).toNatClampNeg p1) a1 9)) bc bs))))))))))))))) : GW Γ l mJ21_moveRootToFront h MC MS Q 0 [(0, va_rf p0), (1, va_rf p1)] [] G bc bs := by
  refine g_aload_n dJ21_moveRootToFront_0 rfl 1 rfl ?_
  refine g_ifnull 123 dJ21_moveRootToFront_1 (by decide) (fun e2 => ?_) (fun a1 e2 => ?_)
  · have F := F.1 e2
    exact g_vret rfl dJ21_moveRootToFront_123 F
  · have F := F.2 a1 e2
    refine g_aload_n dJ21_moveRootToFront_4 rfl 0 rfl ?_
    refine g_ifnull 123 dJ21_moveRootToFront_5 (by decide) (fun e4 => ?_) (fun a3 e4 => ?_)
    · have F := F.1 e4
      exact g_vret rfl dJ21_moveRootToFront_123 F
    · have F := F.2 a3 e4
      refine g_aload_n dJ21_moveRootToFront_8 rfl 0 rfl ?_
      obtain ⟨c5, F⟩ := F
      refine h_alen 7 e4 c5 (by decide) dJ21_moveRootToFront_9 ?_
      refine g_dup dJ21_moveRootToFront_10 rfl ?_
      refine s_istore_n (lv' := [(0, va_rf p0), (1, va_rf p1), (2, .int (nI (gL G a3)))]) (cat_R (cat_R cat_nil)) dJ21_moveRootToFront_11 rfl (by decide) rfl [1, 2, 0] rfl ?_
      refine g_if_le 123 dJ21_moveRootToFront_12 (by decide) (fun h19 => ?_) (fun h19 => ?_)
      · have F := F.1 h19
        exact g_vret rfl dJ21_moveRootToFront_123 F
      · have F := F.2 h19
        refine g_iload_n dJ21_moveRootToFront_15 rfl 2 rfl ?_
        refine g_iconst (v := 1) dJ21_moveRootToFront_16 (by decide) ?_
        refine g_isub dJ21_moveRootToFront_17 ?_
        refine g_aload_n dJ21_moveRootToFront_18 rfl 1 rfl ?_
        obtain ⟨c6, F⟩ := F
        refine h_get (v := .int (gI G a1 2)) 13 2 (C := RJ21) (T := TJ21) (N := 11) rfl in_J21 (by decide) q703 (Or.inr q704) e2 c6 rfl dJ21_moveRootToFront_19 ?_
        refine g_iand dJ21_moveRootToFront_22 ?_
        refine s_istore_n (lv' := [(0, va_rf p0), (1, va_rf p1), (2, .int (nI (gL G a3))), (3, .int (((nI (gL G a3)) - 1) &&& (gI G a1 2)))]) (cat_R (cat_R (cat_I cat_nil))) dJ21_moveRootToFront_23 rfl (by decide) rfl [1, 2, 3, 0] rfl ?_
        refine g_aload_n dJ21_moveRootToFront_24 rfl 0 rfl ?_
        refine g_iload_n dJ21_moveRootToFront_25 rfl 3 rfl ?_
        obtain ⟨m7, F⟩ := F
        obtain ⟨k8, F⟩ := F
        refine h_aald 7 e4 c5 (by decide) (by decide) m7 k8 dJ21_moveRootToFront_26 ?_
        obtain ⟨k9, F⟩ := F
        refine h_castO q688 k9 dJ21_moveRootToFront_27 ?_
        refine s_astore (lv' := [(0, va_rf p0), (1, va_rf p1), (2, .int (nI (gL G a3))), (3, .int (((nI (gL G a3)) - 1) &&& (gI G a1 2))), (4, va_rf (gR G a3 (((nI (gL G a3)) - 1) &&& (gI G a1 2)).toNatClampNeg))]) (cat_R (cat_R (cat_I (cat_I cat_nil)))) dJ21_moveRootToFront_30 (by decide) rfl [1, 2, 3, 4, 0] rfl ?_
        refine g_aload_n dJ21_moveRootToFront_32 rfl 1 rfl ?_
        refine g_aload dJ21_moveRootToFront_33 4 rfl ?_
        refine g_acmp_eq 102 dJ21_moveRootToFront_35 (by decide) (fun h18 => ?_) (fun h18 => ?_)
        · have F := F.1 h18
          refine g_getsi (C := "java/util/HashMap$TreeNode") (n := "$assertionsDisabled") (d := "Z") (v := 1) (by decide) q949 rfl dJ21_moveRootToFront_102 ?_
          refine g_if_ne 123 dJ21_moveRootToFront_105 (by decide) (fun h10 => ?_) (fun h10 => ?_)
          · have F := F.1 h10
            exact g_vret rfl dJ21_moveRootToFront_123 F
          · have F := F.2 h10
            refine g_aload_n dJ21_moveRootToFront_108 rfl 1 rfl ?_
            exact F.elim
        · have F := F.2 h18
          refine g_aload_n dJ21_moveRootToFront_38 rfl 0 rfl ?_
          refine g_iload_n dJ21_moveRootToFront_39 rfl 3 rfl ?_
          refine g_aload_n dJ21_moveRootToFront_40 rfl 1 rfl ?_
          obtain ⟨k11, F⟩ := F
          obtain ⟨k12, F⟩ := F
          refine h_aast 7 e4 c5 (by decide) (by decide) m7 k11 k12 dJ21_moveRootToFront_41 ?_
          refine g_aload_n dJ21_moveRootToFront_42 rfl 1 rfl ?_
          refine h_get (v := va_rf (gR (sR G a3 (((nI (gL G a3)) - 1) &&& (gI G a1 2)).toNatClampNeg p1) a1 9)) 13 9 (C := RJ21) (T := TJ21) (N := 11) rfl in_J21 (by decide) q1009 (Or.inl rfl) e2 c6 rfl dJ21_moveRootToFront_43 ?_
          refine s_astore (lv' := [(0, va_rf p0), (1, va_rf p1), (2, .int (nI (gL G a3))), (3, .int (((nI (gL G a3)) - 1) &&& (gI G a1 2))), (4, va_rf (gR G a3 (((nI (gL G a3)) - 1) &&& (gI G a1 2)).toNatClampNeg)), (6, va_rf (gR (sR G a3 (((nI (gL G a3)) - 1) &&& (gI G a1 2)).toNatClampNeg p1) a1 9))]) (cat_R (cat_R (cat_I (cat_I (cat_R cat_nil))))) dJ21_moveRootToFront_46 (by decide) rfl [1, 2, 3, 4, 5, 0] rfl ?_
          refine g_aload_n dJ21_moveRootToFront_48 rfl 1 rfl ?_
          refine h_get (v := va_rf (gR (sR G a3 (((nI (gL G a3)) - 1) &&& (gI G a1 2)).toNatClampNeg p1) a1 5)) 13 5 (C := RJ21) (T := TJ21) (N := 11) rfl in_J21 (by decide) q713 (Or.inr q714) e2 c6 rfl dJ21_moveRootToFront_49 ?_
          refine g_dup dJ21_moveRootToFront_52 (va_rf_cat _) ?_
          refine s_astore (lv' := [(0, va_rf p0), (1, va_rf p1), (2, .int (nI (gL G a3))), (3, .int (((nI (gL G a3)) - 1) &&& (gI G a1 2))), (4, va_rf (gR G a3 (((nI (gL G a3)) - 1) &&& (gI G a1 2)).toNatClampNeg)), (5, va_rf (gR (sR G a3 (((nI (gL G a3)) - 1) &&& (gI G a1 2)).toNatClampNeg p1) a1 5)), (6, va_rf (gR (sR G a3 (((nI (gL G a3)) - 1) &&& (gI G a1 2)).toNatClampNeg p1) a1 9))]) (cat_R (cat_R (cat_I (cat_I (cat_R (cat_R cat_nil)))))) dJ21_moveRootToFront_53 (by decide) rfl [1, 2, 3, 4, 5, 0, 6] rfl ?_
          refine g_ifnull 68 dJ21_moveRootToFront_55 (by decide) (fun e14 => ?_) (fun a13 e14 => ?_)
          · have F := F.1 e14
            exact F
          · have F := F.2 a13 e14
            refine g_aload dJ21_moveRootToFront_58 5 rfl ?_
            obtain ⟨k15, F⟩ := F
            refine h_castO q688 k15 dJ21_moveRootToFront_60 ?_
            refine g_aload dJ21_moveRootToFront_63 6 rfl ?_
            obtain ⟨c16, F⟩ := F
            obtain ⟨m17, F⟩ := F
            refine h_putR (mi := mJ21_moveRootToFront) 13 9 (C := RJ21) (T := TJ21) (N := 11) rfl in_J21 tyJ21_ok nmJ21 (by decide) q1009 (Or.inl rfl) (Or.inl rfl) rfl rfl e14 c16 m17 dJ21_moveRootToFront_65 ?_
            exact F
theorem rJ21_moveRootToFront_68 {Γ : GE} {l : Launch} {h MC MS : Nat} {Q : Option Value → GH → Prop} {bc bs : Nat} {G : GH} (p0 : Option Nat) (p1 : Option Nat) (p2 : Int32) (p3 : Int32) (p4 : Option Nat) (p5 : Option Nat) (p6 : Option Nat) (F : ((p6 = none → ((p4 = none → (GW Γ l mJ21_moveRootToFront h MC MS Q 91 [(0, va_rf p0), (1, va_rf p1), (2, .int p2), (3, .int p3), (4, va_rf p4), (5, va_rf p5), (6, va_rf p6)] [] G bc bs)) ∧ (∀ a3, p4 = some a3 → (gC G a3 = kO 13 ∧ gM G a3 = true ∧ GW Γ l mJ21_moveRootToFront h MC MS Q 91 [(0, va_rf p0), (1, va_rf p1), (2, .int p2), (3, .int p3), (4, va_rf p4), (5, va_rf p5), (6, va_rf p6)] [] (sR G a3 9 p1) bc bs)))) ∧ (∀ a1, p6 = some a1 → (gC G a1 = kO 13 ∧ gM G a1 = true ∧ ((p4 = none → (GW Γ l mJ21_moveRootToFront h MC MS Q 91 [(0, va_rf p0), (1, va_rf p1), (2, .int p2), (3, .int p3), (4, va_rf p4), (5, va_rf p5), (6, va_rf p6)] [] (sR G a1 5 p5) bc bs)) ∧ (∀ a9, p4 = some a9 → (gC (sR G a1 5 p5) a9 = kO 13 ∧ gM (sR G a1 5 p5) a9 = true ∧ GW Γ l mJ21_moveRootToFront h MC MS Q 91 [(0, va_rf p0), (1, va_rf p1), (2, .int p2), (3, .int p3), (4, va_rf p4), (5, va_rf p5), (6, va_rf p6)] [] (sR (sR G a1 5 p5) a9 9 p1) bc bs))))))) : GW Γ l mJ21_moveRootToFront h MC MS Q 68 [(0, va_rf p0), (1, va_rf p1), (2, .int p2), (3, .int p3), (4, va_rf p4), (5, va_rf p5), (6, va_rf p6)] [] G bc bs := by
  refine g_aload dJ21_moveRootToFront_68 6 rfl ?_
  refine g_ifnull 80 dJ21_moveRootToFront_70 (by decide) (fun e2 => ?_) (fun a1 e2 => ?_)
  · have F := F.1 e2
    refine g_aload dJ21_moveRootToFront_80 4 rfl ?_
    refine g_ifnull 91 dJ21_moveRootToFront_82 (by decide) (fun e4 => ?_) (fun a3 e4 => ?_)
    · have F := F.1 e4
      exact F
    · have F := F.2 a3 e4
      refine g_aload dJ21_moveRootToFront_85 4 rfl ?_
      refine g_aload_n dJ21_moveRootToFront_87 rfl 1 rfl ?_
      obtain ⟨c5, F⟩ := F
      obtain ⟨m6, F⟩ := F
      refine h_putR (mi := mJ21_moveRootToFront) 13 9 (C := RJ21) (T := TJ21) (N := 11) rfl in_J21 tyJ21_ok nmJ21 (by decide) q1009 (Or.inl rfl) (Or.inl rfl) rfl rfl e4 c5 m6 dJ21_moveRootToFront_88 ?_
      exact F
  · have F := F.2 a1 e2
    refine g_aload dJ21_moveRootToFront_73 6 rfl ?_
    refine g_aload dJ21_moveRootToFront_75 5 rfl ?_
    obtain ⟨c7, F⟩ := F
    obtain ⟨m8, F⟩ := F
    refine h_putR (mi := mJ21_moveRootToFront) 13 5 (C := RJ21) (T := TJ21) (N := 11) rfl in_J21 tyJ21_ok nmJ21 (by decide) q713 (Or.inr q714) (Or.inl rfl) rfl rfl e2 c7 m8 dJ21_moveRootToFront_77 ?_
    refine g_aload dJ21_moveRootToFront_80 4 rfl ?_
    refine g_ifnull 91 dJ21_moveRootToFront_82 (by decide) (fun e10 => ?_) (fun a9 e10 => ?_)
    · have F := F.1 e10
      exact F
    · have F := F.2 a9 e10
      refine g_aload dJ21_moveRootToFront_85 4 rfl ?_
      refine g_aload_n dJ21_moveRootToFront_87 rfl 1 rfl ?_
      obtain ⟨c11, F⟩ := F
      obtain ⟨m12, F⟩ := F
      refine h_putR (mi := mJ21_moveRootToFront) 13 9 (C := RJ21) (T := TJ21) (N := 11) rfl in_J21 tyJ21_ok nmJ21 (by decide) q1009 (Or.inl rfl) (Or.inl rfl) rfl rfl e10 c11 m12 dJ21_moveRootToFront_88 ?_
      exact F
theorem rJ21_moveRootToFront_91 {Γ : GE} {l : Launch} {h MC MS : Nat} {Q : Option Value → GH → Prop} {bc bs : Nat} {G : GH} (p0 : Option Nat) (p1 : Option Nat) (p2 : Int32) (p3 : Int32) (p4 : Option Nat) (p5 : Option Nat) (p6 : Option Nat) (F : (∃ a1, p1 = some a1 ∧ gC G a1 = kO 13 ∧ gM G a1 = true ∧ ((¬ (1 : Int32) = 0 → (Q none (sR (sR G a1 5 p4) a1 9 none))) ∧ ((1 : Int32) = 0 → (False))))) : GW Γ l mJ21_moveRootToFront h MC MS Q 91 [(0, va_rf p0), (1, va_rf p1), (2, .int p2), (3, .int p3), (4, va_rf p4), (5, va_rf p5), (6, va_rf p6)] [] G bc bs := by
  refine g_aload_n dJ21_moveRootToFront_91 rfl 1 rfl ?_
  refine g_aload dJ21_moveRootToFront_92 4 rfl ?_
  obtain ⟨a1, e2, F⟩ := F
  obtain ⟨c3, F⟩ := F
  obtain ⟨m4, F⟩ := F
  refine h_putR (mi := mJ21_moveRootToFront) 13 5 (C := RJ21) (T := TJ21) (N := 11) rfl in_J21 tyJ21_ok nmJ21 (by decide) q713 (Or.inr q714) (Or.inl rfl) rfl rfl e2 c3 m4 dJ21_moveRootToFront_94 ?_
  refine g_aload_n dJ21_moveRootToFront_97 rfl 1 rfl ?_
  refine g_null dJ21_moveRootToFront_98 ?_
  refine h_putR (mi := mJ21_moveRootToFront) 13 9 (C := RJ21) (T := TJ21) (N := 11) rfl in_J21 tyJ21_ok nmJ21 (by decide) q1009 (Or.inl rfl) (Or.inl rfl) rfl rfl e2 c3 m4 dJ21_moveRootToFront_99 ?_
  refine g_getsi (C := "java/util/HashMap$TreeNode") (n := "$assertionsDisabled") (d := "Z") (v := 1) (by decide) q949 rfl dJ21_moveRootToFront_102 ?_
  refine g_if_ne 123 dJ21_moveRootToFront_105 (by decide) (fun h5 => ?_) (fun h5 => ?_)
  · have F := F.1 h5
    exact g_vret rfl dJ21_moveRootToFront_123 F
  · have F := F.2 h5
    refine g_aload_n dJ21_moveRootToFront_108 rfl 1 rfl ?_
    exact F.elim
theorem rJ21_putTreeVal_0 {Γ : GE} {l : Launch} {h MC MS : Nat} {Q : Option Value → GH → Prop} {bc bs : Nat} {G : GH} (x : Nat) (p1 : Option Nat) (p2 : Option Nat) (p3 : Int32) (p4 : Option Nat) (p5 : Option Nat) (F : (gC G x = kO 13 ∧ (((gR G x 6) = none → (GW Γ l mJ21_putTreeVal h MC MS Q 27 [(0, va_rf (some x)), (1, va_rf p1), (2, va_rf p2), (3, .int p3), (4, va_rf p4), (5, va_rf p5), (6, va_rf none), (7, .int 0), (8, va_rf (some x)), (9, va_rf (some x))] [] G bc bs)) ∧ (∀ a2, (gR G x 6) = some a2 → (cR Γ l h mJ21_root [.ref x] G bc bs fun r4 Gr4 br4 sr4 => GW Γ l mJ21_putTreeVal h MC MS Q 27 [(0, va_rf (some x)), (1, va_rf p1), (2, va_rf p2), (3, .int p3), (4, va_rf p4), (5, va_rf p5), (6, va_rf none), (7, .int 0), (8, va_rf r4), (9, va_rf r4)] [] Gr4 br4 sr4))))) : GW Γ l mJ21_putTreeVal h MC MS Q 0 [(0, va_rf (some x)), (1, va_rf p1), (2, va_rf p2), (3, .int p3), (4, va_rf p4), (5, va_rf p5)] [] G bc bs := by
  refine g_null dJ21_putTreeVal_0 ?_
  refine s_astore (lv' := [(0, va_rf (some x)), (1, va_rf p1), (2, va_rf p2), (3, .int p3), (4, va_rf p4), (5, va_rf p5), (6, va_rf none)]) (cat_R (cat_R (cat_R (cat_I (cat_R (cat_R cat_nil)))))) dJ21_putTreeVal_1 (by decide) rfl [1, 2, 3, 4, 5, 6, 0] rfl ?_
  refine g_iconst (v := 0) dJ21_putTreeVal_3 (by decide) ?_
  refine s_istore (lv' := [(0, va_rf (some x)), (1, va_rf p1), (2, va_rf p2), (3, .int p3), (4, va_rf p4), (5, va_rf p5), (6, va_rf none), (7, .int 0)]) (cat_R (cat_R (cat_R (cat_I (cat_R (cat_R (cat_R cat_nil))))))) dJ21_putTreeVal_4 (by decide) rfl [1, 2, 3, 4, 5, 6, 7, 0] rfl ?_
  refine g_aload_n dJ21_putTreeVal_6 rfl 0 rfl ?_
  obtain ⟨c1, F⟩ := F
  refine h_get (v := va_rf (gR G x 6)) 13 6 (C := RJ21) (T := TJ21) (N := 11) rfl in_J21 (by decide) q1006 (Or.inl rfl) rfl c1 rfl dJ21_putTreeVal_7 ?_
  refine g_ifnull 20 dJ21_putTreeVal_10 (by decide) (fun e3 => ?_) (fun a2 e3 => ?_)
  · have F := F.1 e3
    refine g_aload_n dJ21_putTreeVal_20 rfl 0 rfl ?_
    refine s_astore (lv' := [(0, va_rf (some x)), (1, va_rf p1), (2, va_rf p2), (3, .int p3), (4, va_rf p4), (5, va_rf p5), (6, va_rf none), (7, .int 0), (8, va_rf (some x))]) (cat_R (cat_R (cat_R (cat_I (cat_R (cat_R (cat_R (cat_I cat_nil)))))))) dJ21_putTreeVal_21 (by decide) rfl [1, 2, 3, 4, 5, 6, 7, 8, 0] rfl ?_
    refine g_aload dJ21_putTreeVal_23 8 rfl ?_
    refine s_astore (lv' := [(0, va_rf (some x)), (1, va_rf p1), (2, va_rf p2), (3, .int p3), (4, va_rf p4), (5, va_rf p5), (6, va_rf none), (7, .int 0), (8, va_rf (some x)), (9, va_rf (some x))]) (cat_R (cat_R (cat_R (cat_I (cat_R (cat_R (cat_R (cat_I (cat_R cat_nil))))))))) dJ21_putTreeVal_25 (by decide) rfl [1, 2, 3, 4, 5, 6, 7, 8, 9, 0] rfl ?_
    exact F
  · have F := F.2 a2 e3
    refine g_aload_n dJ21_putTreeVal_13 rfl 0 rfl ?_
    refine h_callVR (ci := 13) (C := RJ21) (T := TJ21) (N := 11) (As := []) (rest := []) F 0 rfl rfl (lw_V q985 q986 q987 q136 q988) vm_J21_root (by decide) rfl c1 rfl (room_of sc_nil (Nat.le_of_ble_eq_true rfl)) dJ21_putTreeVal_14 (fun r4 Gr4 br4 sr4 F => ?_)
    refine g_goto 21 dJ21_putTreeVal_17 (by decide) ?_
    refine s_astore (lv' := [(0, va_rf (some x)), (1, va_rf p1), (2, va_rf p2), (3, .int p3), (4, va_rf p4), (5, va_rf p5), (6, va_rf none), (7, .int 0), (8, va_rf r4)]) (cat_R (cat_R (cat_R (cat_I (cat_R (cat_R (cat_R (cat_I cat_nil)))))))) dJ21_putTreeVal_21 (by decide) rfl [1, 2, 3, 4, 5, 6, 7, 8, 0] rfl ?_
    refine g_aload dJ21_putTreeVal_23 8 rfl ?_
    refine s_astore (lv' := [(0, va_rf (some x)), (1, va_rf p1), (2, va_rf p2), (3, .int p3), (4, va_rf p4), (5, va_rf p5), (6, va_rf none), (7, .int 0), (8, va_rf r4), (9, va_rf r4)]) (cat_R (cat_R (cat_R (cat_I (cat_R (cat_R (cat_R (cat_I (cat_R cat_nil))))))))) dJ21_putTreeVal_25 (by decide) rfl [1, 2, 3, 4, 5, 6, 7, 8, 9, 0] rfl ?_
    exact F
theorem rJ21_putTreeVal_27 {Γ : GE} {l : Launch} {h MC MS : Nat} {Q : Option Value → GH → Prop} {bc bs : Nat} {G : GH} (x : Nat) (p1 : Option Nat) (p2 : Option Nat) (p3 : Int32) (p4 : Option Nat) (p5 : Option Nat) (p6 : Option Nat) (p7 : Int32) (p8 : Option Nat) (p9 : Option Nat) (F : (∃ a1, p9 = some a1 ∧ gC G a1 = kO 13 ∧ (((gI G a1 2) ≤ p3 → ((p3 ≤ (gI G a1 2) → (((gR G a1 3) = p4 → (Q (some (va_rf p9)) G)) ∧ (¬ (gR G a1 3) = p4 → ((p4 = none → ((∀ a6, p6 = some a6 → (GW Γ l mJ21_putTreeVal h MC MS Q 104 [(0, va_rf (some x)), (1, va_rf p1), (2, va_rf p2), (3, .int p3), (4, va_rf p4), (5, va_rf p5), (6, va_rf p6), (7, .int p7), (8, va_rf p8), (9, va_rf p9), (11, .int (gI G a1 2)), (12, va_rf (gR G a1 3))] [] G bc bs)) ∧ (p6 = none → (cR Γ l h mJ11_comparableClassFor [va_rf p4] G bc bs fun r8 Gr8 br8 sr8 => ((r8 = none → (GW Γ l mJ21_putTreeVal h MC MS Q 119 [(0, va_rf (some x)), (1, va_rf p1), (2, va_rf p2), (3, .int p3), (4, va_rf p4), (5, va_rf p5), (6, va_rf r8), (7, .int p7), (8, va_rf p8), (9, va_rf p9), (11, .int (gI G a1 2)), (12, va_rf (gR G a1 3))] [] Gr8 br8 sr8)) ∧ (∀ a10, r8 = some a10 → (GW Γ l mJ21_putTreeVal h MC MS Q 104 [(0, va_rf (some x)), (1, va_rf p1), (2, va_rf p2), (3, .int p3), (4, va_rf p4), (5, va_rf p5), (6, va_rf r8), (7, .int p7), (8, va_rf p8), (9, va_rf p9), (11, .int (gI G a1 2)), (12, va_rf (gR G a1 3))] [] Gr8 br8 sr8))))))) ∧ (∀ a4, p4 = some a4 → (gC G a4 = kO 5 ∧ cI Γ l h mX3_equals [.ref a4, va_rf (gR G a1 3)] G bc bs fun r12 Gr12 br12 sr12 => ((r12 = 0 → ((∀ a15, p6 = some a15 → (GW Γ l mJ21_putTreeVal h MC MS Q 104 [(0, va_rf (some x)), (1, va_rf p1), (2, va_rf p2), (3, .int p3), (4, va_rf p4), (5, va_rf p5), (6, va_rf p6), (7, .int p7), (8, va_rf p8), (9, va_rf p9), (11, .int (gI G a1 2)), (12, va_rf (gR G a1 3))] [] Gr12 br12 sr12)) ∧ (p6 = none → (cR Γ l h mJ11_comparableClassFor [va_rf p4] Gr12 br12 sr12 fun r17 Gr17 br17 sr17 => ((r17 = none → (GW Γ l mJ21_putTreeVal h MC MS Q 119 [(0, va_rf (some x)), (1, va_rf p1), (2, va_rf p2), (3, .int p3), (4, va_rf p4), (5, va_rf p5), (6, va_rf r17), (7, .int p7), (8, va_rf p8), (9, va_rf p9), (11, .int (gI G a1 2)), (12, va_rf (gR G a1 3))] [] Gr17 br17 sr17)) ∧ (∀ a19, r17 = some a19 → (GW Γ l mJ21_putTreeVal h MC MS Q 104 [(0, va_rf (some x)), (1, va_rf p1), (2, va_rf p2), (3, .int p3), (4, va_rf p4), (5, va_rf p5), (6, va_rf r17), (7, .int p7), (8, va_rf p8), (9, va_rf p9), (11, .int (gI G a1 2)), (12, va_rf (gR G a1 3))] [] Gr17 br17 sr17))))))) ∧ (¬ r12 = 0 → (Q (some (va_rf p9)) Gr12))))))))) ∧ (¬ p3 ≤ (gI G a1 2) → (((0 : Int32) < (1 : Int32) → (GW Γ l mJ21_putTreeVal h MC MS Q 215 [(0, va_rf (some x)), (1, va_rf p1), (2, va_rf p2), (3, .int p3), (4, va_rf p4), (5, va_rf p5), (6, va_rf p6), (7, .int p7), (8, va_rf p8), (9, va_rf p9), (10, .int 1), (11, .int (gI G a1 2)), (13, va_rf p9)] [va_rf (gR G a1 8)] G bc bs)) ∧ (¬ (0 : Int32) < (1 : Int32) → (GW Γ l mJ21_putTreeVal h MC MS Q 215 [(0, va_rf (some x)), (1, va_rf p1), (2, va_rf p2), (3, .int p3), (4, va_rf p4), (5, va_rf p5), (6, va_rf p6), (7, .int p7), (8, va_rf p8), (9, va_rf p9), (10, .int 1), (11, .int (gI G a1 2)), (13, va_rf p9)] [va_rf (gR G a1 7)] G bc bs)))))) ∧ (¬ (gI G a1 2) ≤ p3 → (((0 : Int32) < (-1) → (GW Γ l mJ21_putTreeVal h MC MS Q 215 [(0, va_rf (some x)), (1, va_rf p1), (2, va_rf p2), (3, .int p3), (4, va_rf p4), (5, va_rf p5), (6, va_rf p6), (7, .int p7), (8, va_rf p8), (9, va_rf p9), (10, .int (-1)), (11, .int (gI G a1 2)), (13, va_rf p9)] [va_rf (gR G a1 8)] G bc bs)) ∧ (¬ (0 : Int32) < (-1) → (GW Γ l mJ21_putTreeVal h MC MS Q 215 [(0, va_rf (some x)), (1, va_rf p1), (2, va_rf p2), (3, .int p3), (4, va_rf p4), (5, va_rf p5), (6, va_rf p6), (7, .int p7), (8, va_rf p8), (9, va_rf p9), (10, .int (-1)), (11, .int (gI G a1 2)), (13, va_rf p9)] [va_rf (gR G a1 7)] G bc bs))))))) : GW Γ l mJ21_putTreeVal h MC MS Q 27 [(0, va_rf (some x)), (1, va_rf p1), (2, va_rf p2), (3, .int p3), (4, va_rf p4), (5, va_rf p5), (6, va_rf p6), (7, .int p7), (8, va_rf p8), (9, va_rf p9)] [] G bc bs := by
  refine g_aload dJ21_putTreeVal_27 9 rfl ?_
  obtain ⟨a1, e2, F⟩ := F
  obtain ⟨c3, F⟩ := F
  refine h_get (v := .int (gI G a1 2)) 13 2 (C := RJ21) (T := TJ21) (N := 11) rfl in_J21 (by decide) q703 (Or.inr q704) e2 c3 rfl dJ21_putTreeVal_29 ?_
  refine g_dup dJ21_putTreeVal_32 rfl ?_
  refine s_istore (lv' := [(0, va_rf (some x)), (1, va_rf p1), (2, va_rf p2), (3, .int p3), (4, va_rf p4), (5, va_rf p5), (6, va_rf p6), (7, .int p7), (8, va_rf p8), (9, va_rf p9), (11, .int (gI G a1 2))]) (cat_R (cat_R (cat_R (cat_I (cat_R (cat_R (cat_R (cat_I (cat_R (cat_R cat_nil)))))))))) dJ21_putTreeVal_33 (by decide) rfl [1, 2, 3, 4, 5, 6, 7, 8, 9, 10, 0] rfl ?_
  refine g_iload_n dJ21_putTreeVal_35 rfl 3 rfl ?_
  refine g_icmp_le 45 dJ21_putTreeVal_36 (by decide) (fun h26 => ?_) (fun h26 => ?_)
  · have F := F.1 h26
    refine g_iload dJ21_putTreeVal_45 10 rfl ?_
    refine g_iload_n dJ21_putTreeVal_47 rfl 3 rfl ?_
    refine g_icmp_ge 57 dJ21_putTreeVal_48 (by decide) (fun h24 => ?_) (fun h24 => ?_)
    · have F := F.1 h24
      refine g_aload dJ21_putTreeVal_57 9 rfl ?_
      refine h_get (v := va_rf (gR G a1 3)) 13 3 (C := RJ21) (T := TJ21) (N := 11) rfl in_J21 (by decide) q707 (Or.inr q708) e2 c3 rfl dJ21_putTreeVal_59 ?_
      refine g_dup dJ21_putTreeVal_62 (va_rf_cat _) ?_
      refine s_astore (lv' := [(0, va_rf (some x)), (1, va_rf p1), (2, va_rf p2), (3, .int p3), (4, va_rf p4), (5, va_rf p5), (6, va_rf p6), (7, .int p7), (8, va_rf p8), (9, va_rf p9), (11, .int (gI G a1 2)), (12, va_rf (gR G a1 3))]) (cat_R (cat_R (cat_R (cat_I (cat_R (cat_R (cat_R (cat_I (cat_R (cat_R (cat_I cat_nil))))))))))) dJ21_putTreeVal_63 (by decide) rfl [1, 2, 3, 4, 5, 6, 7, 8, 9, 10, 11, 0] rfl ?_
      refine g_aload dJ21_putTreeVal_65 4 rfl ?_
      refine g_acmp_eq 85 dJ21_putTreeVal_67 (by decide) (fun h22 => ?_) (fun h22 => ?_)
      · have F := F.1 h22
        refine g_aload dJ21_putTreeVal_85 9 rfl ?_
        exact g_aret (r := p9) rfl (Or.inl ⟨_, rfl⟩) dJ21_putTreeVal_87 F
      · have F := F.2 h22
        refine g_aload dJ21_putTreeVal_70 4 rfl ?_
        refine g_ifnull 88 dJ21_putTreeVal_72 (by decide) (fun e5 => ?_) (fun a4 e5 => ?_)
        · have F := F.1 e5
          refine g_aload dJ21_putTreeVal_88 6 rfl ?_
          refine g_ifnonnull 104 dJ21_putTreeVal_90 (by decide) (fun a6 e7 => ?_) (fun e7 => ?_)
          · have F := F.1 a6 e7
            exact F
          · have F := F.2 e7
            refine g_aload dJ21_putTreeVal_93 4 rfl ?_
            refine h_callSR (As := [va_rf p4]) (rest := []) F 1 rfl (lw_S q731 q732 q123 q733) vm_J11_comparableClassFor.2 (by decide) rfl (room_of sc_nil (Nat.le_of_ble_eq_true rfl)) dJ21_putTreeVal_95 (fun r8 Gr8 br8 sr8 F => ?_)
            refine g_dup dJ21_putTreeVal_98 (va_rf_cat _) ?_
            refine s_astore (lv' := [(0, va_rf (some x)), (1, va_rf p1), (2, va_rf p2), (3, .int p3), (4, va_rf p4), (5, va_rf p5), (6, va_rf r8), (7, .int p7), (8, va_rf p8), (9, va_rf p9), (11, .int (gI G a1 2)), (12, va_rf (gR G a1 3))]) (cat_R (cat_R (cat_R (cat_I (cat_R (cat_R (cat_R (cat_I (cat_R (cat_R (cat_I (cat_R cat_nil)))))))))))) dJ21_putTreeVal_99 (by decide) rfl [1, 2, 3, 4, 5, 6, 0, 7, 8, 9, 10, 11] rfl ?_
            refine g_ifnull 119 dJ21_putTreeVal_101 (by decide) (fun e11 => ?_) (fun a10 e11 => ?_)
            · have F := F.1 e11
              exact F
            · have F := F.2 a10 e11
              exact F
        · have F := F.2 a4 e5
          refine g_aload dJ21_putTreeVal_75 4 rfl ?_
          refine g_aload dJ21_putTreeVal_77 11 rfl ?_
          obtain ⟨c13, F⟩ := F
          refine h_callUI (ci := 5) (x := ⟨"java/lang/Object", "equals", "(Ljava/lang/Object;)Z"⟩) (owner := "java/lang/Object") (C := RX3) (T := TX3) (N := 3) (As := [va_rf (gR G a1 3)]) (rest := []) F 1 rfl rfl (hasW.all q989) (hasW.all q958) (hasD.de (by decide +kernel)) (hasW.all q964) q965 q126 q966 ⟨by decide +kernel, by decide +kernel, by decide +kernel⟩ (by decide) e5 c13 rfl (room_of sc_nil (Nat.le_of_ble_eq_true rfl)) dJ21_putTreeVal_79 (fun r12 Gr12 br12 sr12 F => ?_)
          refine g_if_eq 88 dJ21_putTreeVal_82 (by decide) (fun h21 => ?_) (fun h21 => ?_)
          · have F := F.1 h21
            refine g_aload dJ21_putTreeVal_88 6 rfl ?_
            refine g_ifnonnull 104 dJ21_putTreeVal_90 (by decide) (fun a15 e16 => ?_) (fun e16 => ?_)
            · have F := F.1 a15 e16
              exact F
            · have F := F.2 e16
              refine g_aload dJ21_putTreeVal_93 4 rfl ?_
              refine h_callSR (As := [va_rf p4]) (rest := []) F 1 rfl (lw_S q731 q732 q123 q733) vm_J11_comparableClassFor.2 (by decide) rfl (room_of sc_nil (Nat.le_of_ble_eq_true rfl)) dJ21_putTreeVal_95 (fun r17 Gr17 br17 sr17 F => ?_)
              refine g_dup dJ21_putTreeVal_98 (va_rf_cat _) ?_
              refine s_astore (lv' := [(0, va_rf (some x)), (1, va_rf p1), (2, va_rf p2), (3, .int p3), (4, va_rf p4), (5, va_rf p5), (6, va_rf r17), (7, .int p7), (8, va_rf p8), (9, va_rf p9), (11, .int (gI G a1 2)), (12, va_rf (gR G a1 3))]) (cat_R (cat_R (cat_R (cat_I (cat_R (cat_R (cat_R (cat_I (cat_R (cat_R (cat_I (cat_R cat_nil)))))))))))) dJ21_putTreeVal_99 (by decide) rfl [1, 2, 3, 4, 5, 6, 0, 7, 8, 9, 10, 11] rfl ?_
              refine g_ifnull 119 dJ21_putTreeVal_101 (by decide) (fun e20 => ?_) (fun a19 e20 => ?_)
              · have F := F.1 e20
                exact F
              · have F := F.2 a19 e20
                exact F
          · have F := F.2 h21
            refine g_aload dJ21_putTreeVal_85 9 rfl ?_
            exact g_aret (r := p9) rfl (Or.inl ⟨_, rfl⟩) dJ21_putTreeVal_87 F
    · have F := F.2 h24
      refine g_iconst (v := 1) dJ21_putTreeVal_51 (by decide) ?_
      refine s_istore (lv' := [(0, va_rf (some x)), (1, va_rf p1), (2, va_rf p2), (3, .int p3), (4, va_rf p4), (5, va_rf p5), (6, va_rf p6), (7, .int p7), (8, va_rf p8), (9, va_rf p9), (10, .int 1), (11, .int (gI G a1 2))]) (cat_R (cat_R (cat_R (cat_I (cat_R (cat_R (cat_R (cat_I (cat_R (cat_R (cat_I cat_nil))))))))))) dJ21_putTreeVal_52 (by decide) rfl [1, 2, 3, 4, 5, 6, 7, 8, 9, 10, 0, 11] rfl ?_
      refine g_goto 193 dJ21_putTreeVal_54 (by decide) ?_
      refine g_aload dJ21_putTreeVal_193 9 rfl ?_
      refine s_astore (lv' := [(0, va_rf (some x)), (1, va_rf p1), (2, va_rf p2), (3, .int p3), (4, va_rf p4), (5, va_rf p5), (6, va_rf p6), (7, .int p7), (8, va_rf p8), (9, va_rf p9), (10, .int 1), (11, .int (gI G a1 2)), (13, va_rf p9)]) (cat_R (cat_R (cat_R (cat_I (cat_R (cat_R (cat_R (cat_I (cat_R (cat_R (cat_I (cat_I cat_nil)))))))))))) dJ21_putTreeVal_195 (by decide) rfl [1, 2, 3, 4, 5, 6, 7, 8, 9, 10, 11, 12, 0] rfl ?_
      refine g_iload dJ21_putTreeVal_197 10 rfl ?_
      refine g_if_gt 210 dJ21_putTreeVal_199 (by decide) (fun h23 => ?_) (fun h23 => ?_)
      · have F := F.1 h23
        refine g_aload dJ21_putTreeVal_210 9 rfl ?_
        refine h_get (v := va_rf (gR G a1 8)) 13 8 (C := RJ21) (T := TJ21) (N := 11) rfl in_J21 (by decide) q1008 (Or.inl rfl) e2 c3 rfl dJ21_putTreeVal_212 ?_
        exact F
      · have F := F.2 h23
        refine g_aload dJ21_putTreeVal_202 9 rfl ?_
        refine h_get (v := va_rf (gR G a1 7)) 13 7 (C := RJ21) (T := TJ21) (N := 11) rfl in_J21 (by decide) q1007 (Or.inl rfl) e2 c3 rfl dJ21_putTreeVal_204 ?_
        refine g_goto 215 dJ21_putTreeVal_207 (by decide) ?_
        exact F
  · have F := F.2 h26
    refine g_iconst (v := (-1)) dJ21_putTreeVal_39 (by decide) ?_
    refine s_istore (lv' := [(0, va_rf (some x)), (1, va_rf p1), (2, va_rf p2), (3, .int p3), (4, va_rf p4), (5, va_rf p5), (6, va_rf p6), (7, .int p7), (8, va_rf p8), (9, va_rf p9), (10, .int (-1)), (11, .int (gI G a1 2))]) (cat_R (cat_R (cat_R (cat_I (cat_R (cat_R (cat_R (cat_I (cat_R (cat_R (cat_I cat_nil))))))))))) dJ21_putTreeVal_40 (by decide) rfl [1, 2, 3, 4, 5, 6, 7, 8, 9, 10, 0, 11] rfl ?_
    refine g_goto 193 dJ21_putTreeVal_42 (by decide) ?_
    refine g_aload dJ21_putTreeVal_193 9 rfl ?_
    refine s_astore (lv' := [(0, va_rf (some x)), (1, va_rf p1), (2, va_rf p2), (3, .int p3), (4, va_rf p4), (5, va_rf p5), (6, va_rf p6), (7, .int p7), (8, va_rf p8), (9, va_rf p9), (10, .int (-1)), (11, .int (gI G a1 2)), (13, va_rf p9)]) (cat_R (cat_R (cat_R (cat_I (cat_R (cat_R (cat_R (cat_I (cat_R (cat_R (cat_I (cat_I cat_nil)))))))))))) dJ21_putTreeVal_195 (by decide) rfl [1, 2, 3, 4, 5, 6, 7, 8, 9, 10, 11, 12, 0] rfl ?_
    refine g_iload dJ21_putTreeVal_197 10 rfl ?_
    refine g_if_gt 210 dJ21_putTreeVal_199 (by decide) (fun h25 => ?_) (fun h25 => ?_)
    · have F := F.1 h25
      refine g_aload dJ21_putTreeVal_210 9 rfl ?_
      refine h_get (v := va_rf (gR G a1 8)) 13 8 (C := RJ21) (T := TJ21) (N := 11) rfl in_J21 (by decide) q1008 (Or.inl rfl) e2 c3 rfl dJ21_putTreeVal_212 ?_
      exact F
    · have F := F.2 h25
      refine g_aload dJ21_putTreeVal_202 9 rfl ?_
      refine h_get (v := va_rf (gR G a1 7)) 13 7 (C := RJ21) (T := TJ21) (N := 11) rfl in_J21 (by decide) q1007 (Or.inl rfl) e2 c3 rfl dJ21_putTreeVal_204 ?_
      refine g_goto 215 dJ21_putTreeVal_207 (by decide) ?_
      exact F
theorem rJ21_putTreeVal_104 {Γ : GE} {l : Launch} {h MC MS : Nat} {Q : Option Value → GH → Prop} {bc bs : Nat} {G : GH} (x : Nat) (p1 : Option Nat) (p2 : Option Nat) (p3 : Int32) (p4 : Option Nat) (p5 : Option Nat) (p6 : Option Nat) (p7 : Int32) (p8 : Option Nat) (p9 : Option Nat) (p11 : Int32) (p12 : Option Nat) (F : (cI Γ l h mJ11_compareComparables [va_rf p6, va_rf p4, va_rf p12] G bc bs fun r1 Gr1 br1 sr1 => ((¬ r1 = 0 → (((0 : Int32) < r1 → (∃ a3, p9 = some a3 ∧ gC Gr1 a3 = kO 13 ∧ GW Γ l mJ21_putTreeVal h MC MS Q 215 [(0, va_rf (some x)), (1, va_rf p1), (2, va_rf p2), (3, .int p3), (4, va_rf p4), (5, va_rf p5), (6, va_rf p6), (7, .int p7), (8, va_rf p8), (9, va_rf p9), (10, .int r1), (11, .int p11), (13, va_rf p9)] [va_rf (gR Gr1 a3 8)] Gr1 br1 sr1)) ∧ (¬ (0 : Int32) < r1 → (∃ a6, p9 = some a6 ∧ gC Gr1 a6 = kO 13 ∧ GW Γ l mJ21_putTreeVal h MC MS Q 215 [(0, va_rf (some x)), (1, va_rf p1), (2, va_rf p2), (3, .int p3), (4, va_rf p4), (5, va_rf p5), (6, va_rf p6), (7, .int p7), (8, va_rf p8), (9, va_rf p9), (10, .int r1), (11, .int p11), (13, va_rf p9)] [va_rf (gR Gr1 a6 7)] Gr1 br1 sr1)))) ∧ (r1 = 0 → (GW Γ l mJ21_putTreeVal h MC MS Q 119 [(0, va_rf (some x)), (1, va_rf p1), (2, va_rf p2), (3, .int p3), (4, va_rf p4), (5, va_rf p5), (6, va_rf p6), (7, .int p7), (8, va_rf p8), (9, va_rf p9), (11, .int p11), (12, va_rf p12)] [] Gr1 br1 sr1))))) : GW Γ l mJ21_putTreeVal h MC MS Q 104 [(0, va_rf (some x)), (1, va_rf p1), (2, va_rf p2), (3, .int p3), (4, va_rf p4), (5, va_rf p5), (6, va_rf p6), (7, .int p7), (8, va_rf p8), (9, va_rf p9), (11, .int p11), (12, va_rf p12)] [] G bc bs := by
  refine g_aload dJ21_putTreeVal_104 6 rfl ?_
  refine g_aload dJ21_putTreeVal_106 4 rfl ?_
  refine g_aload dJ21_putTreeVal_108 11 rfl ?_
  refine h_callSI (As := [va_rf p6, va_rf p4, va_rf p12]) (rest := []) F 3 rfl (lw_S q737 q738 q123 q739) vm_J11_compareComparables.2 (by decide) rfl (room_of sc_nil (Nat.le_of_ble_eq_true rfl)) dJ21_putTreeVal_110 (fun r1 Gr1 br1 sr1 F => ?_)
  refine g_dup dJ21_putTreeVal_113 rfl ?_
  refine s_istore (lv' := [(0, va_rf (some x)), (1, va_rf p1), (2, va_rf p2), (3, .int p3), (4, va_rf p4), (5, va_rf p5), (6, va_rf p6), (7, .int p7), (8, va_rf p8), (9, va_rf p9), (10, .int r1), (11, .int p11), (12, va_rf p12)]) (cat_R (cat_R (cat_R (cat_I (cat_R (cat_R (cat_R (cat_I (cat_R (cat_R (cat_I (cat_R cat_nil)))))))))))) dJ21_putTreeVal_114 (by decide) rfl [1, 2, 3, 4, 5, 6, 7, 8, 9, 10, 0, 11, 12] rfl ?_
  refine g_if_ne 193 dJ21_putTreeVal_116 (by decide) (fun h10 => ?_) (fun h10 => ?_)
  · have F := F.1 h10
    refine g_aload dJ21_putTreeVal_193 9 rfl ?_
    refine s_astore (lv' := [(0, va_rf (some x)), (1, va_rf p1), (2, va_rf p2), (3, .int p3), (4, va_rf p4), (5, va_rf p5), (6, va_rf p6), (7, .int p7), (8, va_rf p8), (9, va_rf p9), (10, .int r1), (11, .int p11), (12, va_rf p12), (13, va_rf p9)]) (cat_R (cat_R (cat_R (cat_I (cat_R (cat_R (cat_R (cat_I (cat_R (cat_R (cat_I (cat_I (cat_R cat_nil))))))))))))) dJ21_putTreeVal_195 (by decide) rfl [1, 2, 3, 4, 5, 6, 7, 8, 9, 10, 11, 12, 13, 0] rfl ?_
    refine g_iload dJ21_putTreeVal_197 10 rfl ?_
    refine g_if_gt 210 dJ21_putTreeVal_199 (by decide) (fun h9 => ?_) (fun h9 => ?_)
    · have F := F.1 h9
      refine g_aload dJ21_putTreeVal_210 9 rfl ?_
      obtain ⟨a3, e4, F⟩ := F
      obtain ⟨c5, F⟩ := F
      refine h_get (v := va_rf (gR Gr1 a3 8)) 13 8 (C := RJ21) (T := TJ21) (N := 11) rfl in_J21 (by decide) q1008 (Or.inl rfl) e4 c5 rfl dJ21_putTreeVal_212 ?_
      refine GW.lsub (lv' := [(0, va_rf (some x)), (1, va_rf p1), (2, va_rf p2), (3, .int p3), (4, va_rf p4), (5, va_rf p5), (6, va_rf p6), (7, .int p7), (8, va_rf p8), (9, va_rf p9), (10, .int r1), (11, .int p11), (13, va_rf p9)]) [0, 1, 2, 3, 4, 5, 6, 7, 8, 9, 10, 11, 13] rfl ?_
      exact F
    · have F := F.2 h9
      refine g_aload dJ21_putTreeVal_202 9 rfl ?_
      obtain ⟨a6, e7, F⟩ := F
      obtain ⟨c8, F⟩ := F
      refine h_get (v := va_rf (gR Gr1 a6 7)) 13 7 (C := RJ21) (T := TJ21) (N := 11) rfl in_J21 (by decide) q1007 (Or.inl rfl) e7 c8 rfl dJ21_putTreeVal_204 ?_
      refine g_goto 215 dJ21_putTreeVal_207 (by decide) ?_
      refine GW.lsub (lv' := [(0, va_rf (some x)), (1, va_rf p1), (2, va_rf p2), (3, .int p3), (4, va_rf p4), (5, va_rf p5), (6, va_rf p6), (7, .int p7), (8, va_rf p8), (9, va_rf p9), (10, .int r1), (11, .int p11), (13, va_rf p9)]) [0, 1, 2, 3, 4, 5, 6, 7, 8, 9, 10, 11, 13] rfl ?_
      exact F
  · have F := F.2 h10
    refine GW.lsub (lv' := [(0, va_rf (some x)), (1, va_rf p1), (2, va_rf p2), (3, .int p3), (4, va_rf p4), (5, va_rf p5), (6, va_rf p6), (7, .int p7), (8, va_rf p8), (9, va_rf p9), (11, .int p11), (12, va_rf p12)]) [0, 1, 2, 3, 4, 5, 6, 7, 8, 9, 11, 12] rfl ?_
    exact F
theorem rJ21_putTreeVal_119 {Γ : GE} {l : Launch} {h MC MS : Nat} {Q : Option Value → GH → Prop} {bc bs : Nat} {G : GH} (x : Nat) (p1 : Option Nat) (p2 : Option Nat) (p3 : Int32) (p4 : Option Nat) (p5 : Option Nat) (p6 : Option Nat) (p7 : Int32) (p8 : Option Nat) (p9 : Option Nat) (p11 : Int32) (p12 : Option Nat) (F : ((¬ p7 = 0 → (False)) ∧ (p7 = 0 → (∃ a1, p9 = some a1 ∧ gC G a1 = kO 13 ∧ (((gR G a1 7) = none → (GW Γ l mJ21_putTreeVal h MC MS Q 154 [(0, va_rf (some x)), (1, va_rf p1), (2, va_rf p2), (3, .int p3), (4, va_rf p4), (5, va_rf p5), (6, va_rf p6), (7, .int 1), (8, va_rf p8), (9, va_rf p9), (11, .int p11), (12, va_rf p12), (14, va_rf (gR G a1 7))] [] G bc bs)) ∧ (∀ a4, (gR G a1 7) = some a4 → (gC G a4 = kO 13 ∧ cR Γ l h mJ21_find [.ref a4, .int p3, va_rf p4, va_rf p6] G bc bs fun r6 Gr6 br6 sr6 => ((∀ a9, r6 = some a9 → (Q (some (va_rf r6)) Gr6)) ∧ (r6 = none → (GW Γ l mJ21_putTreeVal h MC MS Q 154 [(0, va_rf (some x)), (1, va_rf p1), (2, va_rf p2), (3, .int p3), (4, va_rf p4), (5, va_rf p5), (6, va_rf p6), (7, .int 1), (8, va_rf p8), (9, va_rf p9), (11, .int p11), (12, va_rf p12), (14, va_rf (gR G a1 7))] [] Gr6 br6 sr6)))))))))) : GW Γ l mJ21_putTreeVal h MC MS Q 119 [(0, va_rf (some x)), (1, va_rf p1), (2, va_rf p2), (3, .int p3), (4, va_rf p4), (5, va_rf p5), (6, va_rf p6), (7, .int p7), (8, va_rf p8), (9, va_rf p9), (11, .int p11), (12, va_rf p12)] [] G bc bs := by
  refine g_iload dJ21_putTreeVal_119 7 rfl ?_
  refine g_if_ne 184 dJ21_putTreeVal_121 (by decide) (fun h11 => ?_) (fun h11 => ?_)
  · have F := F.1 h11
    refine g_aload dJ21_putTreeVal_184 4 rfl ?_
    refine g_aload dJ21_putTreeVal_186 11 rfl ?_
    exact F.elim
  · have F := F.2 h11
    refine g_iconst (v := 1) dJ21_putTreeVal_124 (by decide) ?_
    refine s_istore (lv' := [(0, va_rf (some x)), (1, va_rf p1), (2, va_rf p2), (3, .int p3), (4, va_rf p4), (5, va_rf p5), (6, va_rf p6), (7, .int 1), (8, va_rf p8), (9, va_rf p9), (11, .int p11), (12, va_rf p12)]) (cat_R (cat_R (cat_R (cat_I (cat_R (cat_R (cat_R (cat_I (cat_R (cat_R (cat_I (cat_R cat_nil)))))))))))) dJ21_putTreeVal_125 (by decide) rfl [1, 2, 3, 4, 5, 6, 7, 0, 8, 9, 10, 11] rfl ?_
    refine g_aload dJ21_putTreeVal_127 9 rfl ?_
    obtain ⟨a1, e2, F⟩ := F
    obtain ⟨c3, F⟩ := F
    refine h_get (v := va_rf (gR G a1 7)) 13 7 (C := RJ21) (T := TJ21) (N := 11) rfl in_J21 (by decide) q1007 (Or.inl rfl) e2 c3 rfl dJ21_putTreeVal_129 ?_
    refine g_dup dJ21_putTreeVal_132 (va_rf_cat _) ?_
    refine s_astore (lv' := [(0, va_rf (some x)), (1, va_rf p1), (2, va_rf p2), (3, .int p3), (4, va_rf p4), (5, va_rf p5), (6, va_rf p6), (7, .int 1), (8, va_rf p8), (9, va_rf p9), (11, .int p11), (12, va_rf p12), (14, va_rf (gR G a1 7))]) (cat_R (cat_R (cat_R (cat_I (cat_R (cat_R (cat_R (cat_I (cat_R (cat_R (cat_I (cat_R cat_nil)))))))))))) dJ21_putTreeVal_133 (by decide) rfl [1, 2, 3, 4, 5, 6, 7, 8, 9, 10, 11, 12, 0] rfl ?_
    refine g_ifnull 154 dJ21_putTreeVal_135 (by decide) (fun e5 => ?_) (fun a4 e5 => ?_)
    · have F := F.1 e5
      exact F
    · have F := F.2 a4 e5
      refine g_aload dJ21_putTreeVal_138 12 rfl ?_
      refine g_iload_n dJ21_putTreeVal_140 rfl 3 rfl ?_
      refine g_aload dJ21_putTreeVal_141 4 rfl ?_
      refine g_aload dJ21_putTreeVal_143 6 rfl ?_
      obtain ⟨c7, F⟩ := F
      refine h_callVR (ci := 13) (C := RJ21) (T := TJ21) (N := 11) (As := [.int p3, va_rf p4, va_rf p6]) (rest := []) F 3 rfl rfl (lw_V q990 q991 q992 q136 q993) vm_J21_find (by decide) e5 c7 rfl (room_of sc_nil (Nat.le_of_ble_eq_true rfl)) dJ21_putTreeVal_145 (fun r6 Gr6 br6 sr6 F => ?_)
      refine g_dup dJ21_putTreeVal_148 (va_rf_cat _) ?_
      refine s_astore (lv' := [(0, va_rf (some x)), (1, va_rf p1), (2, va_rf p2), (3, .int p3), (4, va_rf p4), (5, va_rf p5), (6, va_rf p6), (7, .int 1), (8, va_rf p8), (9, va_rf p9), (11, .int p11), (12, va_rf p12), (13, va_rf r6), (14, va_rf (gR G a1 7))]) (cat_R (cat_R (cat_R (cat_I (cat_R (cat_R (cat_R (cat_I (cat_R (cat_R (cat_I (cat_R (cat_R cat_nil))))))))))))) dJ21_putTreeVal_149 (by decide) rfl [1, 2, 3, 4, 5, 6, 7, 8, 9, 10, 11, 12, 0, 13] rfl ?_
      refine g_ifnonnull 181 dJ21_putTreeVal_151 (by decide) (fun a9 e10 => ?_) (fun e10 => ?_)
      · have F := F.1 a9 e10
        refine g_aload dJ21_putTreeVal_181 12 rfl ?_
        exact g_aret (r := r6) rfl (Or.inl ⟨_, rfl⟩) dJ21_putTreeVal_183 F
      · have F := F.2 e10
        refine GW.lsub (lv' := [(0, va_rf (some x)), (1, va_rf p1), (2, va_rf p2), (3, .int p3), (4, va_rf p4), (5, va_rf p5), (6, va_rf p6), (7, .int 1), (8, va_rf p8), (9, va_rf p9), (11, .int p11), (12, va_rf p12), (14, va_rf (gR G a1 7))]) [0, 1, 2, 3, 4, 5, 6, 7, 8, 9, 10, 11, 13] rfl ?_
        exact F
theorem rJ21_putTreeVal_154 {Γ : GE} {l : Launch} {h MC MS : Nat} {Q : Option Value → GH → Prop} {bc bs : Nat} {G : GH} (x : Nat) (p1 : Option Nat) (p2 : Option Nat) (p3 : Int32) (p4 : Option Nat) (p5 : Option Nat) (p6 : Option Nat) (p7 : Int32) (p8 : Option Nat) (p9 : Option Nat) (p11 : Int32) (p12 : Option Nat) (p14 : Option Nat) (F : (∃ a1, p9 = some a1 ∧ gC G a1 = kO 13 ∧ (((gR G a1 8) = none → (False)) ∧ (∀ a4, (gR G a1 8) = some a4 → (gC G a4 = kO 13 ∧ cR Γ l h mJ21_find [.ref a4, .int p3, va_rf p4, va_rf p6] G bc bs fun r6 Gr6 br6 sr6 => ((r6 = none → (False)) ∧ (∀ a9, r6 = some a9 → (Q (some (va_rf r6)) Gr6)))))))) : GW Γ l mJ21_putTreeVal h MC MS Q 154 [(0, va_rf (some x)), (1, va_rf p1), (2, va_rf p2), (3, .int p3), (4, va_rf p4), (5, va_rf p5), (6, va_rf p6), (7, .int p7), (8, va_rf p8), (9, va_rf p9), (11, .int p11), (12, va_rf p12), (14, va_rf p14)] [] G bc bs := by
  refine g_aload dJ21_putTreeVal_154 9 rfl ?_
  obtain ⟨a1, e2, F⟩ := F
  obtain ⟨c3, F⟩ := F
  refine h_get (v := va_rf (gR G a1 8)) 13 8 (C := RJ21) (T := TJ21) (N := 11) rfl in_J21 (by decide) q1008 (Or.inl rfl) e2 c3 rfl dJ21_putTreeVal_156 ?_
  refine g_dup dJ21_putTreeVal_159 (va_rf_cat _) ?_
  refine s_astore (lv' := [(0, va_rf (some x)), (1, va_rf p1), (2, va_rf p2), (3, .int p3), (4, va_rf p4), (5, va_rf p5), (6, va_rf p6), (7, .int p7), (8, va_rf p8), (9, va_rf p9), (11, .int p11), (12, va_rf p12), (14, va_rf (gR G a1 8))]) (cat_R (cat_R (cat_R (cat_I (cat_R (cat_R (cat_R (cat_I (cat_R (cat_R (cat_I (cat_R (cat_R cat_nil))))))))))))) dJ21_putTreeVal_160 (by decide) rfl [1, 2, 3, 4, 5, 6, 7, 8, 9, 10, 11, 12, 0] rfl ?_
  refine g_ifnull 184 dJ21_putTreeVal_162 (by decide) (fun e5 => ?_) (fun a4 e5 => ?_)
  · have F := F.1 e5
    refine g_aload dJ21_putTreeVal_184 4 rfl ?_
    refine g_aload dJ21_putTreeVal_186 11 rfl ?_
    exact F.elim
  · have F := F.2 a4 e5
    refine g_aload dJ21_putTreeVal_165 12 rfl ?_
    refine g_iload_n dJ21_putTreeVal_167 rfl 3 rfl ?_
    refine g_aload dJ21_putTreeVal_168 4 rfl ?_
    refine g_aload dJ21_putTreeVal_170 6 rfl ?_
    obtain ⟨c7, F⟩ := F
    refine h_callVR (ci := 13) (C := RJ21) (T := TJ21) (N := 11) (As := [.int p3, va_rf p4, va_rf p6]) (rest := []) F 3 rfl rfl (lw_V q990 q991 q992 q136 q993) vm_J21_find (by decide) e5 c7 rfl (room_of sc_nil (Nat.le_of_ble_eq_true rfl)) dJ21_putTreeVal_172 (fun r6 Gr6 br6 sr6 F => ?_)
    refine g_dup dJ21_putTreeVal_175 (va_rf_cat _) ?_
    refine s_astore (lv' := [(0, va_rf (some x)), (1, va_rf p1), (2, va_rf p2), (3, .int p3), (4, va_rf p4), (5, va_rf p5), (6, va_rf p6), (7, .int p7), (8, va_rf p8), (9, va_rf p9), (11, .int p11), (12, va_rf p12), (13, va_rf r6), (14, va_rf (gR G a1 8))]) (cat_R (cat_R (cat_R (cat_I (cat_R (cat_R (cat_R (cat_I (cat_R (cat_R (cat_I (cat_R (cat_R cat_nil))))))))))))) dJ21_putTreeVal_176 (by decide) rfl [1, 2, 3, 4, 5, 6, 7, 8, 9, 10, 11, 12, 0, 13] rfl ?_
    refine g_ifnull 184 dJ21_putTreeVal_178 (by decide) (fun e10 => ?_) (fun a9 e10 => ?_)
    · have F := F.1 e10
      refine g_aload dJ21_putTreeVal_184 4 rfl ?_
      refine g_aload dJ21_putTreeVal_186 11 rfl ?_
      exact F.elim
    · have F := F.2 a9 e10
      refine g_aload dJ21_putTreeVal_181 12 rfl ?_
      exact g_aret (r := r6) rfl (Or.inl ⟨_, rfl⟩) dJ21_putTreeVal_183 F
theorem rJ21_putTreeVal_215 {Γ : GE} {l : Launch} {h MC MS : Nat} {Q : Option Value → GH → Prop} {bc bs : Nat} {G : GH} (x : Nat) (p1 : Option Nat) (p2 : Option Nat) (p3 : Int32) (p4 : Option Nat) (p5 : Option Nat) (p6 : Option Nat) (p7 : Int32) (p8 : Option Nat) (p9 : Option Nat) (p10 : Int32) (p11 : Int32) (p13 : Option Nat) (s0 : Option Nat) (F : ((∀ a1, s0 = some a1 → (GW Γ l mJ21_putTreeVal h MC MS Q 27 [(0, va_rf (some x)), (1, va_rf p1), (2, va_rf p2), (3, .int p3), (4, va_rf p4), (5, va_rf p5), (6, va_rf p6), (7, .int p7), (8, va_rf p8), (9, va_rf s0)] [] G bc bs)) ∧ (s0 = none → (∃ a3, p13 = some a3 ∧ gC G a3 = kO 13 ∧ ∃ a7, p1 = some a7 ∧ gC G a7 = kO 11 ∧ cR Γ l h mJ11_newTreeNode [.ref a7, .int p3, va_rf p4, va_rf p5, va_rf (gR G a3 5)] G bc bs fun r6 Gr6 br6 sr6 => (((0 : Int32) < p10 → (gC Gr6 a3 = kO 13 ∧ gM Gr6 a3 = true ∧ GW Γ l mJ21_putTreeVal h MC MS Q 263 [(0, va_rf (some x)), (1, va_rf p1), (2, va_rf p2), (3, .int p3), (4, va_rf p4), (5, va_rf p5), (6, va_rf p6), (7, .int p7), (8, va_rf p8), (9, va_rf s0), (10, .int p10), (11, .int p11), (13, va_rf p13), (14, va_rf (gR G a3 5)), (15, va_rf r6)] [] (sR Gr6 a3 8 r6) br6 sr6)) ∧ (¬ (0 : Int32) < p10 → (gC Gr6 a3 = kO 13 ∧ gM Gr6 a3 = true ∧ GW Γ l mJ21_putTreeVal h MC MS Q 263 [(0, va_rf (some x)), (1, va_rf p1), (2, va_rf p2), (3, .int p3), (4, va_rf p4), (5, va_rf p5), (6, va_rf p6), (7, .int p7), (8, va_rf p8), (9, va_rf s0), (10, .int p10), (11, .int p11), (13, va_rf p13), (14, va_rf (gR G a3 5)), (15, va_rf r6)] [] (sR Gr6 a3 7 r6) br6 sr6))))))) : GW Γ l mJ21_putTreeVal h MC MS Q 215 [(0, va_rf (some x)), (1, va_rf p1), (2, va_rf p2), (3, .int p3), (4, va_rf p4), (5, va_rf p5), (6, va_rf p6), (7, .int p7), (8, va_rf p8), (9, va_rf p9), (10, .int p10), (11, .int p11), (13, va_rf p13)] [va_rf s0] G bc bs := by
  refine g_dup dJ21_putTreeVal_215 (va_rf_cat _) ?_
  refine s_astore (lv' := [(0, va_rf (some x)), (1, va_rf p1), (2, va_rf p2), (3, .int p3), (4, va_rf p4), (5, va_rf p5), (6, va_rf p6), (7, .int p7), (8, va_rf p8), (9, va_rf s0), (10, .int p10), (11, .int p11), (13, va_rf p13)]) (cat_R (cat_R (cat_R (cat_I (cat_R (cat_R (cat_R (cat_I (cat_R (cat_R (cat_I (cat_I (cat_R cat_nil))))))))))))) dJ21_putTreeVal_216 (by decide) rfl [1, 2, 3, 4, 5, 6, 7, 8, 9, 0, 10, 11, 12] rfl ?_
  refine g_ifnonnull 311 dJ21_putTreeVal_218 (by decide) (fun a1 e2 => ?_) (fun e2 => ?_)
  · have F := F.1 a1 e2
    refine g_goto 27 dJ21_putTreeVal_311 (by decide) ?_
    refine GW.lsub (lv' := [(0, va_rf (some x)), (1, va_rf p1), (2, va_rf p2), (3, .int p3), (4, va_rf p4), (5, va_rf p5), (6, va_rf p6), (7, .int p7), (8, va_rf p8), (9, va_rf s0)]) [0, 1, 2, 3, 4, 5, 6, 7, 8, 9] rfl ?_
    exact F
  · have F := F.2 e2
    refine g_aload dJ21_putTreeVal_221 12 rfl ?_
    obtain ⟨a3, e4, F⟩ := F
    obtain ⟨c5, F⟩ := F
    refine h_get (v := va_rf (gR G a3 5)) 13 5 (C := RJ21) (T := TJ21) (N := 11) rfl in_J21 (by decide) q713 (Or.inr q714) e4 c5 rfl dJ21_putTreeVal_223 ?_
    refine s_astore (lv' := [(0, va_rf (some x)), (1, va_rf p1), (2, va_rf p2), (3, .int p3), (4, va_rf p4), (5, va_rf p5), (6, va_rf p6), (7, .int p7), (8, va_rf p8), (9, va_rf s0), (10, .int p10), (11, .int p11), (13, va_rf p13), (14, va_rf (gR G a3 5))]) (cat_R (cat_R (cat_R (cat_I (cat_R (cat_R (cat_R (cat_I (cat_R (cat_R (cat_I (cat_I (cat_R cat_nil))))))))))))) dJ21_putTreeVal_226 (by decide) rfl [1, 2, 3, 4, 5, 6, 7, 8, 9, 10, 11, 12, 13, 0] rfl ?_
    refine g_aload_n dJ21_putTreeVal_228 rfl 1 rfl ?_
    refine g_iload_n dJ21_putTreeVal_229 rfl 3 rfl ?_
    refine g_aload dJ21_putTreeVal_230 4 rfl ?_
    refine g_aload dJ21_putTreeVal_232 5 rfl ?_
    refine g_aload dJ21_putTreeVal_234 13 rfl ?_
    obtain ⟨a7, e8, F⟩ := F
    obtain ⟨c9, F⟩ := F
    refine h_callVR (ci := 11) (C := RJ11) (T := TJ11) (N := 8) (As := [.int p3, va_rf p4, va_rf p5, va_rf (gR G a3 5)]) (rest := []) F 4 rfl rfl (lw_V q994 q995 q996 q123 q997) vm_J11_newTreeNode (by decide) e8 c9 rfl (room_of sc_nil (Nat.le_of_ble_eq_true rfl)) dJ21_putTreeVal_236 (fun r6 Gr6 br6 sr6 F => ?_)
    refine s_astore (lv' := [(0, va_rf (some x)), (1, va_rf p1), (2, va_rf p2), (3, .int p3), (4, va_rf p4), (5, va_rf p5), (6, va_rf p6), (7, .int p7), (8, va_rf p8), (9, va_rf s0), (10, .int p10), (11, .int p11), (13, va_rf p13), (14, va_rf (gR G a3 5)), (15, va_rf r6)]) (cat_R (cat_R (cat_R (cat_I (cat_R (cat_R (cat_R (cat_I (cat_R (cat_R (cat_I (cat_I (cat_R (cat_R cat_nil)))))))))))))) dJ21_putTreeVal_239 (by decide) rfl [1, 2, 3, 4, 5, 6, 7, 8, 9, 10, 11, 12, 13, 14, 0] rfl ?_
    refine g_iload dJ21_putTreeVal_241 10 rfl ?_
    refine g_if_gt 256 dJ21_putTreeVal_243 (by decide) (fun h15 => ?_) (fun h15 => ?_)
    · have F := F.1 h15
      refine g_aload dJ21_putTreeVal_256 12 rfl ?_
      refine g_aload dJ21_putTreeVal_258 14 rfl ?_
      obtain ⟨c11, F⟩ := F
      obtain ⟨m12, F⟩ := F
      refine h_putR (mi := mJ21_putTreeVal) 13 8 (C := RJ21) (T := TJ21) (N := 11) rfl in_J21 tyJ21_ok nmJ21 (by decide) q1008 (Or.inl rfl) (Or.inl rfl) rfl rfl e4 c11 m12 dJ21_putTreeVal_260 ?_
      exact F
    · have F := F.2 h15
      refine g_aload dJ21_putTreeVal_246 12 rfl ?_
      refine g_aload dJ21_putTreeVal_248 14 rfl ?_
      obtain ⟨c13, F⟩ := F
      obtain ⟨m14, F⟩ := F
      refine h_putR (mi := mJ21_putTreeVal) 13 7 (C := RJ21) (T := TJ21) (N := 11) rfl in_J21 tyJ21_ok nmJ21 (by decide) q1007 (Or.inl rfl) (Or.inl rfl) rfl rfl e4 c13 m14 dJ21_putTreeVal_250 ?_
      refine g_goto 263 dJ21_putTreeVal_253 (by decide) ?_
      exact F
theorem rJ21_putTreeVal_263 {Γ : GE} {l : Launch} {h MC MS : Nat} {Q : Option Value → GH → Prop} {bc bs : Nat} {G : GH} (x : Nat) (p1 : Option Nat) (p2 : Option Nat) (p3 : Int32) (p4 : Option Nat) (p5 : Option Nat) (p6 : Option Nat) (p7 : Int32) (p8 : Option Nat) (p9 : Option Nat) (p10 : Int32) (p11 : Int32) (p13 : Option Nat) (p14 : Option Nat) (p15 : Option Nat) (F : (∃ a1, p13 = some a1 ∧ gC G a1 = kO 13 ∧ gM G a1 = true ∧ ∃ a5, p15 = some a5 ∧ gC (sR G a1 5 p15) a5 = kO 13 ∧ gM (sR G a1 5 p15) a5 = true ∧ ((p14 = none → (cR Γ l h mJ21_balanceInsertion [va_rf p8, va_rf p15] (sR (sR (sR G a1 5 p15) a5 9 p13) a5 6 p13) bc bs fun r11 Gr11 br11 sr11 => cV Γ l h mJ21_moveRootToFront [va_rf p2, va_rf r11] Gr11 br11 sr11 fun Gr13 br13 sr13 => Q (some (va_rf none)) Gr13)) ∧ (∀ a9, p14 = some a9 → (okCast (sR (sR (sR G a1 5 p15) a5 9 p13) a5 6 p13) p14 "java/util/HashMap$TreeNode" ∧ gC (sR (sR (sR G a1 5 p15) a5 9 p13) a5 6 p13) a9 = kO 13 ∧ gM (sR (sR (sR G a1 5 p15) a5 9 p13) a5 6 p13) a9 = true ∧ cR Γ l h mJ21_balanceInsertion [va_rf p8, va_rf p15] (sR (sR (sR (sR G a1 5 p15) a5 9 p13) a5 6 p13) a9 9 p15) bc bs fun r18 Gr18 br18 sr18 => cV Γ l h mJ21_moveRootToFront [va_rf p2, va_rf r18] Gr18 br18 sr18 fun Gr20 br20 sr20 => Q (some (va_rf none)) Gr20))))) : GW Γ l mJ21_putTreeVal h MC MS Q 263 [(0, va_rf (some x)), (1, va_rf p1), (2, va_rf p2), (3, .int p3), (4, va_rf p4), (5, va_rf p5), (6, va_rf p6), (7, .int p7), (8, va_rf p8), (9, va_rf p9), (10, .int p10), (11, .int p11), (13, va_rf p13), (14, va_rf p14), (15, va_rf p15)] [] G bc bs := by
  refine g_aload dJ21_putTreeVal_263 12 rfl ?_
  refine g_aload dJ21_putTreeVal_265 14 rfl ?_
  obtain ⟨a1, e2, F⟩ := F
  obtain ⟨c3, F⟩ := F
  obtain ⟨m4, F⟩ := F
  refine h_putR (mi := mJ21_putTreeVal) 13 5 (C := RJ21) (T := TJ21) (N := 11) rfl in_J21 tyJ21_ok nmJ21 (by decide) q713 (Or.inr q714) (Or.inl rfl) rfl rfl e2 c3 m4 dJ21_putTreeVal_267 ?_
  refine g_aload dJ21_putTreeVal_270 14 rfl ?_
  refine g_aload dJ21_putTreeVal_272 14 rfl ?_
  refine g_aload dJ21_putTreeVal_274 12 rfl ?_
  refine g_dup_x1 dJ21_putTreeVal_276 (va_rf_cat _) (va_rf_cat _) ?_
  obtain ⟨a5, e6, F⟩ := F
  obtain ⟨c7, F⟩ := F
  obtain ⟨m8, F⟩ := F
  refine h_putR (mi := mJ21_putTreeVal) 13 9 (C := RJ21) (T := TJ21) (N := 11) rfl in_J21 tyJ21_ok nmJ21 (by decide) q1009 (Or.inl rfl) (Or.inl rfl) rfl rfl e6 c7 m8 dJ21_putTreeVal_277 ?_
  refine h_putR (mi := mJ21_putTreeVal) 13 6 (C := RJ21) (T := TJ21) (N := 11) rfl in_J21 tyJ21_ok nmJ21 (by decide) q1006 (Or.inl rfl) (Or.inl rfl) rfl rfl e6 c7 m8 dJ21_putTreeVal_280 ?_
  refine g_aload dJ21_putTreeVal_283 13 rfl ?_
  refine g_ifnull 298 dJ21_putTreeVal_285 (by decide) (fun e10 => ?_) (fun a9 e10 => ?_)
  · have F := F.1 e10
    refine g_aload_n dJ21_putTreeVal_298 rfl 2 rfl ?_
    refine g_aload dJ21_putTreeVal_299 8 rfl ?_
    refine g_aload dJ21_putTreeVal_301 14 rfl ?_
    refine h_callSR (As := [va_rf p8, va_rf p15]) (rest := [va_rf p2]) F 2 rfl (lw_S q937 q938 q136 q939) vm_J21_balanceInsertion.2 (by decide) rfl (room_of (sc_R sc_nil) (Nat.le_of_ble_eq_true rfl)) dJ21_putTreeVal_303 (fun r11 Gr11 br11 sr11 F => ?_)
    refine h_callSV (As := [va_rf p2, va_rf r11]) (rest := []) F 2 rfl (lw_S q946 q947 q136 q948) vm_J21_moveRootToFront.2 (by decide) rfl (room_of sc_nil (Nat.le_of_ble_eq_true rfl)) dJ21_putTreeVal_306 (fun Gr13 br13 sr13 F => ?_)
    refine g_null dJ21_putTreeVal_309 ?_
    exact g_aret (r := none) rfl (Or.inl ⟨_, rfl⟩) dJ21_putTreeVal_310 F
  · have F := F.2 a9 e10
    refine g_aload dJ21_putTreeVal_288 13 rfl ?_
    obtain ⟨k15, F⟩ := F
    refine h_castO q688 k15 dJ21_putTreeVal_290 ?_
    refine g_aload dJ21_putTreeVal_293 14 rfl ?_
    obtain ⟨c16, F⟩ := F
    obtain ⟨m17, F⟩ := F
    refine h_putR (mi := mJ21_putTreeVal) 13 9 (C := RJ21) (T := TJ21) (N := 11) rfl in_J21 tyJ21_ok nmJ21 (by decide) q1009 (Or.inl rfl) (Or.inl rfl) rfl rfl e10 c16 m17 dJ21_putTreeVal_295 ?_
    refine g_aload_n dJ21_putTreeVal_298 rfl 2 rfl ?_
    refine g_aload dJ21_putTreeVal_299 8 rfl ?_
    refine g_aload dJ21_putTreeVal_301 14 rfl ?_
    refine h_callSR (As := [va_rf p8, va_rf p15]) (rest := [va_rf p2]) F 2 rfl (lw_S q937 q938 q136 q939) vm_J21_balanceInsertion.2 (by decide) rfl (room_of (sc_R sc_nil) (Nat.le_of_ble_eq_true rfl)) dJ21_putTreeVal_303 (fun r18 Gr18 br18 sr18 F => ?_)
    refine h_callSV (As := [va_rf p2, va_rf r18]) (rest := []) F 2 rfl (lw_S q946 q947 q136 q948) vm_J21_moveRootToFront.2 (by decide) rfl (room_of sc_nil (Nat.le_of_ble_eq_true rfl)) dJ21_putTreeVal_306 (fun Gr20 br20 sr20 F => ?_)
    refine g_null dJ21_putTreeVal_309 ?_
    exact g_aret (r := none) rfl (Or.inl ⟨_, rfl⟩) dJ21_putTreeVal_310 F
theorem rJ21_root_0 {Γ : GE} {l : Launch} {h MC MS : Nat} {Q : Option Value → GH → Prop} {bc bs : Nat} {G : GH} (x : Nat) (F : (GW Γ l mJ21_root h MC MS Q 2 [(0, va_rf (some x)), (1, va_rf (some x))] [] G bc bs)) : GW Γ l mJ21_root h MC MS Q 0 [(0, va_rf (some x))] [] G bc bs := by
  refine g_aload_n dJ21_root_0 rfl 0 rfl ?_
  refine s_astore_n (lv' := [(0, va_rf (some x)), (1, va_rf (some x))]) (cat_R cat_nil) dJ21_root_1 rfl (by decide) rfl [1, 0] rfl ?_
  exact F
theorem rJ21_root_2 {Γ : GE} {l : Launch} {h MC MS : Nat} {Q : Option Value → GH → Prop} {bc bs : Nat} {G : GH} (x : Nat) (p1 : Option Nat) (F : (∃ a1, p1 = some a1 ∧ gC G a1 = kO 13 ∧ ((∀ a4, (gR G a1 6) = some a4 → (GW Γ l mJ21_root h MC MS Q 2 [(0, va_rf (some x)), (1, va_rf (gR G a1 6))] [] G bc bs)) ∧ ((gR G a1 6) = none → (Q (some (va_rf p1)) G))))) : GW Γ l mJ21_root h MC MS Q 2 [(0, va_rf (some x)), (1, va_rf p1)] [] G bc bs := by
  refine g_aload_n dJ21_root_2 rfl 1 rfl ?_
  obtain ⟨a1, e2, F⟩ := F
  obtain ⟨c3, F⟩ := F
  refine h_get (v := va_rf (gR G a1 6)) 13 6 (C := RJ21) (T := TJ21) (N := 11) rfl in_J21 (by decide) q1006 (Or.inl rfl) e2 c3 rfl dJ21_root_3 ?_
  refine g_dup dJ21_root_6 (va_rf_cat _) ?_
  refine s_astore_n (lv' := [(0, va_rf (some x)), (1, va_rf p1), (2, va_rf (gR G a1 6))]) (cat_R (cat_R cat_nil)) dJ21_root_7 rfl (by decide) rfl [1, 2, 0] rfl ?_
  refine g_ifnonnull 13 dJ21_root_8 (by decide) (fun a4 e5 => ?_) (fun e5 => ?_)
  · have F := F.1 a4 e5
    refine g_aload_n dJ21_root_13 rfl 2 rfl ?_
    refine s_astore_n (lv' := [(0, va_rf (some x)), (1, va_rf (gR G a1 6)), (2, va_rf (gR G a1 6))]) (cat_R (cat_R (cat_R cat_nil))) dJ21_root_14 rfl (by decide) rfl [1, 0, 2] rfl ?_
    refine g_goto 2 dJ21_root_15 (by decide) ?_
    refine GW.lsub (lv' := [(0, va_rf (some x)), (1, va_rf (gR G a1 6))]) [0, 1] rfl ?_
    exact F
  · have F := F.2 e5
    refine g_aload_n dJ21_root_11 rfl 1 rfl ?_
    exact g_aret (r := p1) rfl (Or.inl ⟨_, rfl⟩) dJ21_root_12 F
theorem rJ21_find_0 {Γ : GE} {l : Launch} {h MC MS : Nat} {Q : Option Value → GH → Prop} {bc bs : Nat} {G : GH} (x : Nat) (p1 : Int32) (p2 : Option Nat) (p3 : Option Nat) (F : (GW Γ l mJ21_find h MC MS Q 3 [(0, va_rf (some x)), (1, .int p1), (2, va_rf p2), (3, va_rf p3), (4, va_rf (some x))] [] G bc bs)) : GW Γ l mJ21_find h MC MS Q 0 [(0, va_rf (some x)), (1, .int p1), (2, va_rf p2), (3, va_rf p3)] [] G bc bs := by
  refine g_aload_n dJ21_find_0 rfl 0 rfl ?_
  refine s_astore (lv' := [(0, va_rf (some x)), (1, .int p1), (2, va_rf p2), (3, va_rf p3), (4, va_rf (some x))]) (cat_R (cat_I (cat_R (cat_R cat_nil)))) dJ21_find_1 (by decide) rfl [1, 2, 3, 4, 0] rfl ?_
  exact F
theorem rJ21_find_3 {Γ : GE} {l : Launch} {h MC MS : Nat} {Q : Option Value → GH → Prop} {bc bs : Nat} {G : GH} (x : Nat) (p1 : Int32) (p2 : Option Nat) (p3 : Option Nat) (p4 : Option Nat) (F : (∃ a1, p4 = some a1 ∧ gC G a1 = kO 13 ∧ (((gI G a1 2) ≤ p1 → ((p1 ≤ (gI G a1 2) → (((gR G a1 3) = p2 → (Q (some (va_rf p4)) G)) ∧ (¬ (gR G a1 3) = p2 → ((p2 = none → (GW Γ l mJ21_find h MC MS Q 77 [(0, va_rf (some x)), (1, .int p1), (2, va_rf p2), (3, va_rf p3), (4, va_rf p4), (5, .int (gI G a1 2)), (7, va_rf (gR G a1 3)), (8, va_rf (gR G a1 7)), (9, va_rf (gR G a1 8))] [] G bc bs)) ∧ (∀ a4, p2 = some a4 → (gC G a4 = kO 5 ∧ cI Γ l h mX3_equals [.ref a4, va_rf (gR G a1 3)] G bc bs fun r6 Gr6 br6 sr6 => ((r6 = 0 → (GW Γ l mJ21_find h MC MS Q 77 [(0, va_rf (some x)), (1, .int p1), (2, va_rf p2), (3, va_rf p3), (4, va_rf p4), (5, .int (gI G a1 2)), (7, va_rf (gR G a1 3)), (8, va_rf (gR G a1 7)), (9, va_rf (gR G a1 8))] [] Gr6 br6 sr6)) ∧ (¬ r6 = 0 → (Q (some (va_rf p4)) Gr6))))))))) ∧ (¬ p1 ≤ (gI G a1 2) → ((∀ a11, (gR G a1 8) = some a11 → (GW Γ l mJ21_find h MC MS Q 3 [(0, va_rf (some x)), (1, .int p1), (2, va_rf p2), (3, va_rf p3), (4, va_rf (gR G a1 8))] [] G bc bs)) ∧ ((gR G a1 8) = none → (Q (some (va_rf none)) G)))))) ∧ (¬ (gI G a1 2) ≤ p1 → ((∀ a14, (gR G a1 7) = some a14 → (GW Γ l mJ21_find h MC MS Q 3 [(0, va_rf (some x)), (1, .int p1), (2, va_rf p2), (3, va_rf p3), (4, va_rf (gR G a1 7))] [] G bc bs)) ∧ ((gR G a1 7) = none → (Q (some (va_rf none)) G))))))) : GW Γ l mJ21_find h MC MS Q 3 [(0, va_rf (some x)), (1, .int p1), (2, va_rf p2), (3, va_rf p3), (4, va_rf p4)] [] G bc bs := by
  refine g_aload dJ21_find_3 4 rfl ?_
  obtain ⟨a1, e2, F⟩ := F
  obtain ⟨c3, F⟩ := F
  refine h_get (v := va_rf (gR G a1 7)) 13 7 (C := RJ21) (T := TJ21) (N := 11) rfl in_J21 (by decide) q1007 (Or.inl rfl) e2 c3 rfl dJ21_find_5 ?_
  refine s_astore (lv' := [(0, va_rf (some x)), (1, .int p1), (2, va_rf p2), (3, va_rf p3), (4, va_rf p4), (8, va_rf (gR G a1 7))]) (cat_R (cat_I (cat_R (cat_R (cat_R cat_nil))))) dJ21_find_8 (by decide) rfl [1, 2, 3, 4, 5, 0] rfl ?_
  refine g_aload dJ21_find_10 4 rfl ?_
  refine h_get (v := va_rf (gR G a1 8)) 13 8 (C := RJ21) (T := TJ21) (N := 11) rfl in_J21 (by decide) q1008 (Or.inl rfl) e2 c3 rfl dJ21_find_12 ?_
  refine s_astore (lv' := [(0, va_rf (some x)), (1, .int p1), (2, va_rf p2), (3, va_rf p3), (4, va_rf p4), (8, va_rf (gR G a1 7)), (9, va_rf (gR G a1 8))]) (cat_R (cat_I (cat_R (cat_R (cat_R (cat_R cat_nil)))))) dJ21_find_15 (by decide) rfl [1, 2, 3, 4, 5, 6, 0] rfl ?_
  refine g_aload dJ21_find_17 4 rfl ?_
  refine h_get (v := .int (gI G a1 2)) 13 2 (C := RJ21) (T := TJ21) (N := 11) rfl in_J21 (by decide) q703 (Or.inr q704) e2 c3 rfl dJ21_find_19 ?_
  refine g_dup dJ21_find_22 rfl ?_
  refine s_istore (lv' := [(0, va_rf (some x)), (1, .int p1), (2, va_rf p2), (3, va_rf p3), (4, va_rf p4), (5, .int (gI G a1 2)), (8, va_rf (gR G a1 7)), (9, va_rf (gR G a1 8))]) (cat_R (cat_I (cat_R (cat_R (cat_R (cat_R (cat_R cat_nil))))))) dJ21_find_23 (by decide) rfl [1, 2, 3, 4, 5, 0, 6, 7] rfl ?_
  refine g_iload_n dJ21_find_25 rfl 1 rfl ?_
  refine g_icmp_le 36 dJ21_find_26 (by decide) (fun h16 => ?_) (fun h16 => ?_)
  · have F := F.1 h16
    refine g_iload dJ21_find_36 5 rfl ?_
    refine g_iload_n dJ21_find_38 rfl 1 rfl ?_
    refine g_icmp_ge 49 dJ21_find_39 (by decide) (fun h13 => ?_) (fun h13 => ?_)
    · have F := F.1 h13
      refine g_aload dJ21_find_49 4 rfl ?_
      refine h_get (v := va_rf (gR G a1 3)) 13 3 (C := RJ21) (T := TJ21) (N := 11) rfl in_J21 (by decide) q707 (Or.inr q708) e2 c3 rfl dJ21_find_51 ?_
      refine g_dup dJ21_find_54 (va_rf_cat _) ?_
      refine s_astore (lv' := [(0, va_rf (some x)), (1, .int p1), (2, va_rf p2), (3, va_rf p3), (4, va_rf p4), (5, .int (gI G a1 2)), (7, va_rf (gR G a1 3)), (8, va_rf (gR G a1 7)), (9, va_rf (gR G a1 8))]) (cat_R (cat_I (cat_R (cat_R (cat_R (cat_I (cat_R (cat_R cat_nil)))))))) dJ21_find_55 (by decide) rfl [1, 2, 3, 4, 5, 6, 0, 7, 8] rfl ?_
      refine g_aload_n dJ21_find_57 rfl 2 rfl ?_
      refine g_acmp_eq 74 dJ21_find_58 (by decide) (fun h10 => ?_) (fun h10 => ?_)
      · have F := F.1 h10
        refine g_aload dJ21_find_74 4 rfl ?_
        exact g_aret (r := p4) rfl (Or.inl ⟨_, rfl⟩) dJ21_find_76 F
      · have F := F.2 h10
        refine g_aload_n dJ21_find_61 rfl 2 rfl ?_
        refine g_ifnull 77 dJ21_find_62 (by decide) (fun e5 => ?_) (fun a4 e5 => ?_)
        · have F := F.1 e5
          exact F
        · have F := F.2 a4 e5
          refine g_aload_n dJ21_find_65 rfl 2 rfl ?_
          refine g_aload dJ21_find_66 6 rfl ?_
          obtain ⟨c7, F⟩ := F
          refine h_callUI (ci := 5) (x := ⟨"java/lang/Object", "equals", "(Ljava/lang/Object;)Z"⟩) (owner := "java/lang/Object") (C := RX3) (T := TX3) (N := 3) (As := [va_rf (gR G a1 3)]) (rest := []) F 1 rfl rfl (hasW.all q989) (hasW.all q958) (hasD.de (by decide +kernel)) (hasW.all q964) q965 q126 q966 ⟨by decide +kernel, by decide +kernel, by decide +kernel⟩ (by decide) e5 c7 rfl (room_of sc_nil (Nat.le_of_ble_eq_true rfl)) dJ21_find_68 (fun r6 Gr6 br6 sr6 F => ?_)
          refine g_if_eq 77 dJ21_find_71 (by decide) (fun h9 => ?_) (fun h9 => ?_)
          · have F := F.1 h9
            exact F
          · have F := F.2 h9
            refine g_aload dJ21_find_74 4 rfl ?_
            exact g_aret (r := p4) rfl (Or.inl ⟨_, rfl⟩) dJ21_find_76 F
    · have F := F.2 h13
      refine g_aload dJ21_find_42 7 rfl ?_
      refine s_astore (lv' := [(0, va_rf (some x)), (1, .int p1), (2, va_rf p2), (3, va_rf p3), (4, va_rf (gR G a1 8)), (5, .int (gI G a1 2)), (8, va_rf (gR G a1 7)), (9, va_rf (gR G a1 8))]) (cat_R (cat_I (cat_R (cat_R (cat_R (cat_I (cat_R (cat_R cat_nil)))))))) dJ21_find_44 (by decide) rfl [1, 2, 3, 4, 0, 5, 6, 7] rfl ?_
      refine g_goto 165 dJ21_find_46 (by decide) ?_
      refine g_aload dJ21_find_165 4 rfl ?_
      refine g_ifnonnull 3 dJ21_find_167 (by decide) (fun a11 e12 => ?_) (fun e12 => ?_)
      · have F := F.1 a11 e12
        refine GW.lsub (lv' := [(0, va_rf (some x)), (1, .int p1), (2, va_rf p2), (3, va_rf p3), (4, va_rf (gR G a1 8))]) [0, 1, 2, 3, 4] rfl ?_
        exact F
      · have F := F.2 e12
        refine g_null dJ21_find_170 ?_
        exact g_aret (r := none) rfl (Or.inl ⟨_, rfl⟩) dJ21_find_171 F
  · have F := F.2 h16
    refine g_aload dJ21_find_29 6 rfl ?_
    refine s_astore (lv' := [(0, va_rf (some x)), (1, .int p1), (2, va_rf p2), (3, va_rf p3), (4, va_rf (gR G a1 7)), (5, .int (gI G a1 2)), (8, va_rf (gR G a1 7)), (9, va_rf (gR G a1 8))]) (cat_R (cat_I (cat_R (cat_R (cat_R (cat_I (cat_R (cat_R cat_nil)))))))) dJ21_find_31 (by decide) rfl [1, 2, 3, 4, 0, 5, 6, 7] rfl ?_
    refine g_goto 165 dJ21_find_33 (by decide) ?_
    refine g_aload dJ21_find_165 4 rfl ?_
    refine g_ifnonnull 3 dJ21_find_167 (by decide) (fun a14 e15 => ?_) (fun e15 => ?_)
    · have F := F.1 a14 e15
      refine GW.lsub (lv' := [(0, va_rf (some x)), (1, .int p1), (2, va_rf p2), (3, va_rf p3), (4, va_rf (gR G a1 7))]) [0, 1, 2, 3, 4] rfl ?_
      exact F
    · have F := F.2 e15
      refine g_null dJ21_find_170 ?_
      exact g_aret (r := none) rfl (Or.inl ⟨_, rfl⟩) dJ21_find_171 F
theorem rJ21_find_77 {Γ : GE} {l : Launch} {h MC MS : Nat} {Q : Option Value → GH → Prop} {bc bs : Nat} {G : GH} (x : Nat) (p1 : Int32) (p2 : Option Nat) (p3 : Option Nat) (p4 : Option Nat) (p5 : Int32) (p7 : Option Nat) (p8 : Option Nat) (p9 : Option Nat) (F : ((∀ a1, p8 = some a1 → ((∀ a3, p9 = some a3 → ((∀ a5, p3 = some a5 → (GW Γ l mJ21_find h MC MS Q 114 [(0, va_rf (some x)), (1, .int p1), (2, va_rf p2), (3, va_rf p3), (4, va_rf p4), (5, .int p5), (7, va_rf p7), (8, va_rf p8), (9, va_rf p9)] [] G bc bs)) ∧ (p3 = none → (cR Γ l h mJ11_comparableClassFor [va_rf p2] G bc bs fun r7 Gr7 br7 sr7 => ((r7 = none → (GW Γ l mJ21_find h MC MS Q 144 [(0, va_rf (some x)), (1, .int p1), (2, va_rf p2), (3, va_rf r7), (4, va_rf p4), (5, .int p5), (7, va_rf p7), (8, va_rf p8), (9, va_rf p9)] [] Gr7 br7 sr7)) ∧ (∀ a9, r7 = some a9 → (GW Γ l mJ21_find h MC MS Q 114 [(0, va_rf (some x)), (1, .int p1), (2, va_rf p2), (3, va_rf r7), (4, va_rf p4), (5, .int p5), (7, va_rf p7), (8, va_rf p8), (9, va_rf p9)] [] Gr7 br7 sr7))))))) ∧ (p9 = none → ((∀ a11, p8 = some a11 → (GW Γ l mJ21_find h MC MS Q 3 [(0, va_rf (some x)), (1, .int p1), (2, va_rf p2), (3, va_rf p3), (4, va_rf p8)] [] G bc bs)) ∧ (p8 = none → (Q (some (va_rf none)) G)))))) ∧ (p8 = none → ((∀ a13, p9 = some a13 → (GW Γ l mJ21_find h MC MS Q 3 [(0, va_rf (some x)), (1, .int p1), (2, va_rf p2), (3, va_rf p3), (4, va_rf p9)] [] G bc bs)) ∧ (p9 = none → (Q (some (va_rf none)) G)))))) : GW Γ l mJ21_find h MC MS Q 77 [(0, va_rf (some x)), (1, .int p1), (2, va_rf p2), (3, va_rf p3), (4, va_rf p4), (5, .int p5), (7, va_rf p7), (8, va_rf p8), (9, va_rf p9)] [] G bc bs := by
  refine g_aload dJ21_find_77 7 rfl ?_
  refine g_ifnonnull 89 dJ21_find_79 (by decide) (fun a1 e2 => ?_) (fun e2 => ?_)
  · have F := F.1 a1 e2
    refine g_aload dJ21_find_89 8 rfl ?_
    refine g_ifnonnull 101 dJ21_find_91 (by decide) (fun a3 e4 => ?_) (fun e4 => ?_)
    · have F := F.1 a3 e4
      refine g_aload_n dJ21_find_101 rfl 3 rfl ?_
      refine g_ifnonnull 114 dJ21_find_102 (by decide) (fun a5 e6 => ?_) (fun e6 => ?_)
      · have F := F.1 a5 e6
        exact F
      · have F := F.2 e6
        refine g_aload_n dJ21_find_105 rfl 2 rfl ?_
        refine h_callSR (As := [va_rf p2]) (rest := []) F 1 rfl (lw_S q731 q732 q123 q733) vm_J11_comparableClassFor.2 (by decide) rfl (room_of sc_nil (Nat.le_of_ble_eq_true rfl)) dJ21_find_106 (fun r7 Gr7 br7 sr7 F => ?_)
        refine g_dup dJ21_find_109 (va_rf_cat _) ?_
        refine s_astore_n (lv' := [(0, va_rf (some x)), (1, .int p1), (2, va_rf p2), (3, va_rf r7), (4, va_rf p4), (5, .int p5), (7, va_rf p7), (8, va_rf p8), (9, va_rf p9)]) (cat_R (cat_I (cat_R (cat_R (cat_R (cat_I (cat_R (cat_R (cat_R cat_nil))))))))) dJ21_find_110 rfl (by decide) rfl [1, 2, 3, 0, 4, 5, 6, 7, 8] rfl ?_
        refine g_ifnull 144 dJ21_find_111 (by decide) (fun e10 => ?_) (fun a9 e10 => ?_)
        · have F := F.1 e10
          exact F
        · have F := F.2 a9 e10
          exact F
    · have F := F.2 e4
      refine g_aload dJ21_find_94 7 rfl ?_
      refine s_astore (lv' := [(0, va_rf (some x)), (1, .int p1), (2, va_rf p2), (3, va_rf p3), (4, va_rf p8), (5, .int p5), (7, va_rf p7), (8, va_rf p8), (9, va_rf p9)]) (cat_R (cat_I (cat_R (cat_R (cat_R (cat_I (cat_R (cat_R (cat_R cat_nil))))))))) dJ21_find_96 (by decide) rfl [1, 2, 3, 4, 0, 5, 6, 7, 8] rfl ?_
      refine g_goto 165 dJ21_find_98 (by decide) ?_
      refine g_aload dJ21_find_165 4 rfl ?_
      refine g_ifnonnull 3 dJ21_find_167 (by decide) (fun a11 e12 => ?_) (fun e12 => ?_)
      · have F := F.1 a11 e12
        refine GW.lsub (lv' := [(0, va_rf (some x)), (1, .int p1), (2, va_rf p2), (3, va_rf p3), (4, va_rf p8)]) [0, 1, 2, 3, 4] rfl ?_
        exact F
      · have F := F.2 e12
        refine g_null dJ21_find_170 ?_
        exact g_aret (r := none) rfl (Or.inl ⟨_, rfl⟩) dJ21_find_171 F
  · have F := F.2 e2
    refine g_aload dJ21_find_82 8 rfl ?_
    refine s_astore (lv' := [(0, va_rf (some x)), (1, .int p1), (2, va_rf p2), (3, va_rf p3), (4, va_rf p9), (5, .int p5), (7, va_rf p7), (8, va_rf p8), (9, va_rf p9)]) (cat_R (cat_I (cat_R (cat_R (cat_R (cat_I (cat_R (cat_R (cat_R cat_nil))))))))) dJ21_find_84 (by decide) rfl [1, 2, 3, 4, 0, 5, 6, 7, 8] rfl ?_
    refine g_goto 165 dJ21_find_86 (by decide) ?_
    refine g_aload dJ21_find_165 4 rfl ?_
    refine g_ifnonnull 3 dJ21_find_167 (by decide) (fun a13 e14 => ?_) (fun e14 => ?_)
    · have F := F.1 a13 e14
      refine GW.lsub (lv' := [(0, va_rf (some x)), (1, .int p1), (2, va_rf p2), (3, va_rf p3), (4, va_rf p9)]) [0, 1, 2, 3, 4] rfl ?_
      exact F
    · have F := F.2 e14
      refine g_null dJ21_find_170 ?_
      exact g_aret (r := none) rfl (Or.inl ⟨_, rfl⟩) dJ21_find_171 F
theorem rJ21_find_114 {Γ : GE} {l : Launch} {h MC MS : Nat} {Q : Option Value → GH → Prop} {bc bs : Nat} {G : GH} (x : Nat) (p1 : Int32) (p2 : Option Nat) (p3 : Option Nat) (p4 : Option Nat) (p5 : Int32) (p7 : Option Nat) (p8 : Option Nat) (p9 : Option Nat) (F : (cI Γ l h mJ11_compareComparables [va_rf p3, va_rf p2, va_rf p7] G bc bs fun r1 Gr1 br1 sr1 => ((r1 = 0 → (GW Γ l mJ21_find h MC MS Q 144 [(0, va_rf (some x)), (1, .int p1), (2, va_rf p2), (3, va_rf p3), (4, va_rf p4), (5, .int p5), (7, va_rf p7), (8, va_rf p8), (9, va_rf p9)] [] Gr1 br1 sr1)) ∧ (¬ r1 = 0 → (((0 : Int32) ≤ r1 → ((∀ a3, p9 = some a3 → (GW Γ l mJ21_find h MC MS Q 3 [(0, va_rf (some x)), (1, .int p1), (2, va_rf p2), (3, va_rf p3), (4, va_rf p9)] [] Gr1 br1 sr1)) ∧ (p9 = none → (Q (some (va_rf none)) Gr1)))) ∧ (¬ (0 : Int32) ≤ r1 → ((∀ a5, p8 = some a5 → (GW Γ l mJ21_find h MC MS Q 3 [(0, va_rf (some x)), (1, .int p1), (2, va_rf p2), (3, va_rf p3), (4, va_rf p8)] [] Gr1 br1 sr1)) ∧ (p8 = none → (Q (some (va_rf none)) Gr1))))))))) : GW Γ l mJ21_find h MC MS Q 114 [(0, va_rf (some x)), (1, .int p1), (2, va_rf p2), (3, va_rf p3), (4, va_rf p4), (5, .int p5), (7, va_rf p7), (8, va_rf p8), (9, va_rf p9)] [] G bc bs := by
  refine g_aload_n dJ21_find_114 rfl 3 rfl ?_
  refine g_aload_n dJ21_find_115 rfl 2 rfl ?_
  refine g_aload dJ21_find_116 6 rfl ?_
  refine h_callSI (As := [va_rf p3, va_rf p2, va_rf p7]) (rest := []) F 3 rfl (lw_S q737 q738 q123 q739) vm_J11_compareComparables.2 (by decide) rfl (room_of sc_nil (Nat.le_of_ble_eq_true rfl)) dJ21_find_118 (fun r1 Gr1 br1 sr1 F => ?_)
  refine g_dup dJ21_find_121 rfl ?_
  refine s_istore (lv' := [(0, va_rf (some x)), (1, .int p1), (2, va_rf p2), (3, va_rf p3), (4, va_rf p4), (5, .int p5), (6, .int r1), (7, va_rf p7), (8, va_rf p8), (9, va_rf p9)]) (cat_R (cat_I (cat_R (cat_R (cat_R (cat_I (cat_R (cat_R (cat_R cat_nil))))))))) dJ21_find_122 (by decide) rfl [1, 2, 3, 4, 5, 6, 0, 7, 8, 9] rfl ?_
  refine g_if_eq 144 dJ21_find_124 (by decide) (fun h8 => ?_) (fun h8 => ?_)
  · have F := F.1 h8
    refine GW.lsub (lv' := [(0, va_rf (some x)), (1, .int p1), (2, va_rf p2), (3, va_rf p3), (4, va_rf p4), (5, .int p5), (7, va_rf p7), (8, va_rf p8), (9, va_rf p9)]) [0, 1, 2, 3, 4, 5, 7, 8, 9] rfl ?_
    exact F
  · have F := F.2 h8
    refine g_iload dJ21_find_127 6 rfl ?_
    refine g_if_ge 137 dJ21_find_129 (by decide) (fun h7 => ?_) (fun h7 => ?_)
    · have F := F.1 h7
      refine g_aload dJ21_find_137 9 rfl ?_
      refine s_astore (lv' := [(0, va_rf (some x)), (1, .int p1), (2, va_rf p2), (3, va_rf p3), (4, va_rf p9), (5, .int p5), (6, .int r1), (7, va_rf p7), (8, va_rf p8), (9, va_rf p9)]) (cat_R (cat_I (cat_R (cat_R (cat_R (cat_I (cat_I (cat_R (cat_R (cat_R cat_nil)))))))))) dJ21_find_139 (by decide) rfl [1, 2, 3, 4, 0, 5, 6, 7, 8, 9] rfl ?_
      refine g_goto 165 dJ21_find_141 (by decide) ?_
      refine g_aload dJ21_find_165 4 rfl ?_
      refine g_ifnonnull 3 dJ21_find_167 (by decide) (fun a3 e4 => ?_) (fun e4 => ?_)
      · have F := F.1 a3 e4
        refine GW.lsub (lv' := [(0, va_rf (some x)), (1, .int p1), (2, va_rf p2), (3, va_rf p3), (4, va_rf p9)]) [0, 1, 2, 3, 4] rfl ?_
        exact F
      · have F := F.2 e4
        refine g_null dJ21_find_170 ?_
        exact g_aret (r := none) rfl (Or.inl ⟨_, rfl⟩) dJ21_find_171 F
    · have F := F.2 h7
      refine g_aload dJ21_find_132 8 rfl ?_
      refine g_goto 139 dJ21_find_134 (by decide) ?_
      refine s_astore (lv' := [(0, va_rf (some x)), (1, .int p1), (2, va_rf p2), (3, va_rf p3), (4, va_rf p8), (5, .int p5), (6, .int r1), (7, va_rf p7), (8, va_rf p8), (9, va_rf p9)]) (cat_R (cat_I (cat_R (cat_R (cat_R (cat_I (cat_I (cat_R (cat_R (cat_R cat_nil)))))))))) dJ21_find_139 (by decide) rfl [1, 2, 3, 4, 0, 5, 6, 7, 8, 9] rfl ?_
      refine g_goto 165 dJ21_find_141 (by decide) ?_
      refine g_aload dJ21_find_165 4 rfl ?_
      refine g_ifnonnull 3 dJ21_find_167 (by decide) (fun a5 e6 => ?_) (fun e6 => ?_)
      · have F := F.1 a5 e6
        refine GW.lsub (lv' := [(0, va_rf (some x)), (1, .int p1), (2, va_rf p2), (3, va_rf p3), (4, va_rf p8)]) [0, 1, 2, 3, 4] rfl ?_
        exact F
      · have F := F.2 e6
        refine g_null dJ21_find_170 ?_
        exact g_aret (r := none) rfl (Or.inl ⟨_, rfl⟩) dJ21_find_171 F
theorem rJ21_find_144 {Γ : GE} {l : Launch} {h MC MS : Nat} {Q : Option Value → GH → Prop} {bc bs : Nat} {G : GH} (x : Nat) (p1 : Int32) (p2 : Option Nat) (p3 : Option Nat) (p4 : Option Nat) (p5 : Int32) (p7 : Option Nat) (p8 : Option Nat) (p9 : Option Nat) (F : (∃ a2, p9 = some a2 ∧ gC G a2 = kO 13 ∧ cR Γ l h mJ21_find [.ref a2, .int p1, va_rf p2, va_rf p3] G bc bs fun r1 Gr1 br1 sr1 => ((r1 = none → ((∀ a8, p8 = some a8 → (GW Γ l mJ21_find h MC MS Q 3 [(0, va_rf (some x)), (1, .int p1), (2, va_rf p2), (3, va_rf p3), (4, va_rf p8)] [] Gr1 br1 sr1)) ∧ (p8 = none → (Q (some (va_rf none)) Gr1)))) ∧ (∀ a6, r1 = some a6 → (Q (some (va_rf r1)) Gr1))))) : GW Γ l mJ21_find h MC MS Q 144 [(0, va_rf (some x)), (1, .int p1), (2, va_rf p2), (3, va_rf p3), (4, va_rf p4), (5, .int p5), (7, va_rf p7), (8, va_rf p8), (9, va_rf p9)] [] G bc bs := by
  refine g_aload dJ21_find_144 8 rfl ?_
  refine g_iload_n dJ21_find_146 rfl 1 rfl ?_
  refine g_aload_n dJ21_find_147 rfl 2 rfl ?_
  refine g_aload_n dJ21_find_148 rfl 3 rfl ?_
  obtain ⟨a2, e3, F⟩ := F
  obtain ⟨c4, F⟩ := F
  refine h_callVR (ci := 13) (C := RJ21) (T := TJ21) (N := 11) (As := [.int p1, va_rf p2, va_rf p3]) (rest := []) F 3 rfl rfl (lw_V q990 q991 q992 q136 q993) vm_J21_find (by decide) e3 c4 rfl (room_of sc_nil (Nat.le_of_ble_eq_true rfl)) dJ21_find_149 (fun r1 Gr1 br1 sr1 F => ?_)
  refine g_dup dJ21_find_152 (va_rf_cat _) ?_
  refine s_astore (lv' := [(0, va_rf (some x)), (1, .int p1), (2, va_rf p2), (3, va_rf p3), (4, va_rf p4), (5, .int p5), (7, va_rf p7), (8, va_rf p8), (9, va_rf p9), (10, va_rf r1)]) (cat_R (cat_I (cat_R (cat_R (cat_R (cat_I (cat_R (cat_R (cat_R cat_nil))))))))) dJ21_find_153 (by decide) rfl [1, 2, 3, 4, 5, 6, 7, 8, 9, 0] rfl ?_
  refine g_ifnull 161 dJ21_find_155 (by decide) (fun e7 => ?_) (fun a6 e7 => ?_)
  · have F := F.1 e7
    refine g_aload dJ21_find_161 7 rfl ?_
    refine s_astore (lv' := [(0, va_rf (some x)), (1, .int p1), (2, va_rf p2), (3, va_rf p3), (4, va_rf p8), (5, .int p5), (7, va_rf p7), (8, va_rf p8), (9, va_rf p9), (10, va_rf r1)]) (cat_R (cat_I (cat_R (cat_R (cat_R (cat_I (cat_R (cat_R (cat_R (cat_R cat_nil)))))))))) dJ21_find_163 (by decide) rfl [1, 2, 3, 4, 0, 5, 6, 7, 8, 9] rfl ?_
    refine g_aload dJ21_find_165 4 rfl ?_
    refine g_ifnonnull 3 dJ21_find_167 (by decide) (fun a8 e9 => ?_) (fun e9 => ?_)
    · have F := F.1 a8 e9
      refine GW.lsub (lv' := [(0, va_rf (some x)), (1, .int p1), (2, va_rf p2), (3, va_rf p3), (4, va_rf p8)]) [0, 1, 2, 3, 4] rfl ?_
      exact F
    · have F := F.2 e9
      refine g_null dJ21_find_170 ?_
      exact g_aret (r := none) rfl (Or.inl ⟨_, rfl⟩) dJ21_find_171 F
  · have F := F.2 a6 e7
    refine g_aload dJ21_find_158 9 rfl ?_
    exact g_aret (r := r1) rfl (Or.inl ⟨_, rfl⟩) dJ21_find_160 F
theorem rJ21_init_0 {Γ : GE} {l : Launch} {h MC MS : Nat} {Q : Option Value → GH → Prop} {bc bs : Nat} {G : GH} (x : Nat) (p1 : Int32) (p2 : Option Nat) (p3 : Option Nat) (p4 : Option Nat) (F : (cV Γ l h mJ20_init [.ref x, .int p1, va_rf p2, va_rf p3, va_rf p4] G bc bs fun Gr1 br1 sr1 => Q none Gr1)) : GW Γ l mJ21_init h MC MS Q 0 [(0, va_rf (some x)), (1, .int p1), (2, va_rf p2), (3, va_rf p3), (4, va_rf p4)] [] G bc bs := by
  refine g_aload_n dJ21_init_0 rfl 0 rfl ?_
  refine g_iload_n dJ21_init_1 rfl 1 rfl ?_
  refine g_aload_n dJ21_init_2 rfl 2 rfl ?_
  refine g_aload_n dJ21_init_3 rfl 3 rfl ?_
  refine g_aload dJ21_init_4 4 rfl ?_
  refine h_callIV (As := [.int p1, va_rf p2, va_rf p3, va_rf p4]) (rest := []) F 4 rfl rfl (lw_meth q1004) q135 q1002 q1003 rfl vm_J20_init.2 (by decide) rfl rfl (room_of sc_nil (Nat.le_of_ble_eq_true rfl)) dJ21_init_6 (fun Gr1 br1 sr1 F => ?_)
  exact g_vret rfl dJ21_init_9 F
theorem rJ21_getTreeNode_0 {Γ : GE} {l : Launch} {h MC MS : Nat} {Q : Option Value → GH → Prop} {bc bs : Nat} {G : GH} (x : Nat) (p1 : Int32) (p2 : Option Nat) (F : (gC G x = kO 13 ∧ (((gR G x 6) = none → (cR Γ l h mJ21_find [.ref x, .int p1, va_rf p2, va_rf none] G bc bs fun r4 Gr4 br4 sr4 => Q (some (va_rf r4)) Gr4)) ∧ (∀ a2, (gR G x 6) = some a2 → (cR Γ l h mJ21_root [.ref x] G bc bs fun r6 Gr6 br6 sr6 => ∃ a9, r6 = some a9 ∧ gC Gr6 a9 = kO 13 ∧ cR Γ l h mJ21_find [.ref a9, .int p1, va_rf p2, va_rf none] Gr6 br6 sr6 fun r8 Gr8 br8 sr8 => Q (some (va_rf r8)) Gr8))))) : GW Γ l mJ21_getTreeNode h MC MS Q 0 [(0, va_rf (some x)), (1, .int p1), (2, va_rf p2)] [] G bc bs := by
  refine g_aload_n dJ21_getTreeNode_0 rfl 0 rfl ?_
  obtain ⟨c1, F⟩ := F
  refine h_get (v := va_rf (gR G x 6)) 13 6 (C := RJ21) (T := TJ21) (N := 11) rfl in_J21 (by decide) q1006 (Or.inl rfl) rfl c1 rfl dJ21_getTreeNode_1 ?_
  refine g_ifnull 14 dJ21_getTreeNode_4 (by decide) (fun e3 => ?_) (fun a2 e3 => ?_)
  · have F := F.1 e3
    refine g_aload_n dJ21_getTreeNode_14 rfl 0 rfl ?_
    refine g_iload_n dJ21_getTreeNode_15 rfl 1 rfl ?_
    refine g_aload_n dJ21_getTreeNode_16 rfl 2 rfl ?_
    refine g_null dJ21_getTreeNode_17 ?_
    refine h_callVR (ci := 13) (C := RJ21) (T := TJ21) (N := 11) (As := [.int p1, va_rf p2, va_rf none]) (rest := []) F 3 rfl rfl (lw_V q990 q991 q992 q136 q993) vm_J21_find (by decide) rfl c1 rfl (room_of sc_nil (Nat.le_of_ble_eq_true rfl)) dJ21_getTreeNode_18 (fun r4 Gr4 br4 sr4 F => ?_)
    exact g_aret (r := r4) rfl (Or.inl ⟨_, rfl⟩) dJ21_getTreeNode_21 F
  · have F := F.2 a2 e3
    refine g_aload_n dJ21_getTreeNode_7 rfl 0 rfl ?_
    refine h_callVR (ci := 13) (C := RJ21) (T := TJ21) (N := 11) (As := []) (rest := []) F 0 rfl rfl (lw_V q985 q986 q987 q136 q988) vm_J21_root (by decide) rfl c1 rfl (room_of sc_nil (Nat.le_of_ble_eq_true rfl)) dJ21_getTreeNode_8 (fun r6 Gr6 br6 sr6 F => ?_)
    refine g_goto 15 dJ21_getTreeNode_11 (by decide) ?_
    refine g_iload_n dJ21_getTreeNode_15 rfl 1 rfl ?_
    refine g_aload_n dJ21_getTreeNode_16 rfl 2 rfl ?_
    refine g_null dJ21_getTreeNode_17 ?_
    obtain ⟨a9, e10, F⟩ := F
    obtain ⟨c11, F⟩ := F
    refine h_callVR (ci := 13) (C := RJ21) (T := TJ21) (N := 11) (As := [.int p1, va_rf p2, va_rf none]) (rest := []) F 3 rfl rfl (lw_V q990 q991 q992 q136 q993) vm_J21_find (by decide) e10 c11 rfl (room_of sc_nil (Nat.le_of_ble_eq_true rfl)) dJ21_getTreeNode_18 (fun r8 Gr8 br8 sr8 F => ?_)
    exact g_aret (r := r8) rfl (Or.inl ⟨_, rfl⟩) dJ21_getTreeNode_21 F
theorem rJ8_init_0 {Γ : GE} {l : Launch} {h MC MS : Nat} {Q : Option Value → GH → Prop} {bc bs : Nat} {G : GH} (x : Nat) (F : (cV Γ l h mJ0_init [.ref x] G bc bs fun Gr1 br1 sr1 => Q none Gr1)) : GW Γ l mJ8_init h MC MS Q 0 [(0, va_rf (some x))] [] G bc bs := by
  refine g_aload_n dJ8_init_0 rfl 0 rfl ?_
  refine h_callIV (As := []) (rest := []) F 0 rfl rfl (lw_meth q170) q110 q514 q169 rfl vm_J0_init.2 (by decide) rfl rfl (room_of sc_nil (Nat.le_of_ble_eq_true rfl)) dJ8_init_1 (fun Gr1 br1 sr1 F => ?_)
  exact g_vret rfl dJ8_init_4 F
theorem rJ23_init_0 {Γ : GE} {l : Launch} {h MC MS : Nat} {Q : Option Value → GH → Prop} {bc bs : Nat} {G : GH} (x : Nat) (F : (0 < h ∧ gC G x = kO 8 ∧ gM G x = true ∧ False)) : GW Γ l mJ23_init h MC MS Q 0 [(0, va_rf (some x))] [] G bc bs := by
  refine g_aload_n dJ23_init_0 rfl 0 rfl ?_
  obtain ⟨k1, F⟩ := F
  refine h_objInit q1917 q152 q153 rfl dJ23_init_1 k1 (room_of sc_nil (Nat.le_of_ble_eq_true rfl)) ?_
  refine g_aload_n dJ23_init_4 rfl 0 rfl ?_
  refine g_aload_n dJ23_init_5 rfl 0 rfl ?_
  obtain ⟨c2, F⟩ := F
  obtain ⟨m3, F⟩ := F
  refine h_putR (mi := mJ23_init) 8 0 (C := RX9) (T := TX9) (N := 7) rfl in_X9 tyX9_ok nmX9 (by decide) q1945 (Or.inl rfl) (Or.inl rfl) rfl rfl rfl c2 m3 dJ23_init_6 ?_
  refine g_aload_n dJ23_init_9 rfl 0 rfl ?_
  refine g_getsr (C := "java/lang/Throwable") (n := "UNASSIGNED_STACK") (d := "[Ljava/lang/StackTraceElement;") (i := 4) (by decide) q1918 rfl dJ23_init_10 ?_
  refine h_putR (mi := mJ23_init) 8 1 (C := RX9) (T := TX9) (N := 7) rfl in_X9 tyX9_ok nmX9 (by decide) q1946 (Or.inl rfl) (Or.inl rfl) rfl rfl rfl c2 m3 dJ23_init_13 ?_
  refine g_aload_n dJ23_init_16 rfl 0 rfl ?_
  refine g_getsr (C := "java/lang/Throwable") (n := "SUPPRESSED_SENTINEL") (d := "Ljava/util/List;") (i := 5) (by decide) q1920 rfl dJ23_init_17 ?_
  refine h_putR (mi := mJ23_init) 8 2 (C := RX9) (T := TX9) (N := 7) rfl in_X9 tyX9_ok nmX9 (by decide) q1947 (Or.inl rfl) (Or.inl rfl) rfl rfl rfl c2 m3 dJ23_init_20 ?_
  refine g_aload_n dJ23_init_23 rfl 0 rfl ?_
  exact F.elim
theorem rJ23_init_2_0 {Γ : GE} {l : Launch} {h MC MS : Nat} {Q : Option Value → GH → Prop} {bc bs : Nat} {G : GH} (x : Nat) (p1 : Option Nat) (F : (0 < h ∧ gC G x = kO 8 ∧ gM G x = true ∧ False)) : GW Γ l mJ23_init_2 h MC MS Q 0 [(0, va_rf (some x)), (1, va_rf p1)] [] G bc bs := by
  refine g_aload_n dJ23_init_2_0 rfl 0 rfl ?_
  obtain ⟨k1, F⟩ := F
  refine h_objInit q1917 q152 q153 rfl dJ23_init_2_1 k1 (room_of sc_nil (Nat.le_of_ble_eq_true rfl)) ?_
  refine g_aload_n dJ23_init_2_4 rfl 0 rfl ?_
  refine g_aload_n dJ23_init_2_5 rfl 0 rfl ?_
  obtain ⟨c2, F⟩ := F
  obtain ⟨m3, F⟩ := F
  refine h_putR (mi := mJ23_init_2) 8 0 (C := RX9) (T := TX9) (N := 7) rfl in_X9 tyX9_ok nmX9 (by decide) q1945 (Or.inl rfl) (Or.inl rfl) rfl rfl rfl c2 m3 dJ23_init_2_6 ?_
  refine g_aload_n dJ23_init_2_9 rfl 0 rfl ?_
  refine g_getsr (C := "java/lang/Throwable") (n := "UNASSIGNED_STACK") (d := "[Ljava/lang/StackTraceElement;") (i := 4) (by decide) q1918 rfl dJ23_init_2_10 ?_
  refine h_putR (mi := mJ23_init_2) 8 1 (C := RX9) (T := TX9) (N := 7) rfl in_X9 tyX9_ok nmX9 (by decide) q1946 (Or.inl rfl) (Or.inl rfl) rfl rfl rfl c2 m3 dJ23_init_2_13 ?_
  refine g_aload_n dJ23_init_2_16 rfl 0 rfl ?_
  refine g_getsr (C := "java/lang/Throwable") (n := "SUPPRESSED_SENTINEL") (d := "Ljava/util/List;") (i := 5) (by decide) q1920 rfl dJ23_init_2_17 ?_
  refine h_putR (mi := mJ23_init_2) 8 2 (C := RX9) (T := TX9) (N := 7) rfl in_X9 tyX9_ok nmX9 (by decide) q1947 (Or.inl rfl) (Or.inl rfl) rfl rfl rfl c2 m3 dJ23_init_2_20 ?_
  refine g_aload_n dJ23_init_2_23 rfl 0 rfl ?_
  exact F.elim
theorem rJ24_init_0 {Γ : GE} {l : Launch} {h MC MS : Nat} {Q : Option Value → GH → Prop} {bc bs : Nat} {G : GH} (x : Nat) (p1 : Option Nat) (F : (cV Γ l h mJ23_init_2 [.ref x, va_rf p1] G bc bs fun Gr1 br1 sr1 => Q none Gr1)) : GW Γ l mJ24_init h MC MS Q 0 [(0, va_rf (some x)), (1, va_rf p1)] [] G bc bs := by
  refine g_aload_n dJ24_init_0 rfl 0 rfl ?_
  refine g_aload_n dJ24_init_1 rfl 1 rfl ?_
  refine h_callIV (As := [va_rf p1]) (rest := []) F 1 rfl rfl (lw_meth q1940) q143 q1938 q1939 rfl vm_J23_init_2.2 (by decide) rfl rfl (room_of sc_nil (Nat.le_of_ble_eq_true rfl)) dJ24_init_2 (fun Gr1 br1 sr1 F => ?_)
  exact g_vret rfl dJ24_init_5 F
theorem rJ22_copyOf_0 {Γ : GE} {l : Launch} {h MC MS : Nat} {Q : Option Value → GH → Prop} {bc bs : Nat} {G : GH} (p0 : Option Nat) (p1 : Int32) (F : (∃ a1, p0 = some a1 ∧ gC G a1 = kA 4 ∧ gM G a1 = true ∧ 0 < h ∧ cR Γ l h mJ22_copyOf_2 [va_rf p0, .int p1, va_rf (some (Γ.2.2.2 12))] G bc bs fun r6 Gr6 br6 sr6 => Q (some (va_rf r6)) Gr6)) : GW Γ l mJ22_copyOf h MC MS Q 0 [(0, va_rf p0), (1, .int p1)] [] G bc bs := by
  refine g_aload_n dJ22_copyOf_0 rfl 0 rfl ?_
  refine g_iload_n dJ22_copyOf_1 rfl 1 rfl ?_
  refine g_aload_n dJ22_copyOf_2 rfl 0 rfl ?_
  obtain ⟨a1, e2, F⟩ := F
  obtain ⟨c3, F⟩ := F
  obtain ⟨m4, F⟩ := F
  obtain ⟨k5, F⟩ := F
  refine h_getCls q406 q2551 q407 q427 e2 c3 m4 k5 (room_of (sc_I (sc_R sc_nil)) (Nat.le_of_ble_eq_true rfl)) dJ22_copyOf_3 ?_
  refine h_callSR (As := [va_rf p0, .int p1, va_rf (some (Γ.2.2.2 12))]) (rest := []) F 3 rfl (lw_S q428 q429 q138 q430) vm_J22_copyOf_2.2 (by decide) rfl (room_of sc_nil (Nat.le_of_ble_eq_true rfl)) dJ22_copyOf_6 (fun r6 Gr6 br6 sr6 F => ?_)
  exact g_aret (r := r6) rfl (Or.inr ⟨_, rfl⟩) dJ22_copyOf_9 F
theorem rJ22_copyOf_2_0 {Γ : GE} {l : Launch} {h MC MS : Nat} {Q : Option Value → GH → Prop} {bc bs : Nat} {G : GH} (p0 : Option Nat) (p1 : Int32) (p2 : Option Nat) (F : ((¬ p2 = (some (Γ.2.2.2 12)) → (False)) ∧ (p2 = (some (Γ.2.2.2 12)) → (¬ p1 < 0 ∧ (p1).toNatClampNeg * 4 ≤ 536870912 ∧ 1 ≤ bc ∧ (p1).toNatClampNeg ≤ bs ∧ ∀ q1, gC G q1 = 0 → gA Γ q1 → ∃ a8, p0 = some a8 ∧ gC (nA G q1 4 (p1).toNatClampNeg) a8 = kA 4 ∧ cI Γ l h mJ7_min [.int (nI (gL (nA G q1 4 (p1).toNatClampNeg) a8)), .int p1] (nA G q1 4 (p1).toNatClampNeg) (bc - 1) (bs - (p1).toNatClampNeg) fun r11 Gr11 br11 sr11 => gC Gr11 a8 = kA 4 ∧ gM Gr11 a8 = true ∧ gC Gr11 q1 = kA 4 ∧ gM Gr11 q1 = true ∧ ¬ r11 < 0 ∧ (0 : Int32).toNatClampNeg + r11.toNatClampNeg ≤ gL Gr11 a8 ∧ (0 : Int32).toNatClampNeg + r11.toNatClampNeg ≤ gL Gr11 q1 ∧ (∀ i, i < r11.toNatClampNeg → okS Gr11 4 (gR Gr11 a8 ((0 : Int32).toNatClampNeg + i))) ∧ 0 < h ∧ ∀ H22, H22 = (wR Gr11 q1 (va_cpy (gR Gr11 a8) (gR Gr11 q1) (0 : Int32).toNatClampNeg (0 : Int32).toNatClampNeg r11.toNatClampNeg)) → Q (some (va_rf (some q1))) H22)))) : GW Γ l mJ22_copyOf_2 h MC MS Q 0 [(0, va_rf p0), (1, .int p1), (2, va_rf p2)] [] G bc bs := by
  refine g_aload_n dJ22_copyOf_2_0 rfl 2 rfl ?_
  refine h_ldcM 12 q431 (by decide +kernel) dJ22_copyOf_2_1 ?_
  refine g_acmp_ne 13 dJ22_copyOf_2_3 (by decide) (fun h25 => ?_) (fun h25 => ?_)
  · have F := F.1 h25
    refine g_aload_n dJ22_copyOf_2_13 rfl 2 rfl ?_
    exact F.elim
  · have F := F.2 h25
    refine g_iload_n dJ22_copyOf_2_6 rfl 1 rfl ?_
    obtain ⟨k2, F⟩ := F
    obtain ⟨k3, F⟩ := F
    obtain ⟨k4, F⟩ := F
    obtain ⟨k5, F⟩ := F
    refine h_newq 4 (p1).toNatClampNeg (by decide) (by decide) q433 (by decide +kernel) k2 rfl k3 k4 k5 dJ22_copyOf_2_7 (fun q1 z6 z6' => ?_)
    have F := F q1 z6 z6'
    refine g_goto 24 dJ22_copyOf_2_10 (by decide) ?_
    refine s_astore_n (lv' := [(0, va_rf p0), (1, .int p1), (2, va_rf p2), (3, va_rf (some q1))]) (cat_R (cat_I (cat_R cat_nil))) dJ22_copyOf_2_24 rfl (by decide) rfl [1, 2, 3, 0] rfl ?_
    refine g_aload_n dJ22_copyOf_2_25 rfl 0 rfl ?_
    refine g_iconst (v := 0) dJ22_copyOf_2_26 (by decide) ?_
    refine g_aload_n dJ22_copyOf_2_27 rfl 3 rfl ?_
    refine g_iconst (v := 0) dJ22_copyOf_2_28 (by decide) ?_
    refine g_aload_n dJ22_copyOf_2_29 rfl 0 rfl ?_
    obtain ⟨a8, e9, F⟩ := F
    obtain ⟨c10, F⟩ := F
    refine h_alen 4 e9 c10 (by decide) dJ22_copyOf_2_30 ?_
    refine g_iload_n dJ22_copyOf_2_31 rfl 1 rfl ?_
    refine h_callSI (As := [.int (nI (gL (nA G q1 4 (p1).toNatClampNeg) a8)), .int p1]) (rest := [.int 0, va_rf (some q1), .int 0, va_rf p0]) F 2 rfl (lw_S q434 q435 q119 q436) vm_J7_min.2 (by decide) rfl (room_of (sc_I (sc_R (sc_I (sc_R sc_nil)))) (Nat.le_of_ble_eq_true rfl)) dJ22_copyOf_2_32 (fun r11 Gr11 br11 sr11 F => ?_)
    obtain ⟨c13, F⟩ := F
    obtain ⟨m14, F⟩ := F
    obtain ⟨c15, F⟩ := F
    obtain ⟨m16, F⟩ := F
    obtain ⟨k17, F⟩ := F
    obtain ⟨k18, F⟩ := F
    obtain ⟨k19, F⟩ := F
    obtain ⟨k20, F⟩ := F
    obtain ⟨k21, F⟩ := F
    refine h_copyq 4 (by decide) (by decide) q437 q439 q438 q118 e9 c13 m14 rfl c15 m16 (by decide) (by decide) k17 k18 k19 k20 k21 (room_of sc_nil (Nat.le_of_ble_eq_true rfl)) dJ22_copyOf_2_35 ?_
    obtain ⟨H22, h23⟩ : ∃ g : GH, g = (wR Gr11 q1 (va_cpy (gR Gr11 a8) (gR Gr11 q1) (0 : Int32).toNatClampNeg (0 : Int32).toNatClampNeg r11.toNatClampNeg)) := ⟨_, rfl⟩
    rw [← h23]
    have F := F H22 h23
    refine g_aload_n dJ22_copyOf_2_38 rfl 3 rfl ?_
    exact g_aret (r := (some q1)) rfl (Or.inr ⟨_, rfl⟩) dJ22_copyOf_2_39 F
theorem rJ22_copyOf_3_0 {Γ : GE} {l : Launch} {h MC MS : Nat} {Q : Option Value → GH → Prop} {bc bs : Nat} {G : GH} (p0 : Option Nat) (p1 : Int32) (F : (∃ a1, p0 = some a1 ∧ gC G a1 = kA 2 ∧ ((¬ p1 = (nI (gL G a1)) → (¬ p1 < 0 ∧ (p1).toNatClampNeg * componentBytes (gtyq 2) ≤ 536870912 ∧ 1 ≤ bc ∧ (p1).toNatClampNeg ≤ bs ∧ ∀ q4, gC G q4 = 0 → gA Γ q4 → gC (nA G q4 2 (p1).toNatClampNeg) a1 = kA 2 ∧ cI Γ l h mJ7_min [.int (nI (gL (nA G q4 2 (p1).toNatClampNeg) a1)), .int p1] (nA G q4 2 (p1).toNatClampNeg) (bc - 1) (bs - (p1).toNatClampNeg) fun r12 Gr12 br12 sr12 => gC Gr12 a1 = kA 2 ∧ gM Gr12 a1 = true ∧ gC Gr12 q4 = kA 2 ∧ gM Gr12 q4 = true ∧ ¬ r12 < 0 ∧ (0 : Int32).toNatClampNeg + r12.toNatClampNeg ≤ gL Gr12 a1 ∧ (0 : Int32).toNatClampNeg + r12.toNatClampNeg ≤ gL Gr12 q4 ∧ (∀ i, i < r12.toNatClampNeg → fits (gtyq 2) (.int (gI Gr12 a1 ((0 : Int32).toNatClampNeg + i))) = true) ∧ 0 < h ∧ ∀ H23, H23 = (wI Gr12 q4 (va_cpy (gI Gr12 a1) (gI Gr12 q4) (0 : Int32).toNatClampNeg (0 : Int32).toNatClampNeg r12.toNatClampNeg)) → Q (some (va_rf (some q4))) H23)) ∧ (p1 = (nI (gL G a1)) → (gM G a1 = true ∧ (∀ i, i < gL G a1 → fits .byte (.int (gI G a1 i)) = true) ∧ 0 < h ∧ 1 ≤ bc ∧ gL G a1 ≤ bs ∧ ∀ q31, gC G q31 = 0 → gA Γ q31 → gC (wI (nA G q31 2 (gL G a1)) q31 (gI G a1)) q31 = kA 2 ∧ gM (wI (nA G q31 2 (gL G a1)) q31 (gI G a1)) q31 = true ∧ Q (some (va_rf (some q31))) (wI (nA G q31 2 (gL G a1)) q31 (gI G a1))))))) : GW Γ l mJ22_copyOf_3 h MC MS Q 0 [(0, va_rf p0), (1, .int p1)] [] G bc bs := by
  refine g_iload_n dJ22_copyOf_3_0 rfl 1 rfl ?_
  refine g_aload_n dJ22_copyOf_3_1 rfl 0 rfl ?_
  obtain ⟨a1, e2, F⟩ := F
  obtain ⟨c3, F⟩ := F
  refine h_alen 2 e2 c3 (by decide) dJ22_copyOf_3_2 ?_
  refine g_icmp_ne 14 dJ22_copyOf_3_3 (by decide) (fun h36 => ?_) (fun h36 => ?_)
  · have F := F.1 h36
    refine g_iload_n dJ22_copyOf_3_14 rfl 1 rfl ?_
    obtain ⟨k5, F⟩ := F
    obtain ⟨k6, F⟩ := F
    obtain ⟨k7, F⟩ := F
    obtain ⟨k8, F⟩ := F
    refine g_newa (atype := .byte) 2 (p1).toNatClampNeg (by decide) rfl q234 k5 rfl k6 k7 k8 dJ22_copyOf_3_15 (fun q4 z9 z9' => ?_)
    have F := F q4 z9 z9'
    refine s_astore_n (lv' := [(0, va_rf p0), (1, .int p1), (2, va_rf (some q4))]) (cat_R (cat_I cat_nil)) dJ22_copyOf_3_17 rfl (by decide) rfl [1, 2, 0] rfl ?_
    refine g_aload_n dJ22_copyOf_3_18 rfl 0 rfl ?_
    refine g_iconst (v := 0) dJ22_copyOf_3_19 (by decide) ?_
    refine g_aload_n dJ22_copyOf_3_20 rfl 2 rfl ?_
    refine g_iconst (v := 0) dJ22_copyOf_3_21 (by decide) ?_
    refine g_aload_n dJ22_copyOf_3_22 rfl 0 rfl ?_
    obtain ⟨c11, F⟩ := F
    refine h_alen 2 e2 c11 (by decide) dJ22_copyOf_3_23 ?_
    refine g_iload_n dJ22_copyOf_3_24 rfl 1 rfl ?_
    refine h_callSI (As := [.int (nI (gL (nA G q4 2 (p1).toNatClampNeg) a1)), .int p1]) (rest := [.int 0, va_rf (some q4), .int 0, va_rf p0]) F 2 rfl (lw_S q434 q435 q119 q436) vm_J7_min.2 (by decide) rfl (room_of (sc_I (sc_R (sc_I (sc_R sc_nil)))) (Nat.le_of_ble_eq_true rfl)) dJ22_copyOf_3_25 (fun r12 Gr12 br12 sr12 F => ?_)
    obtain ⟨c14, F⟩ := F
    obtain ⟨m15, F⟩ := F
    obtain ⟨c16, F⟩ := F
    obtain ⟨m17, F⟩ := F
    obtain ⟨k18, F⟩ := F
    obtain ⟨k19, F⟩ := F
    obtain ⟨k20, F⟩ := F
    obtain ⟨k21, F⟩ := F
    obtain ⟨k22, F⟩ := F
    refine h_copyi 2 (by decide) q437 q439 q438 q118 e2 c14 m15 rfl c16 m17 (by decide) (by decide) k18 k19 k20 k21 k22 (room_of sc_nil (Nat.le_of_ble_eq_true rfl)) dJ22_copyOf_3_28 ?_
    obtain ⟨H23, h24⟩ : ∃ g : GH, g = (wI Gr12 q4 (va_cpy (gI Gr12 a1) (gI Gr12 q4) (0 : Int32).toNatClampNeg (0 : Int32).toNatClampNeg r12.toNatClampNeg)) := ⟨_, rfl⟩
    rw [← h24]
    have F := F H23 h24
    refine g_aload_n dJ22_copyOf_3_31 rfl 2 rfl ?_
    exact g_aret (r := (some q4)) rfl (Or.inr ⟨_, rfl⟩) dJ22_copyOf_3_32 F
  · have F := F.2 h36
    refine g_aload_n dJ22_copyOf_3_6 rfl 0 rfl ?_
    obtain ⟨m26, F⟩ := F
    obtain ⟨k27, F⟩ := F
    obtain ⟨k28, F⟩ := F
    obtain ⟨k29, F⟩ := F
    obtain ⟨k30, F⟩ := F
    refine h_cloneB q1541 q1542 q1543 q1544 q1545 e2 c3 m26 k27 k28 (room_of sc_nil (Nat.le_of_ble_eq_true rfl)) k29 k30 dJ22_copyOf_3_7 (fun q31 z32 z32' => ?_)
    have F := F q31 z32 z32'
    obtain ⟨c34, F⟩ := F
    obtain ⟨m35, F⟩ := F
    refine h_castA 2 q1547 (by decide) (by decide +kernel) rfl c34 m35 dJ22_copyOf_3_10 ?_
    exact g_aret (r := (some q31)) rfl (Or.inr ⟨_, rfl⟩) dJ22_copyOf_3_13 F
theorem rJ22_copyOfRange_0 {Γ : GE} {l : Launch} {h MC MS : Nat} {Q : Option Value → GH → Prop} {bc bs : Nat} {G : GH} (p0 : Option Nat) (p1 : Int32) (p2 : Int32) (F : ((¬ p1 = 0 → (cR Γ l h mJ22_copyOfRangeByte [va_rf p0, .int p1, .int p2] G bc bs fun r1 Gr1 br1 sr1 => Q (some (va_rf r1)) Gr1)) ∧ (p1 = 0 → (∃ a3, p0 = some a3 ∧ gC G a3 = kA 2 ∧ ((p2 = (nI (gL G a3)) → (gM G a3 = true ∧ (∀ i, i < gL G a3 → fits .byte (.int (gI G a3 i)) = true) ∧ 0 < h ∧ 1 ≤ bc ∧ gL G a3 ≤ bs ∧ ∀ q11, gC G q11 = 0 → gA Γ q11 → gC (wI (nA G q11 2 (gL G a3)) q11 (gI G a3)) q11 = kA 2 ∧ gM (wI (nA G q11 2 (gL G a3)) q11 (gI G a3)) q11 = true ∧ Q (some (va_rf (some q11))) (wI (nA G q11 2 (gL G a3)) q11 (gI G a3)))) ∧ (¬ p2 = (nI (gL G a3)) → (cR Γ l h mJ22_copyOfRangeByte [va_rf p0, .int p1, .int p2] G bc bs fun r16 Gr16 br16 sr16 => Q (some (va_rf r16)) Gr16))))))) : GW Γ l mJ22_copyOfRange h MC MS Q 0 [(0, va_rf p0), (1, .int p1), (2, .int p2)] [] G bc bs := by
  refine g_iload_n dJ22_copyOfRange_0 rfl 1 rfl ?_
  refine g_if_ne 10 dJ22_copyOfRange_1 (by decide) (fun h19 => ?_) (fun h19 => ?_)
  · have F := F.1 h19
    refine g_aload_n dJ22_copyOfRange_10 rfl 0 rfl ?_
    refine g_iload_n dJ22_copyOfRange_11 rfl 1 rfl ?_
    refine g_iload_n dJ22_copyOfRange_12 rfl 2 rfl ?_
    refine h_callSR (As := [va_rf p0, .int p1, .int p2]) (rest := []) F 3 rfl (lw_S q1655 q1656 q138 q1657) vm_J22_copyOfRangeByte.2 (by decide) rfl (room_of sc_nil (Nat.le_of_ble_eq_true rfl)) dJ22_copyOfRange_13 (fun r1 Gr1 br1 sr1 F => ?_)
    exact g_aret (r := r1) rfl (Or.inr ⟨_, rfl⟩) dJ22_copyOfRange_16 F
  · have F := F.2 h19
    refine g_iload_n dJ22_copyOfRange_4 rfl 2 rfl ?_
    refine g_aload_n dJ22_copyOfRange_5 rfl 0 rfl ?_
    obtain ⟨a3, e4, F⟩ := F
    obtain ⟨c5, F⟩ := F
    refine h_alen 2 e4 c5 (by decide) dJ22_copyOfRange_6 ?_
    refine g_icmp_eq 17 dJ22_copyOfRange_7 (by decide) (fun h18 => ?_) (fun h18 => ?_)
    · have F := F.1 h18
      refine g_aload_n dJ22_copyOfRange_17 rfl 0 rfl ?_
      obtain ⟨m6, F⟩ := F
      obtain ⟨k7, F⟩ := F
      obtain ⟨k8, F⟩ := F
      obtain ⟨k9, F⟩ := F
      obtain ⟨k10, F⟩ := F
      refine h_cloneB q1541 q1542 q1543 q1544 q1545 e4 c5 m6 k7 k8 (room_of sc_nil (Nat.le_of_ble_eq_true rfl)) k9 k10 dJ22_copyOfRange_18 (fun q11 z12 z12' => ?_)
      have F := F q11 z12 z12'
      obtain ⟨c14, F⟩ := F
      obtain ⟨m15, F⟩ := F
      refine h_castA 2 q1547 (by decide) (by decide +kernel) rfl c14 m15 dJ22_copyOfRange_21 ?_
      exact g_aret (r := (some q11)) rfl (Or.inr ⟨_, rfl⟩) dJ22_copyOfRange_24 F
    · have F := F.2 h18
      refine g_aload_n dJ22_copyOfRange_10 rfl 0 rfl ?_
      refine g_iload_n dJ22_copyOfRange_11 rfl 1 rfl ?_
      refine g_iload_n dJ22_copyOfRange_12 rfl 2 rfl ?_
      refine h_callSR (As := [va_rf p0, .int p1, .int p2]) (rest := []) F 3 rfl (lw_S q1655 q1656 q138 q1657) vm_J22_copyOfRangeByte.2 (by decide) rfl (room_of sc_nil (Nat.le_of_ble_eq_true rfl)) dJ22_copyOfRange_13 (fun r16 Gr16 br16 sr16 F => ?_)
      exact g_aret (r := r16) rfl (Or.inr ⟨_, rfl⟩) dJ22_copyOfRange_16 F
theorem rJ22_checkLength_0 {Γ : GE} {l : Launch} {h MC MS : Nat} {Q : Option Value → GH → Prop} {bc bs : Nat} {G : GH} (p0 : Int32) (p1 : Int32) (F : ((p0 ≤ p1 → (Q none G)) ∧ (¬ p0 ≤ p1 → (False)))) : GW Γ l mJ22_checkLength h MC MS Q 0 [(0, .int p0), (1, .int p1)] [] G bc bs := by
  refine g_iload_n dJ22_checkLength_0 rfl 1 rfl ?_
  refine g_iload_n dJ22_checkLength_1 rfl 0 rfl ?_
  refine g_icmp_ge 37 dJ22_checkLength_2 (by decide) (fun h1 => ?_) (fun h1 => ?_)
  · have F := F.1 h1
    exact g_vret rfl dJ22_checkLength_37 F
  · have F := F.2 h1
    exact F.elim
theorem rJ22_fill_0 {Γ : GE} {l : Launch} {h MC MS : Nat} {Q : Option Value → GH → Prop} {bc bs : Nat} {G : GH} (p0 : Option Nat) (p1 : Int32) (p2 : Int32) (p3 : Int32) (F : (∃ a1, p0 = some a1 ∧ gC G a1 = kA 2 ∧ cV Γ l h mJ22_rangeCheck [.int (nI (gL G a1)), .int p1, .int p2] G bc bs fun Gr4 br4 sr4 => GW Γ l mJ22_fill h MC MS Q 10 [(0, va_rf p0), (1, .int p1), (2, .int p2), (3, .int p3), (4, .int p1)] [] Gr4 br4 sr4)) : GW Γ l mJ22_fill h MC MS Q 0 [(0, va_rf p0), (1, .int p1), (2, .int p2), (3, .int p3)] [] G bc bs := by
  refine g_aload_n dJ22_fill_0 rfl 0 rfl ?_
  obtain ⟨a1, e2, F⟩ := F
  obtain ⟨c3, F⟩ := F
  refine h_alen 2 e2 c3 (by decide) dJ22_fill_1 ?_
  refine g_iload_n dJ22_fill_2 rfl 1 rfl ?_
  refine g_iload_n dJ22_fill_3 rfl 2 rfl ?_
  refine h_callSV (As := [.int (nI (gL G a1)), .int p1, .int p2]) (rest := []) F 3 rfl (lw_S q1855 q1856 q138 q1857) vm_J22_rangeCheck.2 (by decide) rfl (room_of sc_nil (Nat.le_of_ble_eq_true rfl)) dJ22_fill_4 (fun Gr4 br4 sr4 F => ?_)
  refine g_iload_n dJ22_fill_7 rfl 1 rfl ?_
  refine s_istore (lv' := [(0, va_rf p0), (1, .int p1), (2, .int p2), (3, .int p3), (4, .int p1)]) (cat_R (cat_I (cat_I (cat_I cat_nil)))) dJ22_fill_8 (by decide) rfl [1, 2, 3, 4, 0] rfl ?_
  exact F
theorem rJ22_fill_10 {Γ : GE} {l : Launch} {h MC MS : Nat} {Q : Option Value → GH → Prop} {bc bs : Nat} {G : GH} (p0 : Option Nat) (p1 : Int32) (p2 : Int32) (p3 : Int32) (p4 : Int32) (F : ((p2 ≤ p4 → (Q none G)) ∧ (¬ p2 ≤ p4 → (∃ a1, p0 = some a1 ∧ gC G a1 = kA 2 ∧ gM G a1 = true ∧ vp_in p4 (gL G a1) ∧ GW Γ l mJ22_fill h MC MS Q 10 [(0, va_rf p0), (1, .int p1), (2, .int p2), (3, .int p3), (4, .int (p4 + 1))] [] (sI G a1 p4.toNatClampNeg (vp_nar .byte p3)) bc bs)))) : GW Γ l mJ22_fill h MC MS Q 10 [(0, va_rf p0), (1, .int p1), (2, .int p2), (3, .int p3), (4, .int p4)] [] G bc bs := by
  refine g_iload dJ22_fill_10 4 rfl ?_
  refine g_iload_n dJ22_fill_12 rfl 2 rfl ?_
  refine g_icmp_ge 27 dJ22_fill_13 (by decide) (fun h6 => ?_) (fun h6 => ?_)
  · have F := F.1 h6
    exact g_vret rfl dJ22_fill_27 F
  · have F := F.2 h6
    refine g_aload_n dJ22_fill_16 rfl 0 rfl ?_
    refine g_iload dJ22_fill_17 4 rfl ?_
    refine g_iload_n dJ22_fill_19 rfl 3 rfl ?_
    obtain ⟨a1, e2, F⟩ := F
    obtain ⟨c3, F⟩ := F
    obtain ⟨m4, F⟩ := F
    obtain ⟨k5, F⟩ := F
    refine h_bast e2 c3 m4 k5 dJ22_fill_20 ?_
    refine s_iinc (v := (p4 + 1)) (lv' := [(0, va_rf p0), (1, .int p1), (2, .int p2), (3, .int p3), (4, .int (p4 + 1))]) (cat_R (cat_I (cat_I (cat_I (cat_I cat_nil))))) dJ22_fill_21 (k0 := 4) rfl rfl (by decide) rfl [1, 2, 3, 4, 0] rfl ?_
    refine g_goto 10 dJ22_fill_24 (by decide) ?_
    exact F
theorem rJ22_rangeCheck_0 {Γ : GE} {l : Launch} {h MC MS : Nat} {Q : Option Value → GH → Prop} {bc bs : Nat} {G : GH} (p0 : Int32) (p1 : Int32) (p2 : Int32) (F : ((p1 ≤ p2 → (((0 : Int32) ≤ p1 → ((p2 ≤ p0 → (Q none G)) ∧ (¬ p2 ≤ p0 → (False)))) ∧ (¬ (0 : Int32) ≤ p1 → (False)))) ∧ (¬ p1 ≤ p2 → (False)))) : GW Γ l mJ22_rangeCheck h MC MS Q 0 [(0, .int p0), (1, .int p1), (2, .int p2)] [] G bc bs := by
  refine g_iload_n dJ22_rangeCheck_0 rfl 1 rfl ?_
  refine g_iload_n dJ22_rangeCheck_1 rfl 2 rfl ?_
  refine g_icmp_le 46 dJ22_rangeCheck_2 (by decide) (fun h3 => ?_) (fun h3 => ?_)
  · have F := F.1 h3
    refine g_iload_n dJ22_rangeCheck_46 rfl 1 rfl ?_
    refine g_if_ge 59 dJ22_rangeCheck_47 (by decide) (fun h2 => ?_) (fun h2 => ?_)
    · have F := F.1 h2
      refine g_iload_n dJ22_rangeCheck_59 rfl 2 rfl ?_
      refine g_iload_n dJ22_rangeCheck_60 rfl 0 rfl ?_
      refine g_icmp_le 73 dJ22_rangeCheck_61 (by decide) (fun h1 => ?_) (fun h1 => ?_)
      · have F := F.1 h1
        exact g_vret rfl dJ22_rangeCheck_73 F
      · have F := F.2 h1
        exact F.elim
    · have F := F.2 h2
      exact F.elim
  · have F := F.2 h3
    exact F.elim
theorem rJ25_init_0 {Γ : GE} {l : Launch} {h MC MS : Nat} {Q : Option Value → GH → Prop} {bc bs : Nat} {G : GH} (x : Nat) (F : (Q none G)) : GW Γ l mJ25_init h MC MS Q 0 [(0, va_rf (some x))] [] G bc bs := by
  exact g_vret rfl dJ25_init_0 F
theorem rJ25_equals_0 {Γ : GE} {l : Launch} {h MC MS : Nat} {Q : Option Value → GH → Prop} {bc bs : Nat} {G : GH} (x : Nat) (p1 : Option Nat) (F : ((¬ (some x) = p1 → (Q (some (.int 0)) G)) ∧ ((some x) = p1 → (Q (some (.int 1)) G)))) : GW Γ l mJ25_equals h MC MS Q 0 [(0, va_rf (some x)), (1, va_rf p1)] [] G bc bs := by
  refine g_aload_n dJ25_equals_0 rfl 0 rfl ?_
  refine g_aload_n dJ25_equals_1 rfl 1 rfl ?_
  refine g_acmp_ne 9 dJ25_equals_2 (by decide) (fun h1 => ?_) (fun h1 => ?_)
  · have F := F.1 h1
    refine g_iconst (v := 0) dJ25_equals_9 (by decide) ?_
    exact g_zret rfl rfl dJ25_equals_10 F
  · have F := F.2 h1
    refine g_iconst (v := 1) dJ25_equals_5 (by decide) ?_
    refine g_goto 10 dJ25_equals_6 (by decide) ?_
    exact g_zret rfl rfl dJ25_equals_10 F
theorem rJ1_init_0 {Γ : GE} {l : Launch} {h MC MS : Nat} {Q : Option Value → GH → Prop} {bc bs : Nat} {G : GH} (x : Nat) (F : (cV Γ l h mJ0_init [.ref x] G bc bs fun Gr1 br1 sr1 => gC Gr1 x = kO 9 ∧ gM Gr1 x = true ∧ Q none (sI Gr1 x 0 0))) : GW Γ l mJ1_init h MC MS Q 0 [(0, va_rf (some x))] [] G bc bs := by
  refine g_aload_n dJ1_init_0 rfl 0 rfl ?_
  refine h_callIV (As := []) (rest := []) F 0 rfl rfl (lw_meth q170) q110 q168 q169 rfl vm_J0_init.2 (by decide) rfl rfl (room_of sc_nil (Nat.le_of_ble_eq_true rfl)) dJ1_init_1 (fun Gr1 br1 sr1 F => ?_)
  refine g_aload_n dJ1_init_4 rfl 0 rfl ?_
  refine g_iconst (v := 0) dJ1_init_5 (by decide) ?_
  obtain ⟨c3, F⟩ := F
  obtain ⟨m4, F⟩ := F
  refine h_putI (mi := mJ1_init) 9 0 (C := RJ2) (T := TJ2) (N := 3) rfl in_J2 tyJ2_ok nmJ2 (by decide) q176 (Or.inl rfl) (Or.inl rfl) rfl rfl c3 m4 rfl rfl dJ1_init_6 ?_
  exact g_vret rfl dJ1_init_9 F
theorem rJ0_init_0 {Γ : GE} {l : Launch} {h MC MS : Nat} {Q : Option Value → GH → Prop} {bc bs : Nat} {G : GH} (x : Nat) (F : (0 < h ∧ Q none G)) : GW Γ l mJ0_init h MC MS Q 0 [(0, va_rf (some x))] [] G bc bs := by
  refine g_aload_n dJ0_init_0 rfl 0 rfl ?_
  obtain ⟨k1, F⟩ := F
  refine h_objInit q171 q152 q153 rfl dJ0_init_1 k1 (room_of sc_nil (Nat.le_of_ble_eq_true rfl)) ?_
  exact g_vret rfl dJ0_init_4 F
theorem rJ20_init_0 {Γ : GE} {l : Launch} {h MC MS : Nat} {Q : Option Value → GH → Prop} {bc bs : Nat} {G : GH} (x : Nat) (p1 : Int32) (p2 : Option Nat) (p3 : Option Nat) (p4 : Option Nat) (F : (cV Γ l h mJ16_init [.ref x, .int p1, va_rf p2, va_rf p3, va_rf p4] G bc bs fun Gr1 br1 sr1 => Q none Gr1)) : GW Γ l mJ20_init h MC MS Q 0 [(0, va_rf (some x)), (1, .int p1), (2, va_rf p2), (3, va_rf p3), (4, va_rf p4)] [] G bc bs := by
  refine g_aload_n dJ20_init_0 rfl 0 rfl ?_
  refine g_iload_n dJ20_init_1 rfl 1 rfl ?_
  refine g_aload_n dJ20_init_2 rfl 2 rfl ?_
  refine g_aload_n dJ20_init_3 rfl 3 rfl ?_
  refine g_aload dJ20_init_4 4 rfl ?_
  refine h_callIV (As := [.int p1, va_rf p2, va_rf p3, va_rf p4]) (rest := []) F 4 rfl rfl (lw_meth q700) q129 q1005 q699 rfl vm_J16_init.2 (by decide) rfl rfl (room_of sc_nil (Nat.le_of_ble_eq_true rfl)) dJ20_init_6 (fun Gr1 br1 sr1 F => ?_)
  exact g_vret rfl dJ20_init_9 F
theorem rJ15_newLength_0 {Γ : GE} {l : Launch} {h MC MS : Nat} {Q : Option Value → GH → Prop} {bc bs : Nat} {G : GH} (p0 : Int32) (p1 : Int32) (p2 : Int32) (F : (cI Γ l h mJ7_max [.int p1, .int p2] G bc bs fun r1 Gr1 br1 sr1 => (((p0 + r1) ≤ (0 : Int32) → (cI Γ l h mJ15_hugeLength [.int p0, .int p1] Gr1 br1 sr1 fun r3 Gr3 br3 sr3 => Q (some (.int r3)) Gr3)) ∧ (¬ (p0 + r1) ≤ (0 : Int32) → (((2147483639 : Int32) < (p0 + r1) → (cI Γ l h mJ15_hugeLength [.int p0, .int p1] Gr1 br1 sr1 fun r5 Gr5 br5 sr5 => Q (some (.int r5)) Gr5)) ∧ (¬ (2147483639 : Int32) < (p0 + r1) → (Q (some (.int (p0 + r1))) Gr1))))))) : GW Γ l mJ15_newLength h MC MS Q 0 [(0, .int p0), (1, .int p1), (2, .int p2)] [] G bc bs := by
  refine g_iload_n dJ15_newLength_0 rfl 0 rfl ?_
  refine g_iload_n dJ15_newLength_1 rfl 1 rfl ?_
  refine g_iload_n dJ15_newLength_2 rfl 2 rfl ?_
  refine h_callSI (As := [.int p1, .int p2]) (rest := [.int p0]) F 2 rfl (lw_S q396 q397 q119 q398) vm_J7_max.2 (by decide) rfl (room_of (sc_I sc_nil) (Nat.le_of_ble_eq_true rfl)) dJ15_newLength_3 (fun r1 Gr1 br1 sr1 F => ?_)
  refine g_iadd dJ15_newLength_6 ?_
  refine s_istore_n (lv' := [(0, .int p0), (1, .int p1), (2, .int p2), (3, .int (p0 + r1))]) (cat_I (cat_I (cat_I cat_nil))) dJ15_newLength_7 rfl (by decide) rfl [1, 2, 3, 0] rfl ?_
  refine g_iconst (v := 0) dJ15_newLength_8 (by decide) ?_
  refine g_iload_n dJ15_newLength_9 rfl 3 rfl ?_
  refine g_icmp_ge 21 dJ15_newLength_10 (by decide) (fun h8 => ?_) (fun h8 => ?_)
  · have F := F.1 h8
    refine g_iload_n dJ15_newLength_21 rfl 0 rfl ?_
    refine g_iload_n dJ15_newLength_22 rfl 1 rfl ?_
    refine h_callSI (As := [.int p0, .int p1]) (rest := []) F 2 rfl (lw_S q400 q401 q128 q402) vm_J15_hugeLength.2 (by decide) rfl (room_of sc_nil (Nat.le_of_ble_eq_true rfl)) dJ15_newLength_23 (fun r3 Gr3 br3 sr3 F => ?_)
    exact g_iret rfl dJ15_newLength_26 F
  · have F := F.2 h8
    refine g_iload_n dJ15_newLength_13 rfl 3 rfl ?_
    refine h_ldcI (v := 2147483639) q399 dJ15_newLength_14 ?_
    refine g_icmp_gt 21 dJ15_newLength_16 (by decide) (fun h7 => ?_) (fun h7 => ?_)
    · have F := F.1 h7
      refine g_iload_n dJ15_newLength_21 rfl 0 rfl ?_
      refine g_iload_n dJ15_newLength_22 rfl 1 rfl ?_
      refine h_callSI (As := [.int p0, .int p1]) (rest := []) F 2 rfl (lw_S q400 q401 q128 q402) vm_J15_hugeLength.2 (by decide) rfl (room_of sc_nil (Nat.le_of_ble_eq_true rfl)) dJ15_newLength_23 (fun r5 Gr5 br5 sr5 F => ?_)
      exact g_iret rfl dJ15_newLength_26 F
    · have F := F.2 h7
      refine g_iload_n dJ15_newLength_19 rfl 3 rfl ?_
      exact g_iret rfl dJ15_newLength_20 F
theorem rJ15_vectorizedHashCode_0 {Γ : GE} {l : Launch} {h MC MS : Nat} {Q : Option Value → GH → Prop} {bc bs : Nat} {G : GH} (p0 : Option Nat) (p1 : Int32) (p2 : Int32) (p3 : Int32) (p4 : Int32) (F : ((p4 = 4 → (∃ a2, p0 = some a2 ∧ gC G a2 = kA 2 ∧ gM G a2 = true ∧ cI Γ l h mJ15_signedHashCode [.int p3, va_rf p0, .int p1, .int p2] G bc bs fun r6 Gr6 br6 sr6 => Q (some (.int r6)) Gr6)) ∧ (p4 = 5 → (∃ b8, okInst G p0 "[B" b8 ∧ ((b8 = 0 → (∃ a10, p0 = some a10 ∧ gC G a10 = kA 3 ∧ gM G a10 = true ∧ cI Γ l h mJ15_hashCode [.int p3, va_rf p0, .int p1, .int p2] G bc bs fun r14 Gr14 br14 sr14 => Q (some (.int r14)) Gr14)) ∧ (¬ b8 = 0 → (∃ a16, p0 = some a16 ∧ gC G a16 = kA 2 ∧ gM G a16 = true ∧ cI Γ l h mJ15_utf16hashCode [.int p3, va_rf p0, .int p1, .int p2] G bc bs fun r20 Gr20 br20 sr20 => Q (some (.int r20)) Gr20))))) ∧ (p4 = 6 → (False)) ∧ (p4 = 7 → (False)) ∧ (p4 = 8 → (∃ a23, p0 = some a23 ∧ gC G a23 = kA 2 ∧ gM G a23 = true ∧ cI Γ l h mJ15_hashCode_2 [.int p3, va_rf p0, .int p1, .int p2] G bc bs fun r27 Gr27 br27 sr27 => Q (some (.int r27)) Gr27)) ∧ (p4 = 9 → (False)) ∧ (p4 = 10 → (∃ a29, p0 = some a29 ∧ gC G a29 = kA 0 ∧ gM G a29 = true ∧ cI Γ l h mJ15_hashCode_4 [.int p3, va_rf p0, .int p1, .int p2] G bc bs fun r33 Gr33 br33 sr33 => Q (some (.int r33)) Gr33)) ∧ ((p4.toInt < 4 ∨ 10 < p4.toInt) → (False)))) : GW Γ l mJ15_vectorizedHashCode h MC MS Q 0 [(0, va_rf p0), (1, .int p1), (2, .int p2), (3, .int p3), (4, .int p4)] [] G bc bs := by
  refine g_iload dJ15_vectorizedHashCode_0 4 rfl ?_
  by_cases h1 : (p4.toInt < 4 ∨ 10 < p4.toInt)
  · have F := F.2.2.2.2.2.2.2 h1
    refine h_tout 129 dJ15_vectorizedHashCode_2 h1 (by decide) ?_
    exact F.elim
  · have zh1 : p4.toInt = 4 ∨ p4.toInt = 5 ∨ p4.toInt = 6 ∨ p4.toInt = 7 ∨ p4.toInt = 8 ∨ p4.toInt = 9 ∨ p4.toInt = 10 := by omega
    rcases zh1 with zh1 | zh1 | zh1 | zh1 | zh1 | zh1 | zh1
    · have F := F.1 (tsw_eq zh1 (by decide))
      refine h_tin 44 dJ15_vectorizedHashCode_2 zh1 (by decide) (by decide) rfl (by decide) ?_
      refine g_iload_n dJ15_vectorizedHashCode_44 rfl 3 rfl ?_
      refine g_aload_n dJ15_vectorizedHashCode_45 rfl 0 rfl ?_
      obtain ⟨a2, e3, F⟩ := F
      obtain ⟨c4, F⟩ := F
      obtain ⟨m5, F⟩ := F
      refine h_castA 2 q615 (by decide) (by decide +kernel) e3 c4 m5 dJ15_vectorizedHashCode_46 ?_
      refine g_iload_n dJ15_vectorizedHashCode_49 rfl 1 rfl ?_
      refine g_iload_n dJ15_vectorizedHashCode_50 rfl 2 rfl ?_
      refine h_callSI (As := [.int p3, va_rf p0, .int p1, .int p2]) (rest := []) F 4 rfl (lw_S q616 q617 q128 q618) vm_J15_signedHashCode.2 (by decide) rfl (room_of sc_nil (Nat.le_of_ble_eq_true rfl)) dJ15_vectorizedHashCode_51 (fun r6 Gr6 br6 sr6 F => ?_)
      refine g_goto 157 dJ15_vectorizedHashCode_54 (by decide) ?_
      exact g_iret rfl dJ15_vectorizedHashCode_157 F
    · have F := F.2.1 (tsw_eq zh1 (by decide))
      refine h_tin 57 dJ15_vectorizedHashCode_2 zh1 (by decide) (by decide) rfl (by decide) ?_
      refine g_aload_n dJ15_vectorizedHashCode_57 rfl 0 rfl ?_
      obtain ⟨b8, e9, F⟩ := F
      refine h_inst q615 e9 dJ15_vectorizedHashCode_58 ?_
      refine g_if_eq 77 dJ15_vectorizedHashCode_61 (by decide) (fun h22 => ?_) (fun h22 => ?_)
      · have F := F.1 h22
        refine g_iload_n dJ15_vectorizedHashCode_77 rfl 3 rfl ?_
        refine g_aload_n dJ15_vectorizedHashCode_78 rfl 0 rfl ?_
        obtain ⟨a10, e11, F⟩ := F
        obtain ⟨c12, F⟩ := F
        obtain ⟨m13, F⟩ := F
        refine h_castA 3 q646 (by decide) (by decide +kernel) e11 c12 m13 dJ15_vectorizedHashCode_79 ?_
        refine g_iload_n dJ15_vectorizedHashCode_82 rfl 1 rfl ?_
        refine g_iload_n dJ15_vectorizedHashCode_83 rfl 2 rfl ?_
        refine h_callSI (As := [.int p3, va_rf p0, .int p1, .int p2]) (rest := []) F 4 rfl (lw_S q647 q648 q128 q649) vm_J15_hashCode.2 (by decide) rfl (room_of sc_nil (Nat.le_of_ble_eq_true rfl)) dJ15_vectorizedHashCode_84 (fun r14 Gr14 br14 sr14 F => ?_)
        refine g_goto 157 dJ15_vectorizedHashCode_87 (by decide) ?_
        exact g_iret rfl dJ15_vectorizedHashCode_157 F
      · have F := F.2 h22
        refine g_iload_n dJ15_vectorizedHashCode_64 rfl 3 rfl ?_
        refine g_aload_n dJ15_vectorizedHashCode_65 rfl 0 rfl ?_
        obtain ⟨a16, e17, F⟩ := F
        obtain ⟨c18, F⟩ := F
        obtain ⟨m19, F⟩ := F
        refine h_castA 2 q615 (by decide) (by decide +kernel) e17 c18 m19 dJ15_vectorizedHashCode_66 ?_
        refine g_iload_n dJ15_vectorizedHashCode_69 rfl 1 rfl ?_
        refine g_iload_n dJ15_vectorizedHashCode_70 rfl 2 rfl ?_
        refine h_callSI (As := [.int p3, va_rf p0, .int p1, .int p2]) (rest := []) F 4 rfl (lw_S q619 q620 q128 q621) vm_J15_utf16hashCode.2 (by decide) rfl (room_of sc_nil (Nat.le_of_ble_eq_true rfl)) dJ15_vectorizedHashCode_71 (fun r20 Gr20 br20 sr20 F => ?_)
        refine g_goto 157 dJ15_vectorizedHashCode_74 (by decide) ?_
        exact g_iret rfl dJ15_vectorizedHashCode_157 F
    · have F := F.2.2.1 (tsw_eq zh1 (by decide))
      refine h_tin 129 dJ15_vectorizedHashCode_2 zh1 (by decide) (by decide) rfl (by decide) ?_
      exact F.elim
    · have F := F.2.2.2.1 (tsw_eq zh1 (by decide))
      refine h_tin 129 dJ15_vectorizedHashCode_2 zh1 (by decide) (by decide) rfl (by decide) ?_
      exact F.elim
    · have F := F.2.2.2.2.1 (tsw_eq zh1 (by decide))
      refine h_tin 90 dJ15_vectorizedHashCode_2 zh1 (by decide) (by decide) rfl (by decide) ?_
      refine g_iload_n dJ15_vectorizedHashCode_90 rfl 3 rfl ?_
      refine g_aload_n dJ15_vectorizedHashCode_91 rfl 0 rfl ?_
      obtain ⟨a23, e24, F⟩ := F
      obtain ⟨c25, F⟩ := F
      obtain ⟨m26, F⟩ := F
      refine h_castA 2 q615 (by decide) (by decide +kernel) e24 c25 m26 dJ15_vectorizedHashCode_92 ?_
      refine g_iload_n dJ15_vectorizedHashCode_95 rfl 1 rfl ?_
      refine g_iload_n dJ15_vectorizedHashCode_96 rfl 2 rfl ?_
      refine h_callSI (As := [.int p3, va_rf p0, .int p1, .int p2]) (rest := []) F 4 rfl (lw_S q650 q651 q128 q652) vm_J15_hashCode_2.2 (by decide) rfl (room_of sc_nil (Nat.le_of_ble_eq_true rfl)) dJ15_vectorizedHashCode_97 (fun r27 Gr27 br27 sr27 F => ?_)
      refine g_goto 157 dJ15_vectorizedHashCode_100 (by decide) ?_
      exact g_iret rfl dJ15_vectorizedHashCode_157 F
    · have F := F.2.2.2.2.2.1 (tsw_eq zh1 (by decide))
      refine h_tin 103 dJ15_vectorizedHashCode_2 zh1 (by decide) (by decide) rfl (by decide) ?_
      refine g_iload_n dJ15_vectorizedHashCode_103 rfl 3 rfl ?_
      refine g_aload_n dJ15_vectorizedHashCode_104 rfl 0 rfl ?_
      exact F.elim
    · have F := F.2.2.2.2.2.2.1 (tsw_eq zh1 (by decide))
      refine h_tin 116 dJ15_vectorizedHashCode_2 zh1 (by decide) (by decide) rfl (by decide) ?_
      refine g_iload_n dJ15_vectorizedHashCode_116 rfl 3 rfl ?_
      refine g_aload_n dJ15_vectorizedHashCode_117 rfl 0 rfl ?_
      obtain ⟨a29, e30, F⟩ := F
      obtain ⟨c31, F⟩ := F
      obtain ⟨m32, F⟩ := F
      refine h_castA 0 q657 (by decide) (by decide +kernel) e30 c31 m32 dJ15_vectorizedHashCode_118 ?_
      refine g_iload_n dJ15_vectorizedHashCode_121 rfl 1 rfl ?_
      refine g_iload_n dJ15_vectorizedHashCode_122 rfl 2 rfl ?_
      refine h_callSI (As := [.int p3, va_rf p0, .int p1, .int p2]) (rest := []) F 4 rfl (lw_S q658 q659 q128 q660) vm_J15_hashCode_4.2 (by decide) rfl (room_of sc_nil (Nat.le_of_ble_eq_true rfl)) dJ15_vectorizedHashCode_123 (fun r33 Gr33 br33 sr33 F => ?_)
      refine g_goto 157 dJ15_vectorizedHashCode_126 (by decide) ?_
      exact g_iret rfl dJ15_vectorizedHashCode_157 F
theorem rJ15_signedHashCode_0 {Γ : GE} {l : Launch} {h MC MS : Nat} {Q : Option Value → GH → Prop} {bc bs : Nat} {G : GH} (p0 : Int32) (p1 : Option Nat) (p2 : Int32) (p3 : Int32) (F : (GW Γ l mJ15_signedHashCode h MC MS Q 8 [(0, .int p0), (1, va_rf p1), (2, .int p2), (3, .int p3), (4, .int (p2 + p3)), (5, .int p2)] [] G bc bs)) : GW Γ l mJ15_signedHashCode h MC MS Q 0 [(0, .int p0), (1, va_rf p1), (2, .int p2), (3, .int p3)] [] G bc bs := by
  refine g_iload_n dJ15_signedHashCode_0 rfl 2 rfl ?_
  refine g_iload_n dJ15_signedHashCode_1 rfl 3 rfl ?_
  refine g_iadd dJ15_signedHashCode_2 ?_
  refine s_istore (lv' := [(0, .int p0), (1, va_rf p1), (2, .int p2), (3, .int p3), (4, .int (p2 + p3))]) (cat_I (cat_R (cat_I (cat_I cat_nil)))) dJ15_signedHashCode_3 (by decide) rfl [1, 2, 3, 4, 0] rfl ?_
  refine g_iload_n dJ15_signedHashCode_5 rfl 2 rfl ?_
  refine s_istore (lv' := [(0, .int p0), (1, va_rf p1), (2, .int p2), (3, .int p3), (4, .int (p2 + p3)), (5, .int p2)]) (cat_I (cat_R (cat_I (cat_I (cat_I cat_nil))))) dJ15_signedHashCode_6 (by decide) rfl [1, 2, 3, 4, 5, 0] rfl ?_
  exact F
theorem rJ15_signedHashCode_8 {Γ : GE} {l : Launch} {h MC MS : Nat} {Q : Option Value → GH → Prop} {bc bs : Nat} {G : GH} (p0 : Int32) (p1 : Option Nat) (p2 : Int32) (p3 : Int32) (p4 : Int32) (p5 : Int32) (F : ((p4 ≤ p5 → (Q (some (.int p0)) G)) ∧ (¬ p4 ≤ p5 → (∃ a1, p1 = some a1 ∧ gC G a1 = kA 2 ∧ vp_in p5 (gL G a1) ∧ GW Γ l mJ15_signedHashCode h MC MS Q 8 [(0, .int ((31 * p0) + ((gI G a1 p5.toNatClampNeg) &&& 255))), (1, va_rf p1), (2, .int p2), (3, .int p3), (4, .int p4), (5, .int (p5 + 1))] [] G bc bs)))) : GW Γ l mJ15_signedHashCode h MC MS Q 8 [(0, .int p0), (1, va_rf p1), (2, .int p2), (3, .int p3), (4, .int p4), (5, .int p5)] [] G bc bs := by
  refine g_iload dJ15_signedHashCode_8 5 rfl ?_
  refine g_iload dJ15_signedHashCode_10 4 rfl ?_
  refine g_icmp_ge 35 dJ15_signedHashCode_12 (by decide) (fun h5 => ?_) (fun h5 => ?_)
  · have F := F.1 h5
    refine g_iload_n dJ15_signedHashCode_35 rfl 0 rfl ?_
    exact g_iret rfl dJ15_signedHashCode_36 F
  · have F := F.2 h5
    refine g_bipush (v := 31) dJ15_signedHashCode_15 (by decide) ?_
    refine g_iload_n dJ15_signedHashCode_17 rfl 0 rfl ?_
    refine g_imul dJ15_signedHashCode_18 ?_
    refine g_aload_n dJ15_signedHashCode_19 rfl 1 rfl ?_
    refine g_iload dJ15_signedHashCode_20 5 rfl ?_
    obtain ⟨a1, e2, F⟩ := F
    obtain ⟨c3, F⟩ := F
    obtain ⟨k4, F⟩ := F
    refine h_bald e2 c3 k4 dJ15_signedHashCode_22 ?_
    refine g_sipush (v := 255) dJ15_signedHashCode_23 (by decide) ?_
    refine g_iand dJ15_signedHashCode_26 ?_
    refine g_iadd dJ15_signedHashCode_27 ?_
    refine s_istore_n (lv' := [(0, .int ((31 * p0) + ((gI G a1 p5.toNatClampNeg) &&& 255))), (1, va_rf p1), (2, .int p2), (3, .int p3), (4, .int p4), (5, .int p5)]) (cat_I (cat_R (cat_I (cat_I (cat_I (cat_I cat_nil)))))) dJ15_signedHashCode_28 rfl (by decide) rfl [0, 1, 2, 3, 4, 5] rfl ?_
    refine s_iinc (v := (p5 + 1)) (lv' := [(0, .int ((31 * p0) + ((gI G a1 p5.toNatClampNeg) &&& 255))), (1, va_rf p1), (2, .int p2), (3, .int p3), (4, .int p4), (5, .int (p5 + 1))]) (cat_I (cat_R (cat_I (cat_I (cat_I (cat_I cat_nil)))))) dJ15_signedHashCode_29 (k0 := 5) rfl rfl (by decide) rfl [1, 2, 3, 4, 5, 0] rfl ?_
    refine g_goto 8 dJ15_signedHashCode_32 (by decide) ?_
    exact F
theorem rJ14_hashCode_0 {Γ : GE} {l : Launch} {h MC MS : Nat} {Q : Option Value → GH → Prop} {bc bs : Nat} {G : GH} (p0 : Option Nat) (F : (∃ a1, p0 = some a1 ∧ gC G a1 = kA 2 ∧ (((nI (gL G a1)) = 0 → (Q (some (.int 0)) G)) ∧ ((nI (gL G a1)) = 1 → (vp_in 0 (gL G a1) ∧ Q (some (.int ((gI G a1 (0 : Int32).toNatClampNeg) &&& 255))) G)) ∧ (¬ (nI (gL G a1)) = 0 → ¬ (nI (gL G a1)) = 1 → (cI Γ l h mJ15_vectorizedHashCode [va_rf p0, .int 0, .int (nI (gL G a1)), .int 0, .int 4] G bc bs fun r5 Gr5 br5 sr5 => Q (some (.int r5)) Gr5))))) : GW Γ l mJ14_hashCode h MC MS Q 0 [(0, va_rf p0)] [] G bc bs := by
  refine g_aload_n dJ14_hashCode_0 rfl 0 rfl ?_
  obtain ⟨a1, e2, F⟩ := F
  obtain ⟨c3, F⟩ := F
  refine h_alen 2 e2 c3 (by decide) dJ14_hashCode_1 ?_
  by_cases h7 : (nI (gL G a1)) = 0
  · have F := F.1 h7
    refine h_lsw 28 dJ14_hashCode_2 (by decide) (off := 26) (by rw [h7]; decide +kernel) (by decide) ?_
    refine g_iconst (v := 0) dJ14_hashCode_28 (by decide) ?_
    refine g_goto 51 dJ14_hashCode_29 (by decide) ?_
    exact g_iret rfl dJ14_hashCode_51 F
  ·
    by_cases h8 : (nI (gL G a1)) = 1
    · have F := F.2.1 h8
      refine h_lsw 32 dJ14_hashCode_2 (by decide) (off := 30) (by rw [h8]; decide +kernel) (by decide) ?_
      refine g_aload_n dJ14_hashCode_32 rfl 0 rfl ?_
      refine g_iconst (v := 0) dJ14_hashCode_33 (by decide) ?_
      obtain ⟨k4, F⟩ := F
      refine h_bald e2 c3 k4 dJ14_hashCode_34 ?_
      refine g_sipush (v := 255) dJ14_hashCode_35 (by decide) ?_
      refine g_iand dJ14_hashCode_38 ?_
      refine g_goto 51 dJ14_hashCode_39 (by decide) ?_
      exact g_iret rfl dJ14_hashCode_51 F
    ·
      have F := F.2.2 h7 h8
      refine h_lsw 42 dJ14_hashCode_2 (by decide) (off := 40) ((lv_osw h7 rfl).trans ((lv_osw h8 rfl).trans rfl)) (by decide) ?_
      refine g_aload_n dJ14_hashCode_42 rfl 0 rfl ?_
      refine g_iconst (v := 0) dJ14_hashCode_43 (by decide) ?_
      refine g_aload_n dJ14_hashCode_44 rfl 0 rfl ?_
      refine h_alen 2 e2 c3 (by decide) dJ14_hashCode_45 ?_
      refine g_iconst (v := 0) dJ14_hashCode_46 (by decide) ?_
      refine g_iconst (v := 4) dJ14_hashCode_47 (by decide) ?_
      refine h_callSI (As := [va_rf p0, .int 0, .int (nI (gL G a1)), .int 0, .int 4]) (rest := []) F 5 rfl (lw_S q612 q613 q128 q614) vm_J15_vectorizedHashCode.2 (by decide) rfl (room_of sc_nil (Nat.le_of_ble_eq_true rfl)) dJ14_hashCode_48 (fun r5 Gr5 br5 sr5 F => ?_)
      exact g_iret rfl dJ14_hashCode_51 F
theorem rJ14_getChar_0 {Γ : GE} {l : Launch} {h MC MS : Nat} {Q : Option Value → GH → Prop} {bc bs : Nat} {G : GH} (p0 : Option Nat) (p1 : Int32) (F : (∃ a1, p0 = some a1 ∧ gC G a1 = kA 2 ∧ vp_in p1 (gL G a1) ∧ narrow .char (.int ((((gI G a1 p1.toNatClampNeg) &&& 255).toUInt32 % 65536).toInt32)) = .int ((((gI G a1 p1.toNatClampNeg) &&& 255).toUInt32 % 65536).toInt32) ∧ Q (some (.int ((((gI G a1 p1.toNatClampNeg) &&& 255).toUInt32 % 65536).toInt32))) G)) : GW Γ l mJ14_getChar h MC MS Q 0 [(0, va_rf p0), (1, .int p1)] [] G bc bs := by
  refine g_aload_n dJ14_getChar_0 rfl 0 rfl ?_
  refine g_iload_n dJ14_getChar_1 rfl 1 rfl ?_
  obtain ⟨a1, e2, F⟩ := F
  obtain ⟨c3, F⟩ := F
  obtain ⟨k4, F⟩ := F
  refine h_bald e2 c3 k4 dJ14_getChar_2 ?_
  refine g_sipush (v := 255) dJ14_getChar_3 (by decide) ?_
  refine g_iand dJ14_getChar_6 ?_
  refine g_i2c dJ14_getChar_7 ?_
  obtain ⟨k5, F⟩ := F
  exact g_zret rfl k5 dJ14_getChar_8 F
theorem rJ14_length_0 {Γ : GE} {l : Launch} {h MC MS : Nat} {Q : Option Value → GH → Prop} {bc bs : Nat} {G : GH} (p0 : Option Nat) (F : (∃ a1, p0 = some a1 ∧ gC G a1 = kA 2 ∧ Q (some (.int (nI (gL G a1)))) G)) : GW Γ l mJ14_length h MC MS Q 0 [(0, va_rf p0)] [] G bc bs := by
  refine g_aload_n dJ14_length_0 rfl 0 rfl ?_
  obtain ⟨a1, e2, F⟩ := F
  obtain ⟨c3, F⟩ := F
  refine h_alen 2 e2 c3 (by decide) dJ14_length_1 ?_
  exact g_iret rfl dJ14_length_2 F
theorem rJ14_equals_0 {Γ : GE} {l : Launch} {h MC MS : Nat} {Q : Option Value → GH → Prop} {bc bs : Nat} {G : GH} (p0 : Option Nat) (p1 : Option Nat) (F : (∃ a1, p0 = some a1 ∧ gC G a1 = kA 2 ∧ ∃ a4, p1 = some a4 ∧ gC G a4 = kA 2 ∧ ((¬ (nI (gL G a1)) = (nI (gL G a4)) → (Q (some (.int 0)) G)) ∧ ((nI (gL G a1)) = (nI (gL G a4)) → (GW Γ l mJ14_equals h MC MS Q 9 [(0, va_rf p0), (1, va_rf p1), (2, .int 0)] [] G bc bs))))) : GW Γ l mJ14_equals h MC MS Q 0 [(0, va_rf p0), (1, va_rf p1)] [] G bc bs := by
  refine g_aload_n dJ14_equals_0 rfl 0 rfl ?_
  obtain ⟨a1, e2, F⟩ := F
  obtain ⟨c3, F⟩ := F
  refine h_alen 2 e2 c3 (by decide) dJ14_equals_1 ?_
  refine g_aload_n dJ14_equals_2 rfl 1 rfl ?_
  obtain ⟨a4, e5, F⟩ := F
  obtain ⟨c6, F⟩ := F
  refine h_alen 2 e5 c6 (by decide) dJ14_equals_3 ?_
  refine g_icmp_ne 34 dJ14_equals_4 (by decide) (fun h7 => ?_) (fun h7 => ?_)
  · have F := F.1 h7
    refine g_iconst (v := 0) dJ14_equals_34 (by decide) ?_
    exact g_zret rfl rfl dJ14_equals_35 F
  · have F := F.2 h7
    refine g_iconst (v := 0) dJ14_equals_7 (by decide) ?_
    refine s_istore_n (lv' := [(0, va_rf p0), (1, va_rf p1), (2, .int 0)]) (cat_R (cat_R cat_nil)) dJ14_equals_8 rfl (by decide) rfl [1, 2, 0] rfl ?_
    exact F
theorem rJ14_equals_9 {Γ : GE} {l : Launch} {h MC MS : Nat} {Q : Option Value → GH → Prop} {bc bs : Nat} {G : GH} (p0 : Option Nat) (p1 : Option Nat) (p2 : Int32) (F : (∃ a1, p0 = some a1 ∧ gC G a1 = kA 2 ∧ (((nI (gL G a1)) ≤ p2 → (Q (some (.int 1)) G)) ∧ (¬ (nI (gL G a1)) ≤ p2 → (vp_in p2 (gL G a1) ∧ ∃ a5, p1 = some a5 ∧ gC G a5 = kA 2 ∧ vp_in p2 (gL G a5) ∧ (((gI G a1 p2.toNatClampNeg) = (gI G a5 p2.toNatClampNeg) → (GW Γ l mJ14_equals h MC MS Q 9 [(0, va_rf p0), (1, va_rf p1), (2, .int (p2 + 1))] [] G bc bs)) ∧ (¬ (gI G a1 p2.toNatClampNeg) = (gI G a5 p2.toNatClampNeg) → (Q (some (.int 0)) G)))))))) : GW Γ l mJ14_equals h MC MS Q 9 [(0, va_rf p0), (1, va_rf p1), (2, .int p2)] [] G bc bs := by
  refine g_iload_n dJ14_equals_9 rfl 2 rfl ?_
  refine g_aload_n dJ14_equals_10 rfl 0 rfl ?_
  obtain ⟨a1, e2, F⟩ := F
  obtain ⟨c3, F⟩ := F
  refine h_alen 2 e2 c3 (by decide) dJ14_equals_11 ?_
  refine g_icmp_ge 32 dJ14_equals_12 (by decide) (fun h10 => ?_) (fun h10 => ?_)
  · have F := F.1 h10
    refine g_iconst (v := 1) dJ14_equals_32 (by decide) ?_
    exact g_zret rfl rfl dJ14_equals_33 F
  · have F := F.2 h10
    refine g_aload_n dJ14_equals_15 rfl 0 rfl ?_
    refine g_iload_n dJ14_equals_16 rfl 2 rfl ?_
    obtain ⟨k4, F⟩ := F
    refine h_bald e2 c3 k4 dJ14_equals_17 ?_
    refine g_aload_n dJ14_equals_18 rfl 1 rfl ?_
    refine g_iload_n dJ14_equals_19 rfl 2 rfl ?_
    obtain ⟨a5, e6, F⟩ := F
    obtain ⟨c7, F⟩ := F
    obtain ⟨k8, F⟩ := F
    refine h_bald e6 c7 k8 dJ14_equals_20 ?_
    refine g_icmp_eq 26 dJ14_equals_21 (by decide) (fun h9 => ?_) (fun h9 => ?_)
    · have F := F.1 h9
      refine s_iinc (v := (p2 + 1)) (lv' := [(0, va_rf p0), (1, va_rf p1), (2, .int (p2 + 1))]) (cat_R (cat_R (cat_I cat_nil))) dJ14_equals_26 (k0 := 2) rfl rfl (by decide) rfl [1, 2, 0] rfl ?_
      refine g_goto 9 dJ14_equals_29 (by decide) ?_
      exact F
    · have F := F.2 h9
      refine g_iconst (v := 0) dJ14_equals_24 (by decide) ?_
      exact g_zret rfl rfl dJ14_equals_25 F
theorem rJ14_charAt_0 {Γ : GE} {l : Launch} {h MC MS : Nat} {Q : Option Value → GH → Prop} {bc bs : Nat} {G : GH} (p0 : Option Nat) (p1 : Int32) (F : (∃ a1, p0 = some a1 ∧ gC G a1 = kA 2 ∧ cV Γ l h mJ5_checkIndex [.int p1, .int (nI (gL G a1))] G bc bs fun Gr4 br4 sr4 => gC Gr4 a1 = kA 2 ∧ vp_in p1 (gL Gr4 a1) ∧ narrow .char (.int ((((gI Gr4 a1 p1.toNatClampNeg) &&& 255).toUInt32 % 65536).toInt32)) = .int ((((gI Gr4 a1 p1.toNatClampNeg) &&& 255).toUInt32 % 65536).toInt32) ∧ Q (some (.int ((((gI Gr4 a1 p1.toNatClampNeg) &&& 255).toUInt32 % 65536).toInt32))) Gr4)) : GW Γ l mJ14_charAt h MC MS Q 0 [(0, va_rf p0), (1, .int p1)] [] G bc bs := by
  refine g_iload_n dJ14_charAt_0 rfl 1 rfl ?_
  refine g_aload_n dJ14_charAt_1 rfl 0 rfl ?_
  obtain ⟨a1, e2, F⟩ := F
  obtain ⟨c3, F⟩ := F
  refine h_alen 2 e2 c3 (by decide) dJ14_charAt_2 ?_
  refine h_callSV (As := [.int p1, .int (nI (gL G a1))]) (rest := []) F 2 rfl (lw_S q1779 q1780 q115 q1781) vm_J5_checkIndex.2 (by decide) rfl (room_of sc_nil (Nat.le_of_ble_eq_true rfl)) dJ14_charAt_3 (fun Gr4 br4 sr4 F => ?_)
  refine g_aload_n dJ14_charAt_6 rfl 0 rfl ?_
  refine g_iload_n dJ14_charAt_7 rfl 1 rfl ?_
  obtain ⟨c6, F⟩ := F
  obtain ⟨k7, F⟩ := F
  refine h_bald e2 c6 k7 dJ14_charAt_8 ?_
  refine g_sipush (v := 255) dJ14_charAt_9 (by decide) ?_
  refine g_iand dJ14_charAt_12 ?_
  refine g_i2c dJ14_charAt_13 ?_
  obtain ⟨k8, F⟩ := F
  exact g_zret rfl k8 dJ14_charAt_14 F
theorem rJ14_canEncode_0 {Γ : GE} {l : Launch} {h MC MS : Nat} {Q : Option Value → GH → Prop} {bc bs : Nat} {G : GH} (p0 : Int32) (F : (((255 : Int32) < p0 → (Q (some (.int 0)) G)) ∧ (¬ (255 : Int32) < p0 → (Q (some (.int 1)) G)))) : GW Γ l mJ14_canEncode h MC MS Q 0 [(0, .int p0)] [] G bc bs := by
  refine g_iload_n dJ14_canEncode_0 rfl 0 rfl ?_
  refine g_sipush (v := 255) dJ14_canEncode_1 (by decide) ?_
  refine g_icmp_gt 11 dJ14_canEncode_4 (by decide) (fun h1 => ?_) (fun h1 => ?_)
  · have F := F.1 h1
    refine g_iconst (v := 0) dJ14_canEncode_11 (by decide) ?_
    exact g_zret rfl rfl dJ14_canEncode_12 F
  · have F := F.2 h1
    refine g_iconst (v := 1) dJ14_canEncode_7 (by decide) ?_
    refine g_goto 12 dJ14_canEncode_8 (by decide) ?_
    exact g_zret rfl rfl dJ14_canEncode_12 F
theorem rJ14_fillNull_0 {Γ : GE} {l : Launch} {h MC MS : Nat} {Q : Option Value → GH → Prop} {bc bs : Nat} {G : GH} (p0 : Option Nat) (p1 : Int32) (p2 : Int32) (F : (cV Γ l h mJ22_fill [va_rf p0, .int p1, .int p2, .int 0] G bc bs fun Gr1 br1 sr1 => Q none Gr1)) : GW Γ l mJ14_fillNull h MC MS Q 0 [(0, va_rf p0), (1, .int p1), (2, .int p2)] [] G bc bs := by
  refine g_aload_n dJ14_fillNull_0 rfl 0 rfl ?_
  refine g_iload_n dJ14_fillNull_1 rfl 1 rfl ?_
  refine g_iload_n dJ14_fillNull_2 rfl 2 rfl ?_
  refine g_iconst (v := 0) dJ14_fillNull_3 (by decide) ?_
  refine h_callSV (As := [va_rf p0, .int p1, .int p2, .int 0]) (rest := []) F 4 rfl (lw_S q1852 q1853 q138 q1854) vm_J22_fill.2 (by decide) rfl (room_of sc_nil (Nat.le_of_ble_eq_true rfl)) dJ14_fillNull_4 (fun Gr1 br1 sr1 F => ?_)
  exact g_vret rfl dJ14_fillNull_7 F
theorem rJ5_hashCode_0 {Γ : GE} {l : Launch} {h MC MS : Nat} {Q : Option Value → GH → Prop} {bc bs : Nat} {G : GH} (x : Nat) (F : (gC G x = kO 15 ∧ ((¬ (gI G x 2) = 0 → (Q (some (.int (gI G x 2))) G)) ∧ ((gI G x 2) = 0 → ((¬ (gI G x 3) = 0 → (Q (some (.int (gI G x 2))) G)) ∧ ((gI G x 3) = 0 → (cI Γ l h mJ5_isLatin1 [.ref x] G bc bs fun r2 Gr2 br2 sr2 => ((r2 = 0 → (gC Gr2 x = kO 15 ∧ cI Γ l h mJ6_hashCode [va_rf (gR Gr2 x 0)] Gr2 br2 sr2 fun r5 Gr5 br5 sr5 => ((¬ r5 = 0 → (gC Gr5 x = kO 15 ∧ gM Gr5 x = true ∧ Q (some (.int r5)) (sI Gr5 x 2 r5))) ∧ (r5 = 0 → (gC Gr5 x = kO 15 ∧ gM Gr5 x = true ∧ Q (some (.int r5)) (sI Gr5 x 3 1)))))) ∧ (¬ r2 = 0 → (gC Gr2 x = kO 15 ∧ cI Γ l h mJ14_hashCode [va_rf (gR Gr2 x 0)] Gr2 br2 sr2 fun r13 Gr13 br13 sr13 => ((¬ r13 = 0 → (gC Gr13 x = kO 15 ∧ gM Gr13 x = true ∧ Q (some (.int r13)) (sI Gr13 x 2 r13))) ∧ (r13 = 0 → (gC Gr13 x = kO 15 ∧ gM Gr13 x = true ∧ Q (some (.int r13)) (sI Gr13 x 3 1)))))))))))))) : GW Γ l mJ5_hashCode h MC MS Q 0 [(0, va_rf (some x))] [] G bc bs := by
  refine g_aload_n dJ5_hashCode_0 rfl 0 rfl ?_
  obtain ⟨c1, F⟩ := F
  refine h_get (v := .int (gI G x 2)) 15 2 (C := RJ5) (T := TJ5) (N := 4) rfl in_J5 (by decide) q1673 (Or.inl rfl) rfl c1 rfl dJ5_hashCode_1 ?_
  refine s_istore_n (lv' := [(0, va_rf (some x)), (1, .int (gI G x 2))]) (cat_R cat_nil) dJ5_hashCode_4 rfl (by decide) rfl [1, 0] rfl ?_
  refine g_iload_n dJ5_hashCode_5 rfl 1 rfl ?_
  refine g_if_ne 58 dJ5_hashCode_6 (by decide) (fun h22 => ?_) (fun h22 => ?_)
  · have F := F.1 h22
    refine g_iload_n dJ5_hashCode_58 rfl 1 rfl ?_
    exact g_iret rfl dJ5_hashCode_59 F
  · have F := F.2 h22
    refine g_aload_n dJ5_hashCode_9 rfl 0 rfl ?_
    refine h_get (v := .int (gI G x 3)) 15 3 (C := RJ5) (T := TJ5) (N := 4) rfl in_J5 (by decide) q1674 (Or.inl rfl) rfl c1 rfl dJ5_hashCode_10 ?_
    refine g_if_ne 58 dJ5_hashCode_13 (by decide) (fun h21 => ?_) (fun h21 => ?_)
    · have F := F.1 h21
      refine g_iload_n dJ5_hashCode_58 rfl 1 rfl ?_
      exact g_iret rfl dJ5_hashCode_59 F
    · have F := F.2 h21
      refine g_aload_n dJ5_hashCode_16 rfl 0 rfl ?_
      refine h_callVI (ci := 15) (C := RJ5) (T := TJ5) (N := 4) (As := []) (rest := []) F 0 rfl rfl (lw_V q604 q605 q606 q115 q607) vm_J5_isLatin1 (by decide) rfl c1 rfl (room_of sc_nil (Nat.le_of_ble_eq_true rfl)) dJ5_hashCode_17 (fun r2 Gr2 br2 sr2 F => ?_)
      refine g_if_eq 33 dJ5_hashCode_20 (by decide) (fun h20 => ?_) (fun h20 => ?_)
      · have F := F.1 h20
        refine g_aload_n dJ5_hashCode_33 rfl 0 rfl ?_
        obtain ⟨c4, F⟩ := F
        refine h_get (v := va_rf (gR Gr2 x 0)) 15 0 (C := RJ5) (T := TJ5) (N := 4) rfl in_J5 (by decide) q1671 (Or.inl rfl) rfl c4 rfl dJ5_hashCode_34 ?_
        refine h_callSI (As := [va_rf (gR Gr2 x 0)]) (rest := []) F 1 rfl (lw_S q661 q662 q116 q663) vm_J6_hashCode.2 (by decide) rfl (room_of sc_nil (Nat.le_of_ble_eq_true rfl)) dJ5_hashCode_37 (fun r5 Gr5 br5 sr5 F => ?_)
        refine s_istore_n (lv' := [(0, va_rf (some x)), (1, .int r5)]) (cat_R (cat_I cat_nil)) dJ5_hashCode_40 rfl (by decide) rfl [1, 0] rfl ?_
        refine g_iload_n dJ5_hashCode_41 rfl 1 rfl ?_
        refine g_if_ne 53 dJ5_hashCode_42 (by decide) (fun h11 => ?_) (fun h11 => ?_)
        · have F := F.1 h11
          refine g_aload_n dJ5_hashCode_53 rfl 0 rfl ?_
          refine g_iload_n dJ5_hashCode_54 rfl 1 rfl ?_
          obtain ⟨c7, F⟩ := F
          obtain ⟨m8, F⟩ := F
          refine h_putI (mi := mJ5_hashCode) 15 2 (C := RJ5) (T := TJ5) (N := 4) rfl in_J5 tyJ5_ok nmJ5 (by decide) q1673 (Or.inl rfl) (Or.inl rfl) rfl rfl c7 m8 rfl rfl dJ5_hashCode_55 ?_
          refine g_iload_n dJ5_hashCode_58 rfl 1 rfl ?_
          exact g_iret rfl dJ5_hashCode_59 F
        · have F := F.2 h11
          refine g_aload_n dJ5_hashCode_45 rfl 0 rfl ?_
          refine g_iconst (v := 1) dJ5_hashCode_46 (by decide) ?_
          obtain ⟨c9, F⟩ := F
          obtain ⟨m10, F⟩ := F
          refine h_putI (mi := mJ5_hashCode) 15 3 (C := RJ5) (T := TJ5) (N := 4) rfl in_J5 tyJ5_ok nmJ5 (by decide) q1674 (Or.inl rfl) (Or.inl rfl) rfl rfl c9 m10 rfl rfl dJ5_hashCode_47 ?_
          refine g_goto 58 dJ5_hashCode_50 (by decide) ?_
          refine g_iload_n dJ5_hashCode_58 rfl 1 rfl ?_
          exact g_iret rfl dJ5_hashCode_59 F
      · have F := F.2 h20
        refine g_aload_n dJ5_hashCode_23 rfl 0 rfl ?_
        obtain ⟨c12, F⟩ := F
        refine h_get (v := va_rf (gR Gr2 x 0)) 15 0 (C := RJ5) (T := TJ5) (N := 4) rfl in_J5 (by decide) q1671 (Or.inl rfl) rfl c12 rfl dJ5_hashCode_24 ?_
        refine h_callSI (As := [va_rf (gR Gr2 x 0)]) (rest := []) F 1 rfl (lw_S q609 q610 q127 q611) vm_J14_hashCode.2 (by decide) rfl (room_of sc_nil (Nat.le_of_ble_eq_true rfl)) dJ5_hashCode_27 (fun r13 Gr13 br13 sr13 F => ?_)
        refine g_goto 40 dJ5_hashCode_30 (by decide) ?_
        refine s_istore_n (lv' := [(0, va_rf (some x)), (1, .int r13)]) (cat_R (cat_I cat_nil)) dJ5_hashCode_40 rfl (by decide) rfl [1, 0] rfl ?_
        refine g_iload_n dJ5_hashCode_41 rfl 1 rfl ?_
        refine g_if_ne 53 dJ5_hashCode_42 (by decide) (fun h19 => ?_) (fun h19 => ?_)
        · have F := F.1 h19
          refine g_aload_n dJ5_hashCode_53 rfl 0 rfl ?_
          refine g_iload_n dJ5_hashCode_54 rfl 1 rfl ?_
          obtain ⟨c15, F⟩ := F
          obtain ⟨m16, F⟩ := F
          refine h_putI (mi := mJ5_hashCode) 15 2 (C := RJ5) (T := TJ5) (N := 4) rfl in_J5 tyJ5_ok nmJ5 (by decide) q1673 (Or.inl rfl) (Or.inl rfl) rfl rfl c15 m16 rfl rfl dJ5_hashCode_55 ?_
          refine g_iload_n dJ5_hashCode_58 rfl 1 rfl ?_
          exact g_iret rfl dJ5_hashCode_59 F
        · have F := F.2 h19
          refine g_aload_n dJ5_hashCode_45 rfl 0 rfl ?_
          refine g_iconst (v := 1) dJ5_hashCode_46 (by decide) ?_
          obtain ⟨c17, F⟩ := F
          obtain ⟨m18, F⟩ := F
          refine h_putI (mi := mJ5_hashCode) 15 3 (C := RJ5) (T := TJ5) (N := 4) rfl in_J5 tyJ5_ok nmJ5 (by decide) q1674 (Or.inl rfl) (Or.inl rfl) rfl rfl c17 m18 rfl rfl dJ5_hashCode_47 ?_
          refine g_goto 58 dJ5_hashCode_50 (by decide) ?_
          refine g_iload_n dJ5_hashCode_58 rfl 1 rfl ?_
          exact g_iret rfl dJ5_hashCode_59 F
theorem rJ5_isLatin1_0 {Γ : GE} {l : Launch} {h MC MS : Nat} {Q : Option Value → GH → Prop} {bc bs : Nat} {G : GH} (x : Nat) (F : (((1 : Int32) = 0 → (Q (some (.int 0)) G)) ∧ (¬ (1 : Int32) = 0 → (gC G x = kO 15 ∧ ((¬ (gI G x 1) = 0 → (Q (some (.int 0)) G)) ∧ ((gI G x 1) = 0 → (Q (some (.int 1)) G))))))) : GW Γ l mJ5_isLatin1 h MC MS Q 0 [(0, va_rf (some x))] [] G bc bs := by
  refine g_getsi (C := "java/lang/String") (n := "COMPACT_STRINGS") (d := "Z") (v := 1) (by decide) q608 rfl dJ5_isLatin1_0 ?_
  refine g_if_eq 17 dJ5_isLatin1_3 (by decide) (fun h3 => ?_) (fun h3 => ?_)
  · have F := F.1 h3
    refine g_iconst (v := 0) dJ5_isLatin1_17 (by decide) ?_
    exact g_zret rfl rfl dJ5_isLatin1_18 F
  · have F := F.2 h3
    refine g_aload_n dJ5_isLatin1_6 rfl 0 rfl ?_
    obtain ⟨c1, F⟩ := F
    refine h_get (v := .int (gI G x 1)) 15 1 (C := RJ5) (T := TJ5) (N := 4) rfl in_J5 (by decide) q1672 (Or.inl rfl) rfl c1 rfl dJ5_isLatin1_7 ?_
    refine g_if_ne 17 dJ5_isLatin1_10 (by decide) (fun h2 => ?_) (fun h2 => ?_)
    · have F := F.1 h2
      refine g_iconst (v := 0) dJ5_isLatin1_17 (by decide) ?_
      exact g_zret rfl rfl dJ5_isLatin1_18 F
    · have F := F.2 h2
      refine g_iconst (v := 1) dJ5_isLatin1_13 (by decide) ?_
      refine g_goto 18 dJ5_isLatin1_14 (by decide) ?_
      exact g_zret rfl rfl dJ5_isLatin1_18 F
theorem rJ5_compareTo_0 {Γ : GE} {l : Launch} {h MC MS : Nat} {Q : Option Value → GH → Prop} {bc bs : Nat} {G : GH} (x : Nat) (p1 : Option Nat) (F : (okCast G p1 "java/lang/String" ∧ gC G x = kO 15 ∧ cI Γ l h mJ5_compareTo_2 [.ref x, va_rf p1] G bc bs fun r2 Gr2 br2 sr2 => Q (some (.int r2)) Gr2)) : GW Γ l mJ5_compareTo h MC MS Q 0 [(0, va_rf (some x)), (1, va_rf p1)] [] G bc bs := by
  refine g_aload_n dJ5_compareTo_0 rfl 0 rfl ?_
  refine g_aload_n dJ5_compareTo_1 rfl 1 rfl ?_
  obtain ⟨k1, F⟩ := F
  refine h_castO q750 k1 dJ5_compareTo_2 ?_
  obtain ⟨c3, F⟩ := F
  refine h_callVI (ci := 15) (C := RJ5) (T := TJ5) (N := 4) (As := [va_rf p1]) (rest := []) F 1 rfl rfl (lw_V q751 q752 q753 q115 q754) vm_J5_compareTo_2 (by decide) rfl c3 rfl (room_of sc_nil (Nat.le_of_ble_eq_true rfl)) dJ5_compareTo_5 (fun r2 Gr2 br2 sr2 F => ?_)
  exact g_iret rfl dJ5_compareTo_8 F
theorem rJ5_compareTo_2_0 {Γ : GE} {l : Launch} {h MC MS : Nat} {Q : Option Value → GH → Prop} {bc bs : Nat} {G : GH} (x : Nat) (p1 : Option Nat) (F : (gC G x = kO 15 ∧ ∃ a2, p1 = some a2 ∧ gC G a2 = kO 15 ∧ cI Γ l h mJ5_coder [.ref x] G bc bs fun r5 Gr5 br5 sr5 => gC Gr5 a2 = kO 15 ∧ cI Γ l h mJ5_coder [.ref a2] Gr5 br5 sr5 fun r7 Gr7 br7 sr7 => ((¬ r5 = r7 → ((¬ r5 = 0 → (cI Γ l h mJ6_compareToLatin1 [va_rf (gR G x 0), va_rf (gR G a2 0)] Gr7 br7 sr7 fun r10 Gr10 br10 sr10 => Q (some (.int r10)) Gr10)) ∧ (r5 = 0 → (cI Γ l h mJ14_compareToUTF16 [va_rf (gR G x 0), va_rf (gR G a2 0)] Gr7 br7 sr7 fun r12 Gr12 br12 sr12 => Q (some (.int r12)) Gr12)))) ∧ (r5 = r7 → ((¬ r5 = 0 → (cI Γ l h mJ6_compareTo [va_rf (gR G x 0), va_rf (gR G a2 0)] Gr7 br7 sr7 fun r15 Gr15 br15 sr15 => Q (some (.int r15)) Gr15)) ∧ (r5 = 0 → (cI Γ l h mJ14_compareTo [va_rf (gR G x 0), va_rf (gR G a2 0)] Gr7 br7 sr7 fun r17 Gr17 br17 sr17 => Q (some (.int r17)) Gr17))))))) : GW Γ l mJ5_compareTo_2 h MC MS Q 0 [(0, va_rf (some x)), (1, va_rf p1)] [] G bc bs := by
  refine g_aload_n dJ5_compareTo_2_0 rfl 0 rfl ?_
  obtain ⟨c1, F⟩ := F
  refine h_get (v := va_rf (gR G x 0)) 15 0 (C := RJ5) (T := TJ5) (N := 4) rfl in_J5 (by decide) q1671 (Or.inl rfl) rfl c1 rfl dJ5_compareTo_2_1 ?_
  refine s_astore_n (lv' := [(0, va_rf (some x)), (1, va_rf p1), (2, va_rf (gR G x 0))]) (cat_R (cat_R cat_nil)) dJ5_compareTo_2_4 rfl (by decide) rfl [1, 2, 0] rfl ?_
  refine g_aload_n dJ5_compareTo_2_5 rfl 1 rfl ?_
  obtain ⟨a2, e3, F⟩ := F
  obtain ⟨c4, F⟩ := F
  refine h_get (v := va_rf (gR G a2 0)) 15 0 (C := RJ5) (T := TJ5) (N := 4) rfl in_J5 (by decide) q1671 (Or.inl rfl) e3 c4 rfl dJ5_compareTo_2_6 ?_
  refine s_astore_n (lv' := [(0, va_rf (some x)), (1, va_rf p1), (2, va_rf (gR G x 0)), (3, va_rf (gR G a2 0))]) (cat_R (cat_R (cat_R cat_nil))) dJ5_compareTo_2_9 rfl (by decide) rfl [1, 2, 3, 0] rfl ?_
  refine g_aload_n dJ5_compareTo_2_10 rfl 0 rfl ?_
  refine h_callVI (ci := 15) (C := RJ5) (T := TJ5) (N := 4) (As := []) (rest := []) F 0 rfl rfl (lw_V q755 q756 q757 q115 q758) vm_J5_coder (by decide) rfl c1 rfl (room_of sc_nil (Nat.le_of_ble_eq_true rfl)) dJ5_compareTo_2_11 (fun r5 Gr5 br5 sr5 F => ?_)
  refine s_istore (lv' := [(0, va_rf (some x)), (1, va_rf p1), (2, va_rf (gR G x 0)), (3, va_rf (gR G a2 0)), (4, .int r5)]) (cat_R (cat_R (cat_R (cat_R cat_nil)))) dJ5_compareTo_2_14 (by decide) rfl [1, 2, 3, 4, 0] rfl ?_
  refine g_iload dJ5_compareTo_2_16 4 rfl ?_
  refine g_aload_n dJ5_compareTo_2_18 rfl 1 rfl ?_
  obtain ⟨c8, F⟩ := F
  refine h_callVI (ci := 15) (C := RJ5) (T := TJ5) (N := 4) (As := []) (rest := [.int r5]) F 0 rfl rfl (lw_V q755 q756 q757 q115 q758) vm_J5_coder (by decide) e3 c8 rfl (room_of (sc_I sc_nil) (Nat.le_of_ble_eq_true rfl)) dJ5_compareTo_2_19 (fun r7 Gr7 br7 sr7 F => ?_)
  refine g_icmp_ne 44 dJ5_compareTo_2_22 (by decide) (fun h20 => ?_) (fun h20 => ?_)
  · have F := F.1 h20
    refine g_iload dJ5_compareTo_2_44 4 rfl ?_
    refine g_if_ne 57 dJ5_compareTo_2_46 (by decide) (fun h14 => ?_) (fun h14 => ?_)
    · have F := F.1 h14
      refine g_aload_n dJ5_compareTo_2_57 rfl 2 rfl ?_
      refine g_aload_n dJ5_compareTo_2_58 rfl 3 rfl ?_
      refine h_callSI (As := [va_rf (gR G x 0), va_rf (gR G a2 0)]) (rest := []) F 2 rfl (lw_S q891 q892 q116 q893) vm_J6_compareToLatin1.2 (by decide) rfl (room_of sc_nil (Nat.le_of_ble_eq_true rfl)) dJ5_compareTo_2_59 (fun r10 Gr10 br10 sr10 F => ?_)
      exact g_iret rfl dJ5_compareTo_2_62 F
    · have F := F.2 h14
      refine g_aload_n dJ5_compareTo_2_49 rfl 2 rfl ?_
      refine g_aload_n dJ5_compareTo_2_50 rfl 3 rfl ?_
      refine h_callSI (As := [va_rf (gR G x 0), va_rf (gR G a2 0)]) (rest := []) F 2 rfl (lw_S q880 q881 q127 q882) vm_J14_compareToUTF16.2 (by decide) rfl (room_of sc_nil (Nat.le_of_ble_eq_true rfl)) dJ5_compareTo_2_51 (fun r12 Gr12 br12 sr12 F => ?_)
      refine g_goto 62 dJ5_compareTo_2_54 (by decide) ?_
      exact g_iret rfl dJ5_compareTo_2_62 F
  · have F := F.2 h20
    refine g_iload dJ5_compareTo_2_25 4 rfl ?_
    refine g_if_ne 38 dJ5_compareTo_2_27 (by decide) (fun h19 => ?_) (fun h19 => ?_)
    · have F := F.1 h19
      refine g_aload_n dJ5_compareTo_2_38 rfl 2 rfl ?_
      refine g_aload_n dJ5_compareTo_2_39 rfl 3 rfl ?_
      refine h_callSI (As := [va_rf (gR G x 0), va_rf (gR G a2 0)]) (rest := []) F 2 rfl (lw_S q873 q874 q116 q875) vm_J6_compareTo.2 (by decide) rfl (room_of sc_nil (Nat.le_of_ble_eq_true rfl)) dJ5_compareTo_2_40 (fun r15 Gr15 br15 sr15 F => ?_)
      exact g_iret rfl dJ5_compareTo_2_43 F
    · have F := F.2 h19
      refine g_aload_n dJ5_compareTo_2_30 rfl 2 rfl ?_
      refine g_aload_n dJ5_compareTo_2_31 rfl 3 rfl ?_
      refine h_callSI (As := [va_rf (gR G x 0), va_rf (gR G a2 0)]) (rest := []) F 2 rfl (lw_S q759 q760 q127 q761) vm_J14_compareTo.2 (by decide) rfl (room_of sc_nil (Nat.le_of_ble_eq_true rfl)) dJ5_compareTo_2_32 (fun r17 Gr17 br17 sr17 F => ?_)
      refine g_goto 43 dJ5_compareTo_2_35 (by decide) ?_
      exact g_iret rfl dJ5_compareTo_2_43 F
theorem rJ5_coder_0 {Γ : GE} {l : Launch} {h MC MS : Nat} {Q : Option Value → GH → Prop} {bc bs : Nat} {G : GH} (x : Nat) (F : (((1 : Int32) = 0 → (Q (some (.int 1)) G)) ∧ (¬ (1 : Int32) = 0 → (gC G x = kO 15 ∧ narrow .byte (.int (gI G x 1)) = .int (gI G x 1) ∧ Q (some (.int (gI G x 1))) G)))) : GW Γ l mJ5_coder h MC MS Q 0 [(0, va_rf (some x))] [] G bc bs := by
  refine g_getsi (C := "java/lang/String") (n := "COMPACT_STRINGS") (d := "Z") (v := 1) (by decide) q608 rfl dJ5_coder_0 ?_
  refine g_if_eq 13 dJ5_coder_3 (by decide) (fun h3 => ?_) (fun h3 => ?_)
  · have F := F.1 h3
    refine g_iconst (v := 1) dJ5_coder_13 (by decide) ?_
    exact g_zret rfl rfl dJ5_coder_14 F
  · have F := F.2 h3
    refine g_aload_n dJ5_coder_6 rfl 0 rfl ?_
    obtain ⟨c1, F⟩ := F
    refine h_get (v := .int (gI G x 1)) 15 1 (C := RJ5) (T := TJ5) (N := 4) rfl in_J5 (by decide) q1672 (Or.inl rfl) rfl c1 rfl dJ5_coder_7 ?_
    refine g_goto 14 dJ5_coder_10 (by decide) ?_
    obtain ⟨k2, F⟩ := F
    exact g_zret rfl k2 dJ5_coder_14 F
theorem rJ5_checkOffset_0 {Γ : GE} {l : Launch} {h MC MS : Nat} {Q : Option Value → GH → Prop} {bc bs : Nat} {G : GH} (p0 : Int32) (p1 : Int32) (F : (cI Γ l h mJ13_checkFromToIndex [.int p0, .int p1, .int p1, va_rf (some (Γ.2.2.2 9))] G bc bs fun r1 Gr1 br1 sr1 => Q none Gr1)) : GW Γ l mJ5_checkOffset h MC MS Q 0 [(0, .int p0), (1, .int p1)] [] G bc bs := by
  refine g_iload_n dJ5_checkOffset_0 rfl 0 rfl ?_
  refine g_iload_n dJ5_checkOffset_1 rfl 1 rfl ?_
  refine g_iload_n dJ5_checkOffset_2 rfl 1 rfl ?_
  refine g_getsr (C := "jdk/internal/util/Preconditions") (n := "SIOOBE_FORMATTER") (d := "Ljava/util/function/BiFunction;") (i := 9) (by decide) q924 rfl dJ5_checkOffset_3 ?_
  refine h_callSI (As := [.int p0, .int p1, .int p1, va_rf (some (Γ.2.2.2 9))]) (rest := []) F 4 rfl (lw_S q926 q927 q125 q928) vm_J13_checkFromToIndex.2 (by decide) rfl (room_of sc_nil (Nat.le_of_ble_eq_true rfl)) dJ5_checkOffset_6 (fun r1 Gr1 br1 sr1 F => ?_)
  refine g_pop dJ5_checkOffset_9 rfl ?_
  exact g_vret rfl dJ5_checkOffset_10 F
theorem rJ5_equals_0 {Γ : GE} {l : Launch} {h MC MS : Nat} {Q : Option Value → GH → Prop} {bc bs : Nat} {G : GH} (x : Nat) (p1 : Option Nat) (F : ((¬ (some x) = p1 → (∃ b1, okInst G p1 "java/lang/String" b1 ∧ ((b1 = 0 → (Q (some (.int 0)) G)) ∧ (¬ b1 = 0 → (okCast G p1 "java/lang/String" ∧ (((1 : Int32) = 0 → (gC G x = kO 15 ∧ ∃ a5, p1 = some a5 ∧ gC G a5 = kO 15 ∧ cI Γ l h mJ14_equals [va_rf (gR G x 0), va_rf (gR G a5 0)] G bc bs fun r8 Gr8 br8 sr8 => ((r8 = 0 → (Q (some (.int 0)) Gr8)) ∧ (¬ r8 = 0 → (Q (some (.int 1)) Gr8))))) ∧ (¬ (1 : Int32) = 0 → (gC G x = kO 15 ∧ ∃ a12, p1 = some a12 ∧ gC G a12 = kO 15 ∧ ((¬ (gI G x 1) = (gI G a12 1) → (Q (some (.int 0)) G)) ∧ ((gI G x 1) = (gI G a12 1) → (cI Γ l h mJ14_equals [va_rf (gR G x 0), va_rf (gR G a12 0)] G bc bs fun r15 Gr15 br15 sr15 => ((r15 = 0 → (Q (some (.int 0)) Gr15)) ∧ (¬ r15 = 0 → (Q (some (.int 1)) Gr15)))))))))))))) ∧ ((some x) = p1 → (Q (some (.int 1)) G)))) : GW Γ l mJ5_equals h MC MS Q 0 [(0, va_rf (some x)), (1, va_rf p1)] [] G bc bs := by
  refine g_aload_n dJ5_equals_0 rfl 0 rfl ?_
  refine g_aload_n dJ5_equals_1 rfl 1 rfl ?_
  refine g_acmp_ne 7 dJ5_equals_2 (by decide) (fun h21 => ?_) (fun h21 => ?_)
  · have F := F.1 h21
    refine g_aload_n dJ5_equals_7 rfl 1 rfl ?_
    obtain ⟨b1, e2, F⟩ := F
    refine h_inst q750 e2 dJ5_equals_8 ?_
    refine g_if_eq 54 dJ5_equals_11 (by decide) (fun h20 => ?_) (fun h20 => ?_)
    · have F := F.1 h20
      refine g_iconst (v := 0) dJ5_equals_54 (by decide) ?_
      exact g_zret rfl rfl dJ5_equals_55 F
    · have F := F.2 h20
      refine g_aload_n dJ5_equals_14 rfl 1 rfl ?_
      obtain ⟨k3, F⟩ := F
      refine h_castO q750 k3 dJ5_equals_15 ?_
      refine s_astore_n (lv' := [(0, va_rf (some x)), (1, va_rf p1), (2, va_rf p1)]) (cat_R (cat_R cat_nil)) dJ5_equals_18 rfl (by decide) rfl [1, 2, 0] rfl ?_
      refine g_getsi (C := "java/lang/String") (n := "COMPACT_STRINGS") (d := "Z") (v := 1) (by decide) q608 rfl dJ5_equals_19 ?_
      refine g_if_eq 36 dJ5_equals_22 (by decide) (fun h19 => ?_) (fun h19 => ?_)
      · have F := F.1 h19
        refine g_aload_n dJ5_equals_36 rfl 0 rfl ?_
        obtain ⟨c4, F⟩ := F
        refine h_get (v := va_rf (gR G x 0)) 15 0 (C := RJ5) (T := TJ5) (N := 4) rfl in_J5 (by decide) q1671 (Or.inl rfl) rfl c4 rfl dJ5_equals_37 ?_
        refine g_aload_n dJ5_equals_40 rfl 2 rfl ?_
        obtain ⟨a5, e6, F⟩ := F
        obtain ⟨c7, F⟩ := F
        refine h_get (v := va_rf (gR G a5 0)) 15 0 (C := RJ5) (T := TJ5) (N := 4) rfl in_J5 (by decide) q1671 (Or.inl rfl) e6 c7 rfl dJ5_equals_41 ?_
        refine h_callSI (As := [va_rf (gR G x 0), va_rf (gR G a5 0)]) (rest := []) F 2 rfl (lw_S q974 q975 q127 q976) vm_J14_equals.2 (by decide) rfl (room_of sc_nil (Nat.le_of_ble_eq_true rfl)) dJ5_equals_44 (fun r8 Gr8 br8 sr8 F => ?_)
        refine g_if_eq 54 dJ5_equals_47 (by decide) (fun h10 => ?_) (fun h10 => ?_)
        · have F := F.1 h10
          refine g_iconst (v := 0) dJ5_equals_54 (by decide) ?_
          exact g_zret rfl rfl dJ5_equals_55 F
        · have F := F.2 h10
          refine g_iconst (v := 1) dJ5_equals_50 (by decide) ?_
          refine g_goto 55 dJ5_equals_51 (by decide) ?_
          exact g_zret rfl rfl dJ5_equals_55 F
      · have F := F.2 h19
        refine g_aload_n dJ5_equals_25 rfl 0 rfl ?_
        obtain ⟨c11, F⟩ := F
        refine h_get (v := .int (gI G x 1)) 15 1 (C := RJ5) (T := TJ5) (N := 4) rfl in_J5 (by decide) q1672 (Or.inl rfl) rfl c11 rfl dJ5_equals_26 ?_
        refine g_aload_n dJ5_equals_29 rfl 2 rfl ?_
        obtain ⟨a12, e13, F⟩ := F
        obtain ⟨c14, F⟩ := F
        refine h_get (v := .int (gI G a12 1)) 15 1 (C := RJ5) (T := TJ5) (N := 4) rfl in_J5 (by decide) q1672 (Or.inl rfl) e13 c14 rfl dJ5_equals_30 ?_
        refine g_icmp_ne 54 dJ5_equals_33 (by decide) (fun h18 => ?_) (fun h18 => ?_)
        · have F := F.1 h18
          refine g_iconst (v := 0) dJ5_equals_54 (by decide) ?_
          exact g_zret rfl rfl dJ5_equals_55 F
        · have F := F.2 h18
          refine g_aload_n dJ5_equals_36 rfl 0 rfl ?_
          refine h_get (v := va_rf (gR G x 0)) 15 0 (C := RJ5) (T := TJ5) (N := 4) rfl in_J5 (by decide) q1671 (Or.inl rfl) rfl c11 rfl dJ5_equals_37 ?_
          refine g_aload_n dJ5_equals_40 rfl 2 rfl ?_
          refine h_get (v := va_rf (gR G a12 0)) 15 0 (C := RJ5) (T := TJ5) (N := 4) rfl in_J5 (by decide) q1671 (Or.inl rfl) e13 c14 rfl dJ5_equals_41 ?_
          refine h_callSI (As := [va_rf (gR G x 0), va_rf (gR G a12 0)]) (rest := []) F 2 rfl (lw_S q974 q975 q127 q976) vm_J14_equals.2 (by decide) rfl (room_of sc_nil (Nat.le_of_ble_eq_true rfl)) dJ5_equals_44 (fun r15 Gr15 br15 sr15 F => ?_)
          refine g_if_eq 54 dJ5_equals_47 (by decide) (fun h17 => ?_) (fun h17 => ?_)
          · have F := F.1 h17
            refine g_iconst (v := 0) dJ5_equals_54 (by decide) ?_
            exact g_zret rfl rfl dJ5_equals_55 F
          · have F := F.2 h17
            refine g_iconst (v := 1) dJ5_equals_50 (by decide) ?_
            refine g_goto 55 dJ5_equals_51 (by decide) ?_
            exact g_zret rfl rfl dJ5_equals_55 F
  · have F := F.2 h21
    refine g_iconst (v := 1) dJ5_equals_5 (by decide) ?_
    exact g_zret rfl rfl dJ5_equals_6 F
theorem rJ5_checkBoundsBeginEnd_0 {Γ : GE} {l : Launch} {h MC MS : Nat} {Q : Option Value → GH → Prop} {bc bs : Nat} {G : GH} (p0 : Int32) (p1 : Int32) (p2 : Int32) (F : (cI Γ l h mJ13_checkFromToIndex [.int p0, .int p1, .int p2, va_rf (some (Γ.2.2.2 9))] G bc bs fun r1 Gr1 br1 sr1 => Q none Gr1)) : GW Γ l mJ5_checkBoundsBeginEnd h MC MS Q 0 [(0, .int p0), (1, .int p1), (2, .int p2)] [] G bc bs := by
  refine g_iload_n dJ5_checkBoundsBeginEnd_0 rfl 0 rfl ?_
  refine g_iload_n dJ5_checkBoundsBeginEnd_1 rfl 1 rfl ?_
  refine g_iload_n dJ5_checkBoundsBeginEnd_2 rfl 2 rfl ?_
  refine g_getsr (C := "jdk/internal/util/Preconditions") (n := "SIOOBE_FORMATTER") (d := "Ljava/util/function/BiFunction;") (i := 9) (by decide) q924 rfl dJ5_checkBoundsBeginEnd_3 ?_
  refine h_callSI (As := [.int p0, .int p1, .int p2, va_rf (some (Γ.2.2.2 9))]) (rest := []) F 4 rfl (lw_S q926 q927 q125 q928) vm_J13_checkFromToIndex.2 (by decide) rfl (room_of sc_nil (Nat.le_of_ble_eq_true rfl)) dJ5_checkBoundsBeginEnd_6 (fun r1 Gr1 br1 sr1 F => ?_)
  refine g_pop dJ5_checkBoundsBeginEnd_9 rfl ?_
  exact g_vret rfl dJ5_checkBoundsBeginEnd_10 F
theorem rJ5_length_0 {Γ : GE} {l : Launch} {h MC MS : Nat} {Q : Option Value → GH → Prop} {bc bs : Nat} {G : GH} (x : Nat) (F : (gC G x = kO 15 ∧ ∃ a2, (gR G x 0) = some a2 ∧ gC G a2 = kA 2 ∧ cI Γ l h mJ5_coder [.ref x] G bc bs fun r5 Gr5 br5 sr5 => Q (some (.int ((nI (gL G a2)) >>> (r5 &&& 31)))) Gr5)) : GW Γ l mJ5_length h MC MS Q 0 [(0, va_rf (some x))] [] G bc bs := by
  refine g_aload_n dJ5_length_0 rfl 0 rfl ?_
  obtain ⟨c1, F⟩ := F
  refine h_get (v := va_rf (gR G x 0)) 15 0 (C := RJ5) (T := TJ5) (N := 4) rfl in_J5 (by decide) q1671 (Or.inl rfl) rfl c1 rfl dJ5_length_1 ?_
  obtain ⟨a2, e3, F⟩ := F
  obtain ⟨c4, F⟩ := F
  refine h_alen 2 e3 c4 (by decide) dJ5_length_4 ?_
  refine g_aload_n dJ5_length_5 rfl 0 rfl ?_
  refine h_callVI (ci := 15) (C := RJ5) (T := TJ5) (N := 4) (As := []) (rest := [.int (nI (gL G a2))]) F 0 rfl rfl (lw_V q755 q756 q757 q115 q758) vm_J5_coder (by decide) rfl c1 rfl (room_of (sc_I sc_nil) (Nat.le_of_ble_eq_true rfl)) dJ5_length_6 (fun r5 Gr5 br5 sr5 F => ?_)
  refine g_ishr dJ5_length_9 ?_
  exact g_iret rfl dJ5_length_10 F
theorem rJ5_checkBoundsOffCount_0 {Γ : GE} {l : Launch} {h MC MS : Nat} {Q : Option Value → GH → Prop} {bc bs : Nat} {G : GH} (p0 : Int32) (p1 : Int32) (p2 : Int32) (F : (cI Γ l h mJ13_checkFromIndexSize [.int p0, .int p1, .int p2, va_rf (some (Γ.2.2.2 9))] G bc bs fun r1 Gr1 br1 sr1 => Q (some (.int r1)) Gr1)) : GW Γ l mJ5_checkBoundsOffCount h MC MS Q 0 [(0, .int p0), (1, .int p1), (2, .int p2)] [] G bc bs := by
  refine g_iload_n dJ5_checkBoundsOffCount_0 rfl 0 rfl ?_
  refine g_iload_n dJ5_checkBoundsOffCount_1 rfl 1 rfl ?_
  refine g_iload_n dJ5_checkBoundsOffCount_2 rfl 2 rfl ?_
  refine g_getsr (C := "jdk/internal/util/Preconditions") (n := "SIOOBE_FORMATTER") (d := "Ljava/util/function/BiFunction;") (i := 9) (by decide) q924 rfl dJ5_checkBoundsOffCount_3 ?_
  refine h_callSI (As := [.int p0, .int p1, .int p2, va_rf (some (Γ.2.2.2 9))]) (rest := []) F 4 rfl (lw_S q1616 q1617 q125 q1618) vm_J13_checkFromIndexSize.2 (by decide) rfl (room_of sc_nil (Nat.le_of_ble_eq_true rfl)) dJ5_checkBoundsOffCount_6 (fun r1 Gr1 br1 sr1 F => ?_)
  exact g_iret rfl dJ5_checkBoundsOffCount_9 F
theorem rJ5_getBytes_0 {Γ : GE} {l : Launch} {h MC MS : Nat} {Q : Option Value → GH → Prop} {bc bs : Nat} {G : GH} (x : Nat) (p1 : Option Nat) (p2 : Int32) (p3 : Int32) (F : (gC G x = kO 15 ∧ cI Γ l h mJ5_coder [.ref x] G bc bs fun r1 Gr1 br1 sr1 => ((¬ r1 = p3 → (gC Gr1 x = kO 15 ∧ ∃ a5, (gR Gr1 x 0) = some a5 ∧ gC Gr1 a5 = kA 2 ∧ cV Γ l h mJ14_inflate [va_rf (gR Gr1 x 0), .int 0, va_rf p1, .int p2, .int (nI (gL Gr1 a5))] Gr1 br1 sr1 fun Gr8 br8 sr8 => Q none Gr8)) ∧ (r1 = p3 → (gC Gr1 x = kO 15 ∧ ∃ a11, (gR Gr1 x 0) = some a11 ∧ gC Gr1 a11 = kA 2 ∧ gM Gr1 a11 = true ∧ ∃ a15, p1 = some a15 ∧ gC Gr1 a15 = kA 2 ∧ gM Gr1 a15 = true ∧ ¬ (p2 <<< (p3 &&& 31)) < 0 ∧ ¬ (nI (gL Gr1 a11)) < 0 ∧ (0 : Int32).toNatClampNeg + (nI (gL Gr1 a11)).toNatClampNeg ≤ gL Gr1 a11 ∧ (p2 <<< (p3 &&& 31)).toNatClampNeg + (nI (gL Gr1 a11)).toNatClampNeg ≤ gL Gr1 a15 ∧ (∀ i, i < (nI (gL Gr1 a11)).toNatClampNeg → fits (gtyq 2) (.int (gI Gr1 a11 ((0 : Int32).toNatClampNeg + i))) = true) ∧ 0 < h ∧ ∀ H25, H25 = (wI Gr1 a15 (va_cpy (gI Gr1 a11) (gI Gr1 a15) (0 : Int32).toNatClampNeg (p2 <<< (p3 &&& 31)).toNatClampNeg (nI (gL Gr1 a11)).toNatClampNeg)) → Q none H25))))) : GW Γ l mJ5_getBytes h MC MS Q 0 [(0, va_rf (some x)), (1, va_rf p1), (2, .int p2), (3, .int p3)] [] G bc bs := by
  refine g_aload_n dJ5_getBytes_0 rfl 0 rfl ?_
  obtain ⟨c2, F⟩ := F
  refine h_callVI (ci := 15) (C := RJ5) (T := TJ5) (N := 4) (As := []) (rest := []) F 0 rfl rfl (lw_V q755 q756 q757 q115 q758) vm_J5_coder (by decide) rfl c2 rfl (room_of sc_nil (Nat.le_of_ble_eq_true rfl)) dJ5_getBytes_1 (fun r1 Gr1 br1 sr1 F => ?_)
  refine g_iload_n dJ5_getBytes_4 rfl 3 rfl ?_
  refine g_icmp_ne 28 dJ5_getBytes_5 (by decide) (fun h28 => ?_) (fun h28 => ?_)
  · have F := F.1 h28
    refine g_aload_n dJ5_getBytes_28 rfl 0 rfl ?_
    obtain ⟨c4, F⟩ := F
    refine h_get (v := va_rf (gR Gr1 x 0)) 15 0 (C := RJ5) (T := TJ5) (N := 4) rfl in_J5 (by decide) q1671 (Or.inl rfl) rfl c4 rfl dJ5_getBytes_29 ?_
    refine g_iconst (v := 0) dJ5_getBytes_32 (by decide) ?_
    refine g_aload_n dJ5_getBytes_33 rfl 1 rfl ?_
    refine g_iload_n dJ5_getBytes_34 rfl 2 rfl ?_
    refine g_aload_n dJ5_getBytes_35 rfl 0 rfl ?_
    refine h_get (v := va_rf (gR Gr1 x 0)) 15 0 (C := RJ5) (T := TJ5) (N := 4) rfl in_J5 (by decide) q1671 (Or.inl rfl) rfl c4 rfl dJ5_getBytes_36 ?_
    obtain ⟨a5, e6, F⟩ := F
    obtain ⟨c7, F⟩ := F
    refine h_alen 2 e6 c7 (by decide) dJ5_getBytes_39 ?_
    refine h_callSV (As := [va_rf (gR Gr1 x 0), .int 0, va_rf p1, .int p2, .int (nI (gL Gr1 a5))]) (rest := []) F 5 rfl (lw_S q1624 q1605 q127 q1606) vm_J14_inflate.2 (by decide) rfl (room_of sc_nil (Nat.le_of_ble_eq_true rfl)) dJ5_getBytes_40 (fun Gr8 br8 sr8 F => ?_)
    exact g_vret rfl dJ5_getBytes_43 F
  · have F := F.2 h28
    refine g_aload_n dJ5_getBytes_8 rfl 0 rfl ?_
    obtain ⟨c10, F⟩ := F
    refine h_get (v := va_rf (gR Gr1 x 0)) 15 0 (C := RJ5) (T := TJ5) (N := 4) rfl in_J5 (by decide) q1671 (Or.inl rfl) rfl c10 rfl dJ5_getBytes_9 ?_
    refine g_iconst (v := 0) dJ5_getBytes_12 (by decide) ?_
    refine g_aload_n dJ5_getBytes_13 rfl 1 rfl ?_
    refine g_iload_n dJ5_getBytes_14 rfl 2 rfl ?_
    refine g_iload_n dJ5_getBytes_15 rfl 3 rfl ?_
    refine g_ishl dJ5_getBytes_16 ?_
    refine g_aload_n dJ5_getBytes_17 rfl 0 rfl ?_
    refine h_get (v := va_rf (gR Gr1 x 0)) 15 0 (C := RJ5) (T := TJ5) (N := 4) rfl in_J5 (by decide) q1671 (Or.inl rfl) rfl c10 rfl dJ5_getBytes_18 ?_
    obtain ⟨a11, e12, F⟩ := F
    obtain ⟨c13, F⟩ := F
    refine h_alen 2 e12 c13 (by decide) dJ5_getBytes_21 ?_
    obtain ⟨m14, F⟩ := F
    obtain ⟨a15, e16, F⟩ := F
    obtain ⟨c17, F⟩ := F
    obtain ⟨m18, F⟩ := F
    obtain ⟨k19, F⟩ := F
    obtain ⟨k20, F⟩ := F
    obtain ⟨k21, F⟩ := F
    obtain ⟨k22, F⟩ := F
    obtain ⟨k23, F⟩ := F
    obtain ⟨k24, F⟩ := F
    refine h_copyi 2 (by decide) q1623 q439 q438 q118 e12 c13 m14 e16 c17 m18 (by decide) k19 k20 k21 k22 k23 k24 (room_of sc_nil (Nat.le_of_ble_eq_true rfl)) dJ5_getBytes_22 ?_
    obtain ⟨H25, h26⟩ : ∃ g : GH, g = (wI Gr1 a15 (va_cpy (gI Gr1 a11) (gI Gr1 a15) (0 : Int32).toNatClampNeg (p2 <<< (p3 &&& 31)).toNatClampNeg (nI (gL Gr1 a11)).toNatClampNeg)) := ⟨_, rfl⟩
    rw [← h26]
    have F := F H25 h26
    refine g_goto 43 dJ5_getBytes_25 (by decide) ?_
    exact g_vret rfl dJ5_getBytes_43 F
theorem rJ5_init_0 {Γ : GE} {l : Launch} {h MC MS : Nat} {Q : Option Value → GH → Prop} {bc bs : Nat} {G : GH} (x : Nat) (p1 : Option Nat) (F : (cV Γ l h mJ5_init_2 [.ref x, va_rf p1, va_rf none] G bc bs fun Gr1 br1 sr1 => Q none Gr1)) : GW Γ l mJ5_init h MC MS Q 0 [(0, va_rf (some x)), (1, va_rf p1)] [] G bc bs := by
  refine g_aload_n dJ5_init_0 rfl 0 rfl ?_
  refine g_aload_n dJ5_init_1 rfl 1 rfl ?_
  refine g_null dJ5_init_2 ?_
  refine h_callIV (As := [va_rf p1, va_rf none]) (rest := []) F 2 rfl rfl (lw_meth q1636) q115 q1634 q1635 rfl vm_J5_init_2.2 (by decide) rfl rfl (room_of sc_nil (Nat.le_of_ble_eq_true rfl)) dJ5_init_3 (fun Gr1 br1 sr1 F => ?_)
  exact g_vret rfl dJ5_init_6 F
theorem rJ5_init_2_0 {Γ : GE} {l : Launch} {h MC MS : Nat} {Q : Option Value → GH → Prop} {bc bs : Nat} {G : GH} (x : Nat) (p1 : Option Nat) (p2 : Option Nat) (F : (0 < h ∧ ∃ a3, p1 = some a3 ∧ gC G a3 = kO 14 ∧ cR Γ l h mJ3_getValue [.ref a3] G bc bs fun r2 Gr2 br2 sr2 => gC Gr2 a3 = kO 14 ∧ cI Γ l h mJ4_length [.ref a3] Gr2 br2 sr2 fun r7 Gr7 br7 sr7 => gC Gr7 a3 = kO 14 ∧ cI Γ l h mJ3_isLatin1 [.ref a3] Gr7 br7 sr7 fun r10 Gr10 br10 sr10 => ((r10 = 0 → (((1 : Int32) = 0 → (gC Gr10 x = kO 15 ∧ gM Gr10 x = true ∧ cR Γ l h mJ22_copyOfRange [va_rf r2, .int 0, .int (r7 <<< (1 &&& 31))] (sI Gr10 x 1 1) br10 sr10 fun r15 Gr15 br15 sr15 => gC Gr15 x = kO 15 ∧ gM Gr15 x = true ∧ Q none (sR Gr15 x 0 r15))) ∧ (¬ (1 : Int32) = 0 → (gC Gr10 a3 = kO 14 ∧ (((gI Gr10 a3 2) = 0 → (gC Gr10 x = kO 15 ∧ gM Gr10 x = true ∧ cR Γ l h mJ22_copyOfRange [va_rf r2, .int 0, .int (r7 <<< (1 &&& 31))] (sI Gr10 x 1 1) br10 sr10 fun r22 Gr22 br22 sr22 => gC Gr22 x = kO 15 ∧ gM Gr22 x = true ∧ Q none (sR Gr22 x 0 r22))) ∧ (¬ (gI Gr10 a3 2) = 0 → (cR Γ l h mJ6_compress [va_rf r2, .int 0, .int r7] Gr10 br10 sr10 fun r26 Gr26 br26 sr26 => gC Gr26 x = kO 15 ∧ gM Gr26 x = true ∧ cI Γ l h mJ6_coderFromArrayLen [va_rf (gR (sR Gr26 x 0 r26) x 0), .int r7] (sR Gr26 x 0 r26) br26 sr26 fun r30 Gr30 br30 sr30 => gC Gr30 x = kO 15 ∧ gM Gr30 x = true ∧ (narrow .byte (.int r30) = .int r30 ∧ fits .byte (.int r30) = true) ∧ Q none (sI Gr30 x 1 r30)))))))) ∧ (¬ r10 = 0 → (gC Gr10 x = kO 15 ∧ gM Gr10 x = true ∧ cR Γ l h mJ22_copyOfRange [va_rf r2, .int 0, .int r7] (sI Gr10 x 1 0) br10 sr10 fun r39 Gr39 br39 sr39 => gC Gr39 x = kO 15 ∧ gM Gr39 x = true ∧ Q none (sR Gr39 x 0 r39)))))) : GW Γ l mJ5_init_2 h MC MS Q 0 [(0, va_rf (some x)), (1, va_rf p1), (2, va_rf p2)] [] G bc bs := by
  refine g_aload_n dJ5_init_2_0 rfl 0 rfl ?_
  obtain ⟨k1, F⟩ := F
  refine h_objInit q1637 q152 q153 rfl dJ5_init_2_1 k1 (room_of sc_nil (Nat.le_of_ble_eq_true rfl)) ?_
  refine g_aload_n dJ5_init_2_4 rfl 1 rfl ?_
  obtain ⟨a3, e4, F⟩ := F
  obtain ⟨c5, F⟩ := F
  refine h_callUR (ci := 14) (x := ⟨"java/lang/AbstractStringBuilder", "getValue", "()[B"⟩) (owner := "java/lang/AbstractStringBuilder") (C := RJ4) (T := TJ4) (N := 4) (As := []) (rest := []) F 0 rfl rfl (hasW.all q1638) (hasW.all q1640) (hasD.of q1639 q1642) (hasW.all q1641) q1639 q113 q1642 ⟨by decide +kernel, by decide +kernel, by decide +kernel⟩ (by decide) e4 c5 rfl (room_of sc_nil (Nat.le_of_ble_eq_true rfl)) dJ5_init_2_5 (fun r2 Gr2 br2 sr2 F => ?_)
  refine s_astore_n (lv' := [(0, va_rf (some x)), (1, va_rf p1), (2, va_rf p2), (3, va_rf r2)]) (cat_R (cat_R (cat_R cat_nil))) dJ5_init_2_8 rfl (by decide) rfl [1, 2, 3, 0] rfl ?_
  refine g_aload_n dJ5_init_2_9 rfl 1 rfl ?_
  obtain ⟨c8, F⟩ := F
  refine h_callUI (ci := 14) (x := ⟨"java/lang/AbstractStringBuilder", "length", "()I"⟩) (owner := "java/lang/AbstractStringBuilder") (C := RJ4) (T := TJ4) (N := 4) (As := []) (rest := []) F 0 rfl rfl (hasW.all q1643) (hasW.all q1645) (hasD.of q1644 q1650) (hasW.all q1646) q1647 q114 q1648 ⟨by decide +kernel, by decide +kernel, by decide +kernel⟩ (by decide) e4 c8 rfl (room_of sc_nil (Nat.le_of_ble_eq_true rfl)) dJ5_init_2_10 (fun r7 Gr7 br7 sr7 F => ?_)
  refine s_istore (lv' := [(0, va_rf (some x)), (1, va_rf p1), (2, va_rf p2), (3, va_rf r2), (4, .int r7)]) (cat_R (cat_R (cat_R (cat_R cat_nil)))) dJ5_init_2_13 (by decide) rfl [1, 2, 3, 4, 0] rfl ?_
  refine g_aload_n dJ5_init_2_15 rfl 1 rfl ?_
  obtain ⟨c11, F⟩ := F
  refine h_callUI (ci := 14) (x := ⟨"java/lang/AbstractStringBuilder", "isLatin1", "()Z"⟩) (owner := "java/lang/AbstractStringBuilder") (C := RJ4) (T := TJ4) (N := 4) (As := []) (rest := []) F 0 rfl rfl (hasW.all q1651) (hasW.all q911) (hasD.of q910 q913) (hasW.all q912) q910 q113 q913 ⟨by decide +kernel, by decide +kernel, by decide +kernel⟩ (by decide) e4 c11 rfl (room_of sc_nil (Nat.le_of_ble_eq_true rfl)) dJ5_init_2_16 (fun r10 Gr10 br10 sr10 F => ?_)
  refine g_if_eq 41 dJ5_init_2_19 (by decide) (fun h43 => ?_) (fun h43 => ?_)
  · have F := F.1 h43
    refine g_getsi (C := "java/lang/String") (n := "COMPACT_STRINGS") (d := "Z") (v := 1) (by decide) q608 rfl dJ5_init_2_41 ?_
    refine g_if_eq 79 dJ5_init_2_44 (by decide) (fun h36 => ?_) (fun h36 => ?_)
    · have F := F.1 h36
      refine g_aload_n dJ5_init_2_79 rfl 0 rfl ?_
      refine g_iconst (v := 1) dJ5_init_2_80 (by decide) ?_
      obtain ⟨c13, F⟩ := F
      obtain ⟨m14, F⟩ := F
      refine h_putI (mi := mJ5_init_2) 15 1 (C := RJ5) (T := TJ5) (N := 4) rfl in_J5 tyJ5_ok nmJ5 (by decide) q1672 (Or.inl rfl) (Or.inr ⟨rfl, rfl⟩) rfl rfl c13 m14 rfl rfl dJ5_init_2_81 ?_
      refine g_aload_n dJ5_init_2_84 rfl 0 rfl ?_
      refine g_aload_n dJ5_init_2_85 rfl 3 rfl ?_
      refine g_iconst (v := 0) dJ5_init_2_86 (by decide) ?_
      refine g_iload dJ5_init_2_87 4 rfl ?_
      refine g_iconst (v := 1) dJ5_init_2_89 (by decide) ?_
      refine g_ishl dJ5_init_2_90 ?_
      refine h_callSR (As := [va_rf r2, .int 0, .int (r7 <<< (1 &&& 31))]) (rest := [va_rf (some x)]) F 3 rfl (lw_S q1652 q1653 q138 q1654) vm_J22_copyOfRange.2 (by decide) rfl (room_of (sc_R sc_nil) (Nat.le_of_ble_eq_true rfl)) dJ5_init_2_91 (fun r15 Gr15 br15 sr15 F => ?_)
      obtain ⟨c17, F⟩ := F
      obtain ⟨m18, F⟩ := F
      refine h_putR (mi := mJ5_init_2) 15 0 (C := RJ5) (T := TJ5) (N := 4) rfl in_J5 tyJ5_ok nmJ5 (by decide) q1671 (Or.inl rfl) (Or.inr ⟨rfl, rfl⟩) rfl rfl rfl c17 m18 dJ5_init_2_94 ?_
      exact g_vret rfl dJ5_init_2_97 F
    · have F := F.2 h36
      refine g_aload_n dJ5_init_2_47 rfl 1 rfl ?_
      obtain ⟨c19, F⟩ := F
      refine h_get (v := .int (gI Gr10 a3 2)) 14 2 (C := RJ4) (T := TJ4) (N := 4) rfl in_J4 (by decide) q222 (Or.inl rfl) e4 c19 rfl dJ5_init_2_48 ?_
      refine g_if_eq 79 dJ5_init_2_51 (by decide) (fun h35 => ?_) (fun h35 => ?_)
      · have F := F.1 h35
        refine g_aload_n dJ5_init_2_79 rfl 0 rfl ?_
        refine g_iconst (v := 1) dJ5_init_2_80 (by decide) ?_
        obtain ⟨c20, F⟩ := F
        obtain ⟨m21, F⟩ := F
        refine h_putI (mi := mJ5_init_2) 15 1 (C := RJ5) (T := TJ5) (N := 4) rfl in_J5 tyJ5_ok nmJ5 (by decide) q1672 (Or.inl rfl) (Or.inr ⟨rfl, rfl⟩) rfl rfl c20 m21 rfl rfl dJ5_init_2_81 ?_
        refine g_aload_n dJ5_init_2_84 rfl 0 rfl ?_
        refine g_aload_n dJ5_init_2_85 rfl 3 rfl ?_
        refine g_iconst (v := 0) dJ5_init_2_86 (by decide) ?_
        refine g_iload dJ5_init_2_87 4 rfl ?_
        refine g_iconst (v := 1) dJ5_init_2_89 (by decide) ?_
        refine g_ishl dJ5_init_2_90 ?_
        refine h_callSR (As := [va_rf r2, .int 0, .int (r7 <<< (1 &&& 31))]) (rest := [va_rf (some x)]) F 3 rfl (lw_S q1652 q1653 q138 q1654) vm_J22_copyOfRange.2 (by decide) rfl (room_of (sc_R sc_nil) (Nat.le_of_ble_eq_true rfl)) dJ5_init_2_91 (fun r22 Gr22 br22 sr22 F => ?_)
        obtain ⟨c24, F⟩ := F
        obtain ⟨m25, F⟩ := F
        refine h_putR (mi := mJ5_init_2) 15 0 (C := RJ5) (T := TJ5) (N := 4) rfl in_J5 tyJ5_ok nmJ5 (by decide) q1671 (Or.inl rfl) (Or.inr ⟨rfl, rfl⟩) rfl rfl rfl c24 m25 dJ5_init_2_94 ?_
        exact g_vret rfl dJ5_init_2_97 F
      · have F := F.2 h35
        refine g_aload_n dJ5_init_2_54 rfl 0 rfl ?_
        refine g_aload_n dJ5_init_2_55 rfl 3 rfl ?_
        refine g_iconst (v := 0) dJ5_init_2_56 (by decide) ?_
        refine g_iload dJ5_init_2_57 4 rfl ?_
        refine h_callSR (As := [va_rf r2, .int 0, .int r7]) (rest := [va_rf (some x)]) F 3 rfl (lw_S q1661 q1662 q116 q1663) vm_J6_compress.2 (by decide) rfl (room_of (sc_R sc_nil) (Nat.le_of_ble_eq_true rfl)) dJ5_init_2_59 (fun r26 Gr26 br26 sr26 F => ?_)
        obtain ⟨c28, F⟩ := F
        obtain ⟨m29, F⟩ := F
        refine h_putR (mi := mJ5_init_2) 15 0 (C := RJ5) (T := TJ5) (N := 4) rfl in_J5 tyJ5_ok nmJ5 (by decide) q1671 (Or.inl rfl) (Or.inr ⟨rfl, rfl⟩) rfl rfl rfl c28 m29 dJ5_init_2_62 ?_
        refine g_aload_n dJ5_init_2_65 rfl 0 rfl ?_
        refine g_aload_n dJ5_init_2_66 rfl 0 rfl ?_
        refine h_get (v := va_rf (gR (sR Gr26 x 0 r26) x 0)) 15 0 (C := RJ5) (T := TJ5) (N := 4) rfl in_J5 (by decide) q1671 (Or.inl rfl) rfl c28 rfl dJ5_init_2_67 ?_
        refine g_iload dJ5_init_2_70 4 rfl ?_
        refine h_callSI (As := [va_rf (gR (sR Gr26 x 0 r26) x 0), .int r7]) (rest := [va_rf (some x)]) F 2 rfl (lw_S q1668 q1669 q116 q1670) vm_J6_coderFromArrayLen.2 (by decide) rfl (room_of (sc_R sc_nil) (Nat.le_of_ble_eq_true rfl)) dJ5_init_2_72 (fun r30 Gr30 br30 sr30 F => ?_)
        obtain ⟨c32, F⟩ := F
        obtain ⟨m33, F⟩ := F
        obtain ⟨k34, F⟩ := F
        refine h_putI (mi := mJ5_init_2) 15 1 (C := RJ5) (T := TJ5) (N := 4) rfl in_J5 tyJ5_ok nmJ5 (by decide) q1672 (Or.inl rfl) (Or.inr ⟨rfl, rfl⟩) rfl rfl c32 m33 k34.1 k34.2 dJ5_init_2_75 ?_
        exact g_vret rfl dJ5_init_2_78 F
  · have F := F.2 h43
    refine g_aload_n dJ5_init_2_22 rfl 0 rfl ?_
    refine g_iconst (v := 0) dJ5_init_2_23 (by decide) ?_
    obtain ⟨c37, F⟩ := F
    obtain ⟨m38, F⟩ := F
    refine h_putI (mi := mJ5_init_2) 15 1 (C := RJ5) (T := TJ5) (N := 4) rfl in_J5 tyJ5_ok nmJ5 (by decide) q1672 (Or.inl rfl) (Or.inr ⟨rfl, rfl⟩) rfl rfl c37 m38 rfl rfl dJ5_init_2_24 ?_
    refine g_aload_n dJ5_init_2_27 rfl 0 rfl ?_
    refine g_aload_n dJ5_init_2_28 rfl 3 rfl ?_
    refine g_iconst (v := 0) dJ5_init_2_29 (by decide) ?_
    refine g_iload dJ5_init_2_30 4 rfl ?_
    refine h_callSR (As := [va_rf r2, .int 0, .int r7]) (rest := [va_rf (some x)]) F 3 rfl (lw_S q1652 q1653 q138 q1654) vm_J22_copyOfRange.2 (by decide) rfl (room_of (sc_R sc_nil) (Nat.le_of_ble_eq_true rfl)) dJ5_init_2_32 (fun r39 Gr39 br39 sr39 F => ?_)
    obtain ⟨c41, F⟩ := F
    obtain ⟨m42, F⟩ := F
    refine h_putR (mi := mJ5_init_2) 15 0 (C := RJ5) (T := TJ5) (N := 4) rfl in_J5 tyJ5_ok nmJ5 (by decide) q1671 (Or.inl rfl) (Or.inr ⟨rfl, rfl⟩) rfl rfl rfl c41 m42 dJ5_init_2_35 ?_
    refine g_goto 97 dJ5_init_2_38 (by decide) ?_
    exact g_vret rfl dJ5_init_2_97 F
theorem rJ5_value_0 {Γ : GE} {l : Launch} {h MC MS : Nat} {Q : Option Value → GH → Prop} {bc bs : Nat} {G : GH} (x : Nat) (F : (gC G x = kO 15 ∧ Q (some (va_rf (gR G x 0))) G)) : GW Γ l mJ5_value h MC MS Q 0 [(0, va_rf (some x))] [] G bc bs := by
  refine g_aload_n dJ5_value_0 rfl 0 rfl ?_
  obtain ⟨c1, F⟩ := F
  refine h_get (v := va_rf (gR G x 0)) 15 0 (C := RJ5) (T := TJ5) (N := 4) rfl in_J5 (by decide) q1671 (Or.inl rfl) rfl c1 rfl dJ5_value_1 ?_
  exact g_aret (r := (gR G x 0)) rfl (Or.inr ⟨_, rfl⟩) dJ5_value_4 F
theorem rJ5_charAt_0 {Γ : GE} {l : Launch} {h MC MS : Nat} {Q : Option Value → GH → Prop} {bc bs : Nat} {G : GH} (x : Nat) (p1 : Int32) (F : (gC G x = kO 15 ∧ cI Γ l h mJ5_isLatin1 [.ref x] G bc bs fun r1 Gr1 br1 sr1 => ((r1 = 0 → (gC Gr1 x = kO 15 ∧ cI Γ l h mJ6_charAt [va_rf (gR Gr1 x 0), .int p1] Gr1 br1 sr1 fun r5 Gr5 br5 sr5 => narrow .char (.int r5) = .int r5 ∧ Q (some (.int r5)) Gr5)) ∧ (¬ r1 = 0 → (gC Gr1 x = kO 15 ∧ cI Γ l h mJ14_charAt [va_rf (gR Gr1 x 0), .int p1] Gr1 br1 sr1 fun r9 Gr9 br9 sr9 => narrow .char (.int r9) = .int r9 ∧ Q (some (.int r9)) Gr9))))) : GW Γ l mJ5_charAt h MC MS Q 0 [(0, va_rf (some x)), (1, .int p1)] [] G bc bs := by
  refine g_aload_n dJ5_charAt_0 rfl 0 rfl ?_
  obtain ⟨c2, F⟩ := F
  refine h_callVI (ci := 15) (C := RJ5) (T := TJ5) (N := 4) (As := []) (rest := []) F 0 rfl rfl (lw_V q604 q605 q606 q115 q607) vm_J5_isLatin1 (by decide) rfl c2 rfl (room_of sc_nil (Nat.le_of_ble_eq_true rfl)) dJ5_charAt_1 (fun r1 Gr1 br1 sr1 F => ?_)
  refine g_if_eq 16 dJ5_charAt_4 (by decide) (fun h12 => ?_) (fun h12 => ?_)
  · have F := F.1 h12
    refine g_aload_n dJ5_charAt_16 rfl 0 rfl ?_
    obtain ⟨c4, F⟩ := F
    refine h_get (v := va_rf (gR Gr1 x 0)) 15 0 (C := RJ5) (T := TJ5) (N := 4) rfl in_J5 (by decide) q1671 (Or.inl rfl) rfl c4 rfl dJ5_charAt_17 ?_
    refine g_iload_n dJ5_charAt_20 rfl 1 rfl ?_
    refine h_callSI (As := [va_rf (gR Gr1 x 0), .int p1]) (rest := []) F 2 rfl (lw_S q1783 q1784 q116 q1785) vm_J6_charAt.2 (by decide) rfl (room_of sc_nil (Nat.le_of_ble_eq_true rfl)) dJ5_charAt_21 (fun r5 Gr5 br5 sr5 F => ?_)
    obtain ⟨k7, F⟩ := F
    exact g_zret rfl k7 dJ5_charAt_24 F
  · have F := F.2 h12
    refine g_aload_n dJ5_charAt_7 rfl 0 rfl ?_
    obtain ⟨c8, F⟩ := F
    refine h_get (v := va_rf (gR Gr1 x 0)) 15 0 (C := RJ5) (T := TJ5) (N := 4) rfl in_J5 (by decide) q1671 (Or.inl rfl) rfl c8 rfl dJ5_charAt_8 ?_
    refine g_iload_n dJ5_charAt_11 rfl 1 rfl ?_
    refine h_callSI (As := [va_rf (gR Gr1 x 0), .int p1]) (rest := []) F 2 rfl (lw_S q1776 q1777 q127 q1778) vm_J14_charAt.2 (by decide) rfl (room_of sc_nil (Nat.le_of_ble_eq_true rfl)) dJ5_charAt_12 (fun r9 Gr9 br9 sr9 F => ?_)
    obtain ⟨k11, F⟩ := F
    exact g_zret rfl k11 dJ5_charAt_15 F
theorem rJ5_checkIndex_0 {Γ : GE} {l : Launch} {h MC MS : Nat} {Q : Option Value → GH → Prop} {bc bs : Nat} {G : GH} (p0 : Int32) (p1 : Int32) (F : (cI Γ l h mJ13_checkIndex [.int p0, .int p1, va_rf (some (Γ.2.2.2 9))] G bc bs fun r1 Gr1 br1 sr1 => Q none Gr1)) : GW Γ l mJ5_checkIndex h MC MS Q 0 [(0, .int p0), (1, .int p1)] [] G bc bs := by
  refine g_iload_n dJ5_checkIndex_0 rfl 0 rfl ?_
  refine g_iload_n dJ5_checkIndex_1 rfl 1 rfl ?_
  refine g_getsr (C := "jdk/internal/util/Preconditions") (n := "SIOOBE_FORMATTER") (d := "Ljava/util/function/BiFunction;") (i := 9) (by decide) q924 rfl dJ5_checkIndex_2 ?_
  refine h_callSI (As := [.int p0, .int p1, va_rf (some (Γ.2.2.2 9))]) (rest := []) F 3 rfl (lw_S q1782 q339 q125 q340) vm_J13_checkIndex.2 (by decide) rfl (room_of sc_nil (Nat.le_of_ble_eq_true rfl)) dJ5_checkIndex_5 (fun r1 Gr1 br1 sr1 F => ?_)
  refine g_pop dJ5_checkIndex_8 rfl ?_
  exact g_vret rfl dJ5_checkIndex_9 F
theorem rJ12_checkIndex_0 {Γ : GE} {l : Launch} {h MC MS : Nat} {Q : Option Value → GH → Prop} {bc bs : Nat} {G : GH} (p0 : Int32) (p1 : Int32) (F : (cI Γ l h mJ13_checkIndex [.int p0, .int p1, va_rf none] G bc bs fun r1 Gr1 br1 sr1 => Q (some (.int r1)) Gr1)) : GW Γ l mJ12_checkIndex h MC MS Q 0 [(0, .int p0), (1, .int p1)] [] G bc bs := by
  refine g_iload_n dJ12_checkIndex_0 rfl 0 rfl ?_
  refine g_iload_n dJ12_checkIndex_1 rfl 1 rfl ?_
  refine g_null dJ12_checkIndex_2 ?_
  refine h_callSI (As := [.int p0, .int p1, va_rf none]) (rest := []) F 3 rfl (lw_S q338 q339 q125 q340) vm_J13_checkIndex.2 (by decide) rfl (room_of sc_nil (Nat.le_of_ble_eq_true rfl)) dJ12_checkIndex_3 (fun r1 Gr1 br1 sr1 F => ?_)
  exact g_iret rfl dJ12_checkIndex_6 F
theorem rJ4_init_0 {Γ : GE} {l : Launch} {h MC MS : Nat} {Q : Option Value → GH → Prop} {bc bs : Nat} {G : GH} (x : Nat) (F : (cV Γ l h mJ3_init [.ref x, .int 16] G bc bs fun Gr1 br1 sr1 => Q none Gr1)) : GW Γ l mJ4_init h MC MS Q 0 [(0, va_rf (some x))] [] G bc bs := by
  refine g_aload_n dJ4_init_0 rfl 0 rfl ?_
  refine g_bipush (v := 16) dJ4_init_1 (by decide) ?_
  refine h_callIV (As := [.int 16]) (rest := []) F 1 rfl rfl (lw_meth q208) q113 q206 q207 rfl vm_J3_init.2 (by decide) rfl rfl (room_of sc_nil (Nat.le_of_ble_eq_true rfl)) dJ4_init_3 (fun Gr1 br1 sr1 F => ?_)
  exact g_vret rfl dJ4_init_6 F
theorem rJ4_compareTo_0 {Γ : GE} {l : Launch} {h MC MS : Nat} {Q : Option Value → GH → Prop} {bc bs : Nat} {G : GH} (x : Nat) (p1 : Option Nat) (F : (okCast G p1 "java/lang/StringBuilder" ∧ gC G x = kO 14 ∧ cI Γ l h mJ4_compareTo_2 [.ref x, va_rf p1] G bc bs fun r2 Gr2 br2 sr2 => Q (some (.int r2)) Gr2)) : GW Γ l mJ4_compareTo h MC MS Q 0 [(0, va_rf (some x)), (1, va_rf p1)] [] G bc bs := by
  refine g_aload_n dJ4_compareTo_0 rfl 0 rfl ?_
  refine g_aload_n dJ4_compareTo_1 rfl 1 rfl ?_
  obtain ⟨k1, F⟩ := F
  refine h_castO q901 k1 dJ4_compareTo_2 ?_
  obtain ⟨c3, F⟩ := F
  refine h_callVI (ci := 14) (C := RJ4) (T := TJ4) (N := 4) (As := [va_rf p1]) (rest := []) F 1 rfl rfl (lw_V q902 q903 q904 q114 q905) vm_J4_compareTo_2 (by decide) rfl c3 rfl (room_of sc_nil (Nat.le_of_ble_eq_true rfl)) dJ4_compareTo_5 (fun r2 Gr2 br2 sr2 F => ?_)
  exact g_iret rfl dJ4_compareTo_8 F
theorem rJ4_compareTo_2_0 {Γ : GE} {l : Launch} {h MC MS : Nat} {Q : Option Value → GH → Prop} {bc bs : Nat} {G : GH} (x : Nat) (p1 : Option Nat) (F : (gC G x = kO 14 ∧ cI Γ l h mJ3_compareTo [.ref x, va_rf p1] G bc bs fun r1 Gr1 br1 sr1 => Q (some (.int r1)) Gr1)) : GW Γ l mJ4_compareTo_2 h MC MS Q 0 [(0, va_rf (some x)), (1, va_rf p1)] [] G bc bs := by
  refine g_aload_n dJ4_compareTo_2_0 rfl 0 rfl ?_
  refine g_aload_n dJ4_compareTo_2_1 rfl 1 rfl ?_
  obtain ⟨c2, F⟩ := F
  refine h_callPI (ci := 14) (C := RJ4) (T := TJ4) (N := 4) (As := [va_rf p1]) (rest := []) F 1 rfl rfl q906 q2506 q232 q907 q113 q908 (by decide +kernel) vm_J3_compareTo.2.2.2 (by decide) rfl c2 rfl (room_of sc_nil (Nat.le_of_ble_eq_true rfl)) dJ4_compareTo_2_2 (fun r1 Gr1 br1 sr1 F => ?_)
  exact g_iret rfl dJ4_compareTo_2_5 F
theorem rJ4_append_0 {Γ : GE} {l : Launch} {h MC MS : Nat} {Q : Option Value → GH → Prop} {bc bs : Nat} {G : GH} (x : Nat) (p1 : Int32) (F : (gC G x = kO 14 ∧ cR Γ l h mJ3_append [.ref x, .int p1] G bc bs fun r1 Gr1 br1 sr1 => Q (some (va_rf (some x))) Gr1)) : GW Γ l mJ4_append h MC MS Q 0 [(0, va_rf (some x)), (1, .int p1)] [] G bc bs := by
  refine g_aload_n dJ4_append_0 rfl 0 rfl ?_
  refine g_iload_n dJ4_append_1 rfl 1 rfl ?_
  obtain ⟨c2, F⟩ := F
  refine h_callPR (ci := 14) (C := RJ4) (T := TJ4) (N := 4) (As := [.int p1]) (rest := []) F 1 rfl rfl q1522 q2507 q232 q1523 q113 q1524 (by decide +kernel) vm_J3_append.2.2.2 (by decide) rfl c2 rfl (room_of sc_nil (Nat.le_of_ble_eq_true rfl)) dJ4_append_2 (fun r1 Gr1 br1 sr1 F => ?_)
  refine g_pop dJ4_append_5 (va_rf_cat _) ?_
  refine g_aload_n dJ4_append_6 rfl 0 rfl ?_
  exact g_aret (r := (some x)) rfl (Or.inl ⟨_, rfl⟩) dJ4_append_7 F
theorem rJ4_append_2_0 {Γ : GE} {l : Launch} {h MC MS : Nat} {Q : Option Value → GH → Prop} {bc bs : Nat} {G : GH} (x : Nat) (p1 : Option Nat) (F : (gC G x = kO 14 ∧ cR Γ l h mJ3_append_2 [.ref x, va_rf p1] G bc bs fun r1 Gr1 br1 sr1 => Q (some (va_rf (some x))) Gr1)) : GW Γ l mJ4_append_2 h MC MS Q 0 [(0, va_rf (some x)), (1, va_rf p1)] [] G bc bs := by
  refine g_aload_n dJ4_append_2_0 rfl 0 rfl ?_
  refine g_aload_n dJ4_append_2_1 rfl 1 rfl ?_
  obtain ⟨c2, F⟩ := F
  refine h_callPR (ci := 14) (C := RJ4) (T := TJ4) (N := 4) (As := [va_rf p1]) (rest := []) F 1 rfl rfl q1577 q2510 q232 q1578 q113 q1579 (by decide +kernel) vm_J3_append_2.2.2.2 (by decide) rfl c2 rfl (room_of sc_nil (Nat.le_of_ble_eq_true rfl)) dJ4_append_2_2 (fun r1 Gr1 br1 sr1 F => ?_)
  refine g_pop dJ4_append_2_5 (va_rf_cat _) ?_
  refine g_aload_n dJ4_append_2_6 rfl 0 rfl ?_
  exact g_aret (r := (some x)) rfl (Or.inl ⟨_, rfl⟩) dJ4_append_2_7 F
theorem rJ4_toString_0 {Γ : GE} {l : Launch} {h MC MS : Nat} {Q : Option Value → GH → Prop} {bc bs : Nat} {G : GH} (x : Nat) (F : (1 ≤ bc ∧ 4 ≤ bs ∧ ∀ q1, gC G q1 = 0 → gA Γ q1 → cV Γ l h mJ5_init [.ref q1, va_rf (some x)] (nO G q1 15) (bc - 1) (bs - 4) fun Gr6 br6 sr6 => Q (some (va_rf (some q1))) Gr6)) : GW Γ l mJ4_toString h MC MS Q 0 [(0, va_rf (some x))] [] G bc bs := by
  obtain ⟨k3, F⟩ := F
  obtain ⟨k4, F⟩ := F
  refine g_new (C := RJ5) (T := TJ5) (N := 4) 15 rfl in_J5 tyJ5_ok nd_J5 q1629 q1630 q115 k3 k4 dJ4_toString_0 (fun q1 z2 z2' => ?_)
  have F := F q1 z2 z2'
  refine g_dup dJ4_toString_3 (va_rf_cat _) ?_
  refine g_aload_n dJ4_toString_4 rfl 0 rfl ?_
  refine h_callIV (As := [va_rf (some x)]) (rest := [va_rf (some q1)]) F 1 rfl rfl (lw_meth q1633) q115 q1631 q1632 rfl vm_J5_init.2 (by decide) rfl rfl (room_of (sc_R sc_nil) (Nat.le_of_ble_eq_true rfl)) dJ4_toString_5 (fun Gr6 br6 sr6 F => ?_)
  exact g_aret (r := (some q1)) rfl (Or.inl ⟨_, rfl⟩) dJ4_toString_8 F
theorem rJ4_length_0 {Γ : GE} {l : Launch} {h MC MS : Nat} {Q : Option Value → GH → Prop} {bc bs : Nat} {G : GH} (x : Nat) (F : (gC G x = kO 14 ∧ cI Γ l h mJ3_length [.ref x] G bc bs fun r1 Gr1 br1 sr1 => Q (some (.int r1)) Gr1)) : GW Γ l mJ4_length h MC MS Q 0 [(0, va_rf (some x))] [] G bc bs := by
  refine g_aload_n dJ4_length_0 rfl 0 rfl ?_
  obtain ⟨c2, F⟩ := F
  refine h_callPI (ci := 14) (C := RJ4) (T := TJ4) (N := 4) (As := []) (rest := []) F 0 rfl rfl q1649 q1645 q232 q1644 q113 q1650 (by decide +kernel) vm_J3_length.2.2.2 (by decide) rfl c2 rfl (room_of sc_nil (Nat.le_of_ble_eq_true rfl)) dJ4_length_1 (fun r1 Gr1 br1 sr1 F => ?_)
  exact g_iret rfl dJ4_length_4 F
theorem rJ4_append_3_0 {Γ : GE} {l : Launch} {h MC MS : Nat} {Q : Option Value → GH → Prop} {bc bs : Nat} {G : GH} (x : Nat) (p1 : Option Nat) (F : (gC G x = kO 14 ∧ cR Γ l h mJ3_append_3 [.ref x, va_rf p1] G bc bs fun r1 Gr1 br1 sr1 => Q (some (va_rf (some x))) Gr1)) : GW Γ l mJ4_append_3 h MC MS Q 0 [(0, va_rf (some x)), (1, va_rf p1)] [] G bc bs := by
  refine g_aload_n dJ4_append_3_0 rfl 0 rfl ?_
  refine g_aload_n dJ4_append_3_1 rfl 1 rfl ?_
  obtain ⟨c2, F⟩ := F
  refine h_callPR (ci := 14) (C := RJ4) (T := TJ4) (N := 4) (As := [va_rf p1]) (rest := []) F 1 rfl rfl q1705 q2515 q232 q1706 q113 q1707 (by decide +kernel) vm_J3_append_3.2.2.2 (by decide) rfl c2 rfl (room_of sc_nil (Nat.le_of_ble_eq_true rfl)) dJ4_append_3_2 (fun r1 Gr1 br1 sr1 F => ?_)
  refine g_pop dJ4_append_3_5 (va_rf_cat _) ?_
  refine g_aload_n dJ4_append_3_6 rfl 0 rfl ?_
  exact g_aret (r := (some x)) rfl (Or.inl ⟨_, rfl⟩) dJ4_append_3_7 F
theorem rJ4_append_4_0 {Γ : GE} {l : Launch} {h MC MS : Nat} {Q : Option Value → GH → Prop} {bc bs : Nat} {G : GH} (x : Nat) (p1 : Option Nat) (F : (gC G x = kO 14 ∧ cR Γ l h mJ4_append_2 [.ref x, va_rf p1] G bc bs fun r1 Gr1 br1 sr1 => Q (some (va_rf r1)) Gr1)) : GW Γ l mJ4_append_4 h MC MS Q 0 [(0, va_rf (some x)), (1, va_rf p1)] [] G bc bs := by
  refine g_aload_n dJ4_append_4_0 rfl 0 rfl ?_
  refine g_aload_n dJ4_append_4_1 rfl 1 rfl ?_
  obtain ⟨c2, F⟩ := F
  refine h_callVR (ci := 14) (C := RJ4) (T := TJ4) (N := 4) (As := [va_rf p1]) (rest := []) F 1 rfl rfl (lw_V q1712 q1574 q1575 q114 q1576) vm_J4_append_2 (by decide) rfl c2 rfl (room_of sc_nil (Nat.le_of_ble_eq_true rfl)) dJ4_append_4_2 (fun r1 Gr1 br1 sr1 F => ?_)
  exact g_aret (r := r1) rfl (Or.inl ⟨_, rfl⟩) dJ4_append_4_5 F
theorem rJ4_append_5_0 {Γ : GE} {l : Launch} {h MC MS : Nat} {Q : Option Value → GH → Prop} {bc bs : Nat} {G : GH} (x : Nat) (p1 : Option Nat) (p2 : Int32) (p3 : Int32) (F : (gC G x = kO 14 ∧ cR Γ l h mJ4_append_6 [.ref x, va_rf p1, .int p2, .int p3] G bc bs fun r1 Gr1 br1 sr1 => Q (some (va_rf r1)) Gr1)) : GW Γ l mJ4_append_5 h MC MS Q 0 [(0, va_rf (some x)), (1, va_rf p1), (2, .int p2), (3, .int p3)] [] G bc bs := by
  refine g_aload_n dJ4_append_5_0 rfl 0 rfl ?_
  refine g_aload_n dJ4_append_5_1 rfl 1 rfl ?_
  refine g_iload_n dJ4_append_5_2 rfl 2 rfl ?_
  refine g_iload_n dJ4_append_5_3 rfl 3 rfl ?_
  obtain ⟨c2, F⟩ := F
  refine h_callVR (ci := 14) (C := RJ4) (T := TJ4) (N := 4) (As := [va_rf p1, .int p2, .int p3]) (rest := []) F 3 rfl rfl (lw_V q1753 q1754 q1755 q114 q1756) vm_J4_append_6 (by decide) rfl c2 rfl (room_of sc_nil (Nat.le_of_ble_eq_true rfl)) dJ4_append_5_4 (fun r1 Gr1 br1 sr1 F => ?_)
  exact g_aret (r := r1) rfl (Or.inl ⟨_, rfl⟩) dJ4_append_5_7 F
theorem rJ4_append_6_0 {Γ : GE} {l : Launch} {h MC MS : Nat} {Q : Option Value → GH → Prop} {bc bs : Nat} {G : GH} (x : Nat) (p1 : Option Nat) (p2 : Int32) (p3 : Int32) (F : (gC G x = kO 14 ∧ cR Γ l h mJ3_append_5 [.ref x, va_rf p1, .int p2, .int p3] G bc bs fun r1 Gr1 br1 sr1 => Q (some (va_rf (some x))) Gr1)) : GW Γ l mJ4_append_6 h MC MS Q 0 [(0, va_rf (some x)), (1, va_rf p1), (2, .int p2), (3, .int p3)] [] G bc bs := by
  refine g_aload_n dJ4_append_6_0 rfl 0 rfl ?_
  refine g_aload_n dJ4_append_6_1 rfl 1 rfl ?_
  refine g_iload_n dJ4_append_6_2 rfl 2 rfl ?_
  refine g_iload_n dJ4_append_6_3 rfl 3 rfl ?_
  obtain ⟨c2, F⟩ := F
  refine h_callPR (ci := 14) (C := RJ4) (T := TJ4) (N := 4) (As := [va_rf p1, .int p2, .int p3]) (rest := []) F 3 rfl rfl q1757 q1749 q232 q1748 q113 q1758 (by decide +kernel) vm_J3_append_5.2.2.2 (by decide) rfl c2 rfl (room_of sc_nil (Nat.le_of_ble_eq_true rfl)) dJ4_append_6_4 (fun r1 Gr1 br1 sr1 F => ?_)
  refine g_pop dJ4_append_6_7 (va_rf_cat _) ?_
  refine g_aload_n dJ4_append_6_8 rfl 0 rfl ?_
  exact g_aret (r := (some x)) rfl (Or.inl ⟨_, rfl⟩) dJ4_append_6_9 F
theorem rJ4_charAt_0 {Γ : GE} {l : Launch} {h MC MS : Nat} {Q : Option Value → GH → Prop} {bc bs : Nat} {G : GH} (x : Nat) (p1 : Int32) (F : (gC G x = kO 14 ∧ cI Γ l h mJ3_charAt [.ref x, .int p1] G bc bs fun r1 Gr1 br1 sr1 => narrow .char (.int r1) = .int r1 ∧ Q (some (.int r1)) Gr1)) : GW Γ l mJ4_charAt h MC MS Q 0 [(0, va_rf (some x)), (1, .int p1)] [] G bc bs := by
  refine g_aload_n dJ4_charAt_0 rfl 0 rfl ?_
  refine g_iload_n dJ4_charAt_1 rfl 1 rfl ?_
  obtain ⟨c2, F⟩ := F
  refine h_callPI (ci := 14) (C := RJ4) (T := TJ4) (N := 4) (As := [.int p1]) (rest := []) F 1 rfl rfl q1808 q2519 q232 q1809 q113 q1810 (by decide +kernel) vm_J3_charAt.2.2.2 (by decide) rfl c2 rfl (room_of sc_nil (Nat.le_of_ble_eq_true rfl)) dJ4_charAt_2 (fun r1 Gr1 br1 sr1 F => ?_)
  obtain ⟨k4, F⟩ := F
  exact g_zret rfl k4 dJ4_charAt_5 F
theorem rJ4_append_7_0 {Γ : GE} {l : Launch} {h MC MS : Nat} {Q : Option Value → GH → Prop} {bc bs : Nat} {G : GH} (x : Nat) (p1 : Int32) (F : (gC G x = kO 14 ∧ cR Γ l h mJ3_append_6 [.ref x, .int p1] G bc bs fun r1 Gr1 br1 sr1 => Q (some (va_rf (some x))) Gr1)) : GW Γ l mJ4_append_7 h MC MS Q 0 [(0, va_rf (some x)), (1, .int p1)] [] G bc bs := by
  refine g_aload_n dJ4_append_7_0 rfl 0 rfl ?_
  refine g_iload_n dJ4_append_7_1 rfl 1 rfl ?_
  obtain ⟨c2, F⟩ := F
  refine h_callPR (ci := 14) (C := RJ4) (T := TJ4) (N := 4) (As := [.int p1]) (rest := []) F 1 rfl rfl q1833 q2523 q232 q1834 q113 q1835 (by decide +kernel) vm_J3_append_6.2.2.2 (by decide) rfl c2 rfl (room_of sc_nil (Nat.le_of_ble_eq_true rfl)) dJ4_append_7_2 (fun r1 Gr1 br1 sr1 F => ?_)
  refine g_pop dJ4_append_7_5 (va_rf_cat _) ?_
  refine g_aload_n dJ4_append_7_6 rfl 0 rfl ?_
  exact g_aret (r := (some x)) rfl (Or.inl ⟨_, rfl⟩) dJ4_append_7_7 F
theorem rJ4_setLength_0 {Γ : GE} {l : Launch} {h MC MS : Nat} {Q : Option Value → GH → Prop} {bc bs : Nat} {G : GH} (x : Nat) (p1 : Int32) (F : (gC G x = kO 14 ∧ cV Γ l h mJ3_setLength [.ref x, .int p1] G bc bs fun Gr1 br1 sr1 => Q none Gr1)) : GW Γ l mJ4_setLength h MC MS Q 0 [(0, va_rf (some x)), (1, .int p1)] [] G bc bs := by
  refine g_aload_n dJ4_setLength_0 rfl 0 rfl ?_
  refine g_iload_n dJ4_setLength_1 rfl 1 rfl ?_
  obtain ⟨c2, F⟩ := F
  refine h_callPV (ci := 14) (C := RJ4) (T := TJ4) (N := 4) (As := [.int p1]) (rest := []) F 1 rfl rfl q1846 q2524 q232 q1847 q113 q1848 (by decide +kernel) vm_J3_setLength.2.2.2 (by decide) rfl c2 rfl (room_of sc_nil (Nat.le_of_ble_eq_true rfl)) dJ4_setLength_2 (fun Gr1 br1 sr1 F => ?_)
  exact g_vret rfl dJ4_setLength_5 F
theorem rJ7_max_0 {Γ : GE} {l : Launch} {h MC MS : Nat} {Q : Option Value → GH → Prop} {bc bs : Nat} {G : GH} (p0 : Int32) (p1 : Int32) (F : ((p0 < p1 → (Q (some (.int p1)) G)) ∧ (¬ p0 < p1 → (Q (some (.int p0)) G)))) : GW Γ l mJ7_max h MC MS Q 0 [(0, .int p0), (1, .int p1)] [] G bc bs := by
  refine g_iload_n dJ7_max_0 rfl 0 rfl ?_
  refine g_iload_n dJ7_max_1 rfl 1 rfl ?_
  refine g_icmp_lt 9 dJ7_max_2 (by decide) (fun h1 => ?_) (fun h1 => ?_)
  · have F := F.1 h1
    refine g_iload_n dJ7_max_9 rfl 1 rfl ?_
    exact g_iret rfl dJ7_max_10 F
  · have F := F.2 h1
    refine g_iload_n dJ7_max_5 rfl 0 rfl ?_
    refine g_goto 10 dJ7_max_6 (by decide) ?_
    exact g_iret rfl dJ7_max_10 F
theorem rJ7_min_0 {Γ : GE} {l : Launch} {h MC MS : Nat} {Q : Option Value → GH → Prop} {bc bs : Nat} {G : GH} (p0 : Int32) (p1 : Int32) (F : ((p1 < p0 → (Q (some (.int p1)) G)) ∧ (¬ p1 < p0 → (Q (some (.int p0)) G)))) : GW Γ l mJ7_min h MC MS Q 0 [(0, .int p0), (1, .int p1)] [] G bc bs := by
  refine g_iload_n dJ7_min_0 rfl 0 rfl ?_
  refine g_iload_n dJ7_min_1 rfl 1 rfl ?_
  refine g_icmp_gt 9 dJ7_min_2 (by decide) (fun h1 => ?_) (fun h1 => ?_)
  · have F := F.1 h1
    refine g_iload_n dJ7_min_9 rfl 1 rfl ?_
    exact g_iret rfl dJ7_min_10 F
  · have F := F.2 h1
    refine g_iload_n dJ7_min_5 rfl 0 rfl ?_
    refine g_goto 10 dJ7_min_6 (by decide) ?_
    exact g_iret rfl dJ7_min_10 F
theorem rJ11_init_0 {Γ : GE} {l : Launch} {h MC MS : Nat} {Q : Option Value → GH → Prop} {bc bs : Nat} {G : GH} (x : Nat) (F : (cV Γ l h mJ10_init [.ref x] G bc bs fun Gr1 br1 sr1 => gC Gr1 x = kO 11 ∧ gM Gr1 x = true ∧ Q none (sF Gr1 x 7 (1061158912 : UInt32)))) : GW Γ l mJ11_init h MC MS Q 0 [(0, va_rf (some x))] [] G bc bs := by
  refine g_aload_n dJ11_init_0 rfl 0 rfl ?_
  refine h_callIV (As := []) (rest := []) F 0 rfl rfl (lw_meth q522) q122 q520 q521 rfl vm_J10_init.2 (by decide) rfl rfl (room_of sc_nil (Nat.le_of_ble_eq_true rfl)) dJ11_init_1 (fun Gr1 br1 sr1 F => ?_)
  refine g_aload_n dJ11_init_4 rfl 0 rfl ?_
  refine g_ldcf (v := (1061158912 : UInt32)) q524 dJ11_init_5 ?_
  obtain ⟨c3, F⟩ := F
  obtain ⟨m4, F⟩ := F
  refine h_putF (mi := mJ11_init) 11 7 (C := RJ11) (T := TJ11) (N := 8) rfl in_J11 tyJ11_ok nmJ11 (by decide) q529 (Or.inl rfl) (Or.inr ⟨rfl, rfl⟩) rfl rfl rfl c3 m4 dJ11_init_7 ?_
  exact g_vret rfl dJ11_init_10 F
theorem rJ11_put_0 {Γ : GE} {l : Launch} {h MC MS : Nat} {Q : Option Value → GH → Prop} {bc bs : Nat} {G : GH} (x : Nat) (p1 : Option Nat) (p2 : Option Nat) (F : (cI Γ l h mJ11_hash [va_rf p1] G bc bs fun r1 Gr1 br1 sr1 => gC Gr1 x = kO 11 ∧ cR Γ l h mJ11_putVal [.ref x, .int r1, va_rf p1, va_rf p2, .int 0, .int 1] Gr1 br1 sr1 fun r3 Gr3 br3 sr3 => Q (some (va_rf r3)) Gr3)) : GW Γ l mJ11_put h MC MS Q 0 [(0, va_rf (some x)), (1, va_rf p1), (2, va_rf p2)] [] G bc bs := by
  refine g_aload_n dJ11_put_0 rfl 0 rfl ?_
  refine g_aload_n dJ11_put_1 rfl 1 rfl ?_
  refine h_callSI (As := [va_rf p1]) (rest := [va_rf (some x)]) F 1 rfl (lw_S q583 q584 q123 q585) vm_J11_hash.2 (by decide) rfl (room_of (sc_R sc_nil) (Nat.le_of_ble_eq_true rfl)) dJ11_put_2 (fun r1 Gr1 br1 sr1 F => ?_)
  refine g_aload_n dJ11_put_5 rfl 1 rfl ?_
  refine g_aload_n dJ11_put_6 rfl 2 rfl ?_
  refine g_iconst (v := 0) dJ11_put_7 (by decide) ?_
  refine g_iconst (v := 1) dJ11_put_8 (by decide) ?_
  obtain ⟨c4, F⟩ := F
  refine h_callVR (ci := 11) (C := RJ11) (T := TJ11) (N := 8) (As := [.int r1, va_rf p1, va_rf p2, .int 0, .int 1]) (rest := []) F 5 rfl rfl (lw_V q670 q671 q672 q123 q673) vm_J11_putVal (by decide) rfl c4 rfl (room_of sc_nil (Nat.le_of_ble_eq_true rfl)) dJ11_put_9 (fun r3 Gr3 br3 sr3 F => ?_)
  exact g_aret (r := r3) rfl (Or.inl ⟨_, rfl⟩) dJ11_put_12 F
theorem rJ11_hash_0 {Γ : GE} {l : Launch} {h MC MS : Nat} {Q : Option Value → GH → Prop} {bc bs : Nat} {G : GH} (p0 : Option Nat) (F : ((∀ a1, p0 = some a1 → (gC G a1 = kO 5 ∧ cI Γ l h mX3_hashCode [.ref a1] G bc bs fun r3 Gr3 br3 sr3 => Q (some (.int (r3 ^^^ ((r3.toUInt32 >>> ((16 : Int32).toUInt32 &&& Int32.toUInt32 31)).toInt32)))) Gr3)) ∧ (p0 = none → (Q (some (.int 0)) G)))) : GW Γ l mJ11_hash h MC MS Q 0 [(0, va_rf p0)] [] G bc bs := by
  refine g_aload_n dJ11_hash_0 rfl 0 rfl ?_
  refine g_ifnonnull 8 dJ11_hash_1 (by decide) (fun a1 e2 => ?_) (fun e2 => ?_)
  · have F := F.1 a1 e2
    refine g_aload_n dJ11_hash_8 rfl 0 rfl ?_
    obtain ⟨c4, F⟩ := F
    refine h_callUI (ci := 5) (x := ⟨"java/lang/Object", "hashCode", "()I"⟩) (owner := "java/lang/Object") (C := RX3) (T := TX3) (N := 3) (As := []) (rest := []) F 0 rfl rfl (hasW.all q587) (hasW.all q589) (hasD.de (by decide +kernel)) (hasW.all q595) q596 q126 q597 ⟨by decide +kernel, by decide +kernel, by decide +kernel⟩ (by decide) e2 c4 rfl (room_of sc_nil (Nat.le_of_ble_eq_true rfl)) dJ11_hash_9 (fun r3 Gr3 br3 sr3 F => ?_)
    refine g_dup dJ11_hash_12 rfl ?_
    refine s_istore_n (lv' := [(0, va_rf p0), (1, .int r3)]) (cat_R cat_nil) dJ11_hash_13 rfl (by decide) rfl [1, 0] rfl ?_
    refine g_iload_n dJ11_hash_14 rfl 1 rfl ?_
    refine g_bipush (v := 16) dJ11_hash_15 (by decide) ?_
    refine g_iushr dJ11_hash_17 ?_
    refine g_ixor dJ11_hash_18 ?_
    exact g_iret rfl dJ11_hash_19 F
  · have F := F.2 e2
    refine g_iconst (v := 0) dJ11_hash_4 (by decide) ?_
    refine g_goto 19 dJ11_hash_5 (by decide) ?_
    exact g_iret rfl dJ11_hash_19 F
theorem rJ11_putVal_0 {Γ : GE} {l : Launch} {h MC MS : Nat} {Q : Option Value → GH → Prop} {bc bs : Nat} {G : GH} (x : Nat) (p1 : Int32) (p2 : Option Nat) (p3 : Option Nat) (p4 : Int32) (p5 : Int32) (F : (gC G x = kO 11 ∧ (((gR G x 2) = none → (cR Γ l h mJ11_resize [.ref x] G bc bs fun r4 Gr4 br4 sr4 => ∃ a6, r4 = some a6 ∧ gC Gr4 a6 = kA 7 ∧ GW Γ l mJ11_putVal h MC MS Q 29 [(0, va_rf (some x)), (1, .int p1), (2, va_rf p2), (3, va_rf p3), (4, .int p4), (5, .int p5), (6, va_rf r4), (8, .int (nI (gL Gr4 a6)))] [] Gr4 br4 sr4)) ∧ (∀ a2, (gR G x 2) = some a2 → (gC G a2 = kA 7 ∧ ((¬ (nI (gL G a2)) = 0 → (GW Γ l mJ11_putVal h MC MS Q 29 [(0, va_rf (some x)), (1, .int p1), (2, va_rf p2), (3, va_rf p3), (4, .int p4), (5, .int p5), (6, va_rf (gR G x 2)), (8, .int (nI (gL G a2)))] [] G bc bs)) ∧ ((nI (gL G a2)) = 0 → (cR Γ l h mJ11_resize [.ref x] G bc bs fun r10 Gr10 br10 sr10 => ∃ a12, r10 = some a12 ∧ gC Gr10 a12 = kA 7 ∧ GW Γ l mJ11_putVal h MC MS Q 29 [(0, va_rf (some x)), (1, .int p1), (2, va_rf p2), (3, va_rf p3), (4, .int p4), (5, .int p5), (6, va_rf r10), (8, .int (nI (gL Gr10 a12)))] [] Gr10 br10 sr10)))))))) : GW Γ l mJ11_putVal h MC MS Q 0 [(0, va_rf (some x)), (1, .int p1), (2, va_rf p2), (3, va_rf p3), (4, .int p4), (5, .int p5)] [] G bc bs := by
  refine g_aload_n dJ11_putVal_0 rfl 0 rfl ?_
  obtain ⟨c1, F⟩ := F
  refine h_get (v := va_rf (gR G x 2)) 11 2 (C := RJ11) (T := TJ11) (N := 8) rfl in_J11 (by decide) q525 (Or.inl rfl) rfl c1 rfl dJ11_putVal_1 ?_
  refine g_dup dJ11_putVal_4 (va_rf_cat _) ?_
  refine s_astore (lv' := [(0, va_rf (some x)), (1, .int p1), (2, va_rf p2), (3, va_rf p3), (4, .int p4), (5, .int p5), (6, va_rf (gR G x 2))]) (cat_R (cat_I (cat_R (cat_R (cat_I (cat_I cat_nil)))))) dJ11_putVal_5 (by decide) rfl [1, 2, 3, 4, 5, 6, 0] rfl ?_
  refine g_ifnull 19 dJ11_putVal_7 (by decide) (fun e3 => ?_) (fun a2 e3 => ?_)
  · have F := F.1 e3
    refine g_aload_n dJ11_putVal_19 rfl 0 rfl ?_
    refine h_callVR (ci := 11) (C := RJ11) (T := TJ11) (N := 8) (As := []) (rest := []) F 0 rfl rfl (lw_V q674 q675 q676 q123 q677) vm_J11_resize (by decide) rfl c1 rfl (room_of sc_nil (Nat.le_of_ble_eq_true rfl)) dJ11_putVal_20 (fun r4 Gr4 br4 sr4 F => ?_)
    refine g_dup dJ11_putVal_23 (va_rf_cat _) ?_
    refine s_astore (lv' := [(0, va_rf (some x)), (1, .int p1), (2, va_rf p2), (3, va_rf p3), (4, .int p4), (5, .int p5), (6, va_rf r4)]) (cat_R (cat_I (cat_R (cat_R (cat_I (cat_I (cat_R cat_nil))))))) dJ11_putVal_24 (by decide) rfl [1, 2, 3, 4, 5, 6, 0] rfl ?_
    obtain ⟨a6, e7, F⟩ := F
    obtain ⟨c8, F⟩ := F
    refine h_alen 7 e7 c8 (by decide) dJ11_putVal_26 ?_
    refine s_istore (lv' := [(0, va_rf (some x)), (1, .int p1), (2, va_rf p2), (3, va_rf p3), (4, .int p4), (5, .int p5), (6, va_rf r4), (8, .int (nI (gL Gr4 a6)))]) (cat_R (cat_I (cat_R (cat_R (cat_I (cat_I (cat_R cat_nil))))))) dJ11_putVal_27 (by decide) rfl [1, 2, 3, 4, 5, 6, 7, 0] rfl ?_
    exact F
  · have F := F.2 a2 e3
    refine g_aload dJ11_putVal_10 6 rfl ?_
    obtain ⟨c9, F⟩ := F
    refine h_alen 7 e3 c9 (by decide) dJ11_putVal_12 ?_
    refine g_dup dJ11_putVal_13 rfl ?_
    refine s_istore (lv' := [(0, va_rf (some x)), (1, .int p1), (2, va_rf p2), (3, va_rf p3), (4, .int p4), (5, .int p5), (6, va_rf (gR G x 2)), (8, .int (nI (gL G a2)))]) (cat_R (cat_I (cat_R (cat_R (cat_I (cat_I (cat_R cat_nil))))))) dJ11_putVal_14 (by decide) rfl [1, 2, 3, 4, 5, 6, 7, 0] rfl ?_
    refine g_if_ne 29 dJ11_putVal_16 (by decide) (fun h15 => ?_) (fun h15 => ?_)
    · have F := F.1 h15
      exact F
    · have F := F.2 h15
      refine g_aload_n dJ11_putVal_19 rfl 0 rfl ?_
      refine h_callVR (ci := 11) (C := RJ11) (T := TJ11) (N := 8) (As := []) (rest := []) F 0 rfl rfl (lw_V q674 q675 q676 q123 q677) vm_J11_resize (by decide) rfl c1 rfl (room_of sc_nil (Nat.le_of_ble_eq_true rfl)) dJ11_putVal_20 (fun r10 Gr10 br10 sr10 F => ?_)
      refine g_dup dJ11_putVal_23 (va_rf_cat _) ?_
      refine s_astore (lv' := [(0, va_rf (some x)), (1, .int p1), (2, va_rf p2), (3, va_rf p3), (4, .int p4), (5, .int p5), (6, va_rf r10), (8, .int (nI (gL G a2)))]) (cat_R (cat_I (cat_R (cat_R (cat_I (cat_I (cat_R (cat_I cat_nil)))))))) dJ11_putVal_24 (by decide) rfl [1, 2, 3, 4, 5, 6, 0, 7] rfl ?_
      obtain ⟨a12, e13, F⟩ := F
      obtain ⟨c14, F⟩ := F
      refine h_alen 7 e13 c14 (by decide) dJ11_putVal_26 ?_
      refine s_istore (lv' := [(0, va_rf (some x)), (1, .int p1), (2, va_rf p2), (3, va_rf p3), (4, .int p4), (5, .int p5), (6, va_rf r10), (8, .int (nI (gL Gr10 a12)))]) (cat_R (cat_I (cat_R (cat_R (cat_I (cat_I (cat_R (cat_I cat_nil)))))))) dJ11_putVal_27 (by decide) rfl [1, 2, 3, 4, 5, 6, 7, 0] rfl ?_
      exact F
theorem rJ11_putVal_29 {Γ : GE} {l : Launch} {h MC MS : Nat} {Q : Option Value → GH → Prop} {bc bs : Nat} {G : GH} (x : Nat) (p1 : Int32) (p2 : Option Nat) (p3 : Option Nat) (p4 : Int32) (p5 : Int32) (p6 : Option Nat) (p8 : Int32) (F : (∃ a1, p6 = some a1 ∧ gC G a1 = kA 7 ∧ gM G a1 = true ∧ vp_in ((p8 - 1) &&& p1) (gL G a1) ∧ ((∀ a6, (gR G a1 ((p8 - 1) &&& p1).toNatClampNeg) = some a6 → ((gC G a6 = kO 12 ∨ gC G a6 = kO 13) ∧ ((¬ (ndI G a6 0) = p1 → (GW Γ l mJ11_putVal h MC MS Q 104 [(0, va_rf (some x)), (1, .int p1), (2, va_rf p2), (3, va_rf p3), (4, .int p4), (5, .int p5), (6, va_rf p6), (7, va_rf (gR G a1 ((p8 - 1) &&& p1).toNatClampNeg)), (8, .int p8), (9, .int ((p8 - 1) &&& p1))] [] G bc bs)) ∧ ((ndI G a6 0) = p1 → (((ndR G a6 1) = p2 → (GW Γ l mJ11_putVal h MC MS Q 222 [(0, va_rf (some x)), (1, .int p1), (2, va_rf p2), (3, va_rf p3), (4, .int p4), (5, .int p5), (6, va_rf p6), (7, va_rf (gR G a1 ((p8 - 1) &&& p1).toNatClampNeg)), (8, .int p8), (9, .int ((p8 - 1) &&& p1)), (10, va_rf (gR G a1 ((p8 - 1) &&& p1).toNatClampNeg))] [] G bc bs)) ∧ (¬ (ndR G a6 1) = p2 → ((p2 = none → (GW Γ l mJ11_putVal h MC MS Q 104 [(0, va_rf (some x)), (1, .int p1), (2, va_rf p2), (3, va_rf p3), (4, .int p4), (5, .int p5), (6, va_rf p6), (7, va_rf (gR G a1 ((p8 - 1) &&& p1).toNatClampNeg)), (8, .int p8), (9, .int ((p8 - 1) &&& p1))] [] G bc bs)) ∧ (∀ a9, p2 = some a9 → (gC G a9 = kO 5 ∧ cI Γ l h mX3_equals [.ref a9, va_rf (ndR G a6 1)] G bc bs fun r11 Gr11 br11 sr11 => ((r11 = 0 → (GW Γ l mJ11_putVal h MC MS Q 104 [(0, va_rf (some x)), (1, .int p1), (2, va_rf p2), (3, va_rf p3), (4, .int p4), (5, .int p5), (6, va_rf p6), (7, va_rf (gR G a1 ((p8 - 1) &&& p1).toNatClampNeg)), (8, .int p8), (9, .int ((p8 - 1) &&& p1))] [] Gr11 br11 sr11)) ∧ (¬ r11 = 0 → (GW Γ l mJ11_putVal h MC MS Q 222 [(0, va_rf (some x)), (1, .int p1), (2, va_rf p2), (3, va_rf p3), (4, .int p4), (5, .int p5), (6, va_rf p6), (7, va_rf (gR G a1 ((p8 - 1) &&& p1).toNatClampNeg)), (8, .int p8), (9, .int ((p8 - 1) &&& p1)), (10, va_rf (gR G a1 ((p8 - 1) &&& p1).toNatClampNeg))] [] Gr11 br11 sr11)))))))))))) ∧ ((gR G a1 ((p8 - 1) &&& p1).toNatClampNeg) = none → (gC G x = kO 11 ∧ cR Γ l h mJ11_newNode [.ref x, .int p1, va_rf p2, va_rf p3, va_rf none] G bc bs fun r17 Gr17 br17 sr17 => gC Gr17 a1 = kA 7 ∧ gM Gr17 a1 = true ∧ vp_in ((p8 - 1) &&& p1) (gL Gr17 a1) ∧ okS Gr17 7 r17 ∧ GW Γ l mJ11_putVal h MC MS Q 259 [(0, va_rf (some x)), (1, .int p1), (2, va_rf p2), (3, va_rf p3), (4, .int p4), (5, .int p5), (6, va_rf p6), (7, va_rf (gR G a1 ((p8 - 1) &&& p1).toNatClampNeg)), (8, .int p8), (9, .int ((p8 - 1) &&& p1))] [] (sR Gr17 a1 ((p8 - 1) &&& p1).toNatClampNeg r17) br17 sr17))))) : GW Γ l mJ11_putVal h MC MS Q 29 [(0, va_rf (some x)), (1, .int p1), (2, va_rf p2), (3, va_rf p3), (4, .int p4), (5, .int p5), (6, va_rf p6), (8, .int p8)] [] G bc bs := by
  refine g_aload dJ11_putVal_29 6 rfl ?_
  refine g_iload dJ11_putVal_31 7 rfl ?_
  refine g_iconst (v := 1) dJ11_putVal_33 (by decide) ?_
  refine g_isub dJ11_putVal_34 ?_
  refine g_iload_n dJ11_putVal_35 rfl 1 rfl ?_
  refine g_iand dJ11_putVal_36 ?_
  refine g_dup dJ11_putVal_37 rfl ?_
  refine s_istore (lv' := [(0, va_rf (some x)), (1, .int p1), (2, va_rf p2), (3, va_rf p3), (4, .int p4), (5, .int p5), (6, va_rf p6), (8, .int p8), (9, .int ((p8 - 1) &&& p1))]) (cat_R (cat_I (cat_R (cat_R (cat_I (cat_I (cat_R (cat_I cat_nil)))))))) dJ11_putVal_38 (by decide) rfl [1, 2, 3, 4, 5, 6, 7, 8, 0] rfl ?_
  obtain ⟨a1, e2, F⟩ := F
  obtain ⟨c3, F⟩ := F
  obtain ⟨m4, F⟩ := F
  obtain ⟨k5, F⟩ := F
  refine h_aald 7 e2 c3 (by decide) (by decide) m4 k5 dJ11_putVal_40 ?_
  refine g_dup dJ11_putVal_41 (va_rf_cat _) ?_
  refine s_astore (lv' := [(0, va_rf (some x)), (1, .int p1), (2, va_rf p2), (3, va_rf p3), (4, .int p4), (5, .int p5), (6, va_rf p6), (7, va_rf (gR G a1 ((p8 - 1) &&& p1).toNatClampNeg)), (8, .int p8), (9, .int ((p8 - 1) &&& p1))]) (cat_R (cat_I (cat_R (cat_R (cat_I (cat_I (cat_R (cat_I (cat_I cat_nil))))))))) dJ11_putVal_42 (by decide) rfl [1, 2, 3, 4, 5, 6, 7, 0, 8, 9] rfl ?_
  refine g_ifnonnull 63 dJ11_putVal_44 (by decide) (fun a6 e7 => ?_) (fun e7 => ?_)
  · have F := F.1 a6 e7
    refine g_aload dJ11_putVal_63 7 rfl ?_
    obtain ⟨c8, F⟩ := F
    refine h_getNDI 0 (by decide) q705 e7 c8 dJ11_putVal_65 ?_
    refine g_iload_n dJ11_putVal_68 rfl 1 rfl ?_
    refine g_icmp_ne 104 dJ11_putVal_69 (by decide) (fun h16 => ?_) (fun h16 => ?_)
    · have F := F.1 h16
      exact F
    · have F := F.2 h16
      refine g_aload dJ11_putVal_72 7 rfl ?_
      refine h_getNDR 1 (by decide) q709 e7 c8 dJ11_putVal_74 ?_
      refine g_dup dJ11_putVal_77 (va_rf_cat _) ?_
      refine s_astore (lv' := [(0, va_rf (some x)), (1, .int p1), (2, va_rf p2), (3, va_rf p3), (4, .int p4), (5, .int p5), (6, va_rf p6), (7, va_rf (gR G a1 ((p8 - 1) &&& p1).toNatClampNeg)), (8, .int p8), (9, .int ((p8 - 1) &&& p1)), (11, va_rf (ndR G a6 1))]) (cat_R (cat_I (cat_R (cat_R (cat_I (cat_I (cat_R (cat_R (cat_I (cat_I cat_nil)))))))))) dJ11_putVal_78 (by decide) rfl [1, 2, 3, 4, 5, 6, 7, 8, 9, 10, 0] rfl ?_
      refine g_aload_n dJ11_putVal_80 rfl 2 rfl ?_
      refine g_acmp_eq 97 dJ11_putVal_81 (by decide) (fun h15 => ?_) (fun h15 => ?_)
      · have F := F.1 h15
        refine g_aload dJ11_putVal_97 7 rfl ?_
        refine s_astore (lv' := [(0, va_rf (some x)), (1, .int p1), (2, va_rf p2), (3, va_rf p3), (4, .int p4), (5, .int p5), (6, va_rf p6), (7, va_rf (gR G a1 ((p8 - 1) &&& p1).toNatClampNeg)), (8, .int p8), (9, .int ((p8 - 1) &&& p1)), (10, va_rf (gR G a1 ((p8 - 1) &&& p1).toNatClampNeg)), (11, va_rf (ndR G a6 1))]) (cat_R (cat_I (cat_R (cat_R (cat_I (cat_I (cat_R (cat_R (cat_I (cat_I (cat_R cat_nil))))))))))) dJ11_putVal_99 (by decide) rfl [1, 2, 3, 4, 5, 6, 7, 8, 9, 10, 0, 11] rfl ?_
        refine g_goto 222 dJ11_putVal_101 (by decide) ?_
        refine GW.lsub (lv' := [(0, va_rf (some x)), (1, .int p1), (2, va_rf p2), (3, va_rf p3), (4, .int p4), (5, .int p5), (6, va_rf p6), (7, va_rf (gR G a1 ((p8 - 1) &&& p1).toNatClampNeg)), (8, .int p8), (9, .int ((p8 - 1) &&& p1)), (10, va_rf (gR G a1 ((p8 - 1) &&& p1).toNatClampNeg))]) [0, 1, 2, 3, 4, 5, 6, 7, 8, 9, 10] rfl ?_
        exact F
      · have F := F.2 h15
        refine g_aload_n dJ11_putVal_84 rfl 2 rfl ?_
        refine g_ifnull 104 dJ11_putVal_85 (by decide) (fun e10 => ?_) (fun a9 e10 => ?_)
        · have F := F.1 e10
          refine GW.lsub (lv' := [(0, va_rf (some x)), (1, .int p1), (2, va_rf p2), (3, va_rf p3), (4, .int p4), (5, .int p5), (6, va_rf p6), (7, va_rf (gR G a1 ((p8 - 1) &&& p1).toNatClampNeg)), (8, .int p8), (9, .int ((p8 - 1) &&& p1))]) [0, 1, 2, 3, 4, 5, 6, 7, 8, 9] rfl ?_
          exact F
        · have F := F.2 a9 e10
          refine g_aload_n dJ11_putVal_88 rfl 2 rfl ?_
          refine g_aload dJ11_putVal_89 10 rfl ?_
          obtain ⟨c12, F⟩ := F
          refine h_callUI (ci := 5) (x := ⟨"java/lang/Object", "equals", "(Ljava/lang/Object;)Z"⟩) (owner := "java/lang/Object") (C := RX3) (T := TX3) (N := 3) (As := [va_rf (ndR G a6 1)]) (rest := []) F 1 rfl rfl (hasW.all q956) (hasW.all q958) (hasD.de (by decide +kernel)) (hasW.all q964) q965 q126 q966 ⟨by decide +kernel, by decide +kernel, by decide +kernel⟩ (by decide) e10 c12 rfl (room_of sc_nil (Nat.le_of_ble_eq_true rfl)) dJ11_putVal_91 (fun r11 Gr11 br11 sr11 F => ?_)
          refine g_if_eq 104 dJ11_putVal_94 (by decide) (fun h14 => ?_) (fun h14 => ?_)
          · have F := F.1 h14
            refine GW.lsub (lv' := [(0, va_rf (some x)), (1, .int p1), (2, va_rf p2), (3, va_rf p3), (4, .int p4), (5, .int p5), (6, va_rf p6), (7, va_rf (gR G a1 ((p8 - 1) &&& p1).toNatClampNeg)), (8, .int p8), (9, .int ((p8 - 1) &&& p1))]) [0, 1, 2, 3, 4, 5, 6, 7, 8, 9] rfl ?_
            exact F
          · have F := F.2 h14
            refine g_aload dJ11_putVal_97 7 rfl ?_
            refine s_astore (lv' := [(0, va_rf (some x)), (1, .int p1), (2, va_rf p2), (3, va_rf p3), (4, .int p4), (5, .int p5), (6, va_rf p6), (7, va_rf (gR G a1 ((p8 - 1) &&& p1).toNatClampNeg)), (8, .int p8), (9, .int ((p8 - 1) &&& p1)), (10, va_rf (gR G a1 ((p8 - 1) &&& p1).toNatClampNeg)), (11, va_rf (ndR G a6 1))]) (cat_R (cat_I (cat_R (cat_R (cat_I (cat_I (cat_R (cat_R (cat_I (cat_I (cat_R cat_nil))))))))))) dJ11_putVal_99 (by decide) rfl [1, 2, 3, 4, 5, 6, 7, 8, 9, 10, 0, 11] rfl ?_
            refine g_goto 222 dJ11_putVal_101 (by decide) ?_
            refine GW.lsub (lv' := [(0, va_rf (some x)), (1, .int p1), (2, va_rf p2), (3, va_rf p3), (4, .int p4), (5, .int p5), (6, va_rf p6), (7, va_rf (gR G a1 ((p8 - 1) &&& p1).toNatClampNeg)), (8, .int p8), (9, .int ((p8 - 1) &&& p1)), (10, va_rf (gR G a1 ((p8 - 1) &&& p1).toNatClampNeg))]) [0, 1, 2, 3, 4, 5, 6, 7, 8, 9, 10] rfl ?_
            exact F
  · have F := F.2 e7
    refine g_aload dJ11_putVal_47 6 rfl ?_
    refine g_iload dJ11_putVal_49 9 rfl ?_
    refine g_aload_n dJ11_putVal_51 rfl 0 rfl ?_
    refine g_iload_n dJ11_putVal_52 rfl 1 rfl ?_
    refine g_aload_n dJ11_putVal_53 rfl 2 rfl ?_
    refine g_aload_n dJ11_putVal_54 rfl 3 rfl ?_
    refine g_null dJ11_putVal_55 ?_
    obtain ⟨c18, F⟩ := F
    refine h_callVR (ci := 11) (C := RJ11) (T := TJ11) (N := 8) (As := [.int p1, va_rf p2, va_rf p3, va_rf none]) (rest := [.int ((p8 - 1) &&& p1), va_rf p6]) F 4 rfl rfl (lw_V q951 q952 q953 q123 q954) vm_J11_newNode (by decide) rfl c18 rfl (room_of (sc_I (sc_R sc_nil)) (Nat.le_of_ble_eq_true rfl)) dJ11_putVal_56 (fun r17 Gr17 br17 sr17 F => ?_)
    obtain ⟨c20, F⟩ := F
    obtain ⟨m21, F⟩ := F
    obtain ⟨k22, F⟩ := F
    obtain ⟨k23, F⟩ := F
    refine h_aast 7 e2 c20 (by decide) (by decide) m21 k22 k23 dJ11_putVal_59 ?_
    refine g_goto 259 dJ11_putVal_60 (by decide) ?_
    exact F
theorem rJ11_putVal_104 {Γ : GE} {l : Launch} {h MC MS : Nat} {Q : Option Value → GH → Prop} {bc bs : Nat} {G : GH} (x : Nat) (p1 : Int32) (p2 : Option Nat) (p3 : Option Nat) (p4 : Int32) (p5 : Int32) (p6 : Option Nat) (p7 : Option Nat) (p8 : Int32) (p9 : Int32) (F : (∃ b1, okInst G p7 "java/util/HashMap$TreeNode" b1 ∧ ((b1 = 0 → (GW Γ l mJ11_putVal h MC MS Q 134 [(0, va_rf (some x)), (1, .int p1), (2, va_rf p2), (3, va_rf p3), (4, .int p4), (5, .int p5), (6, va_rf p6), (7, va_rf p7), (8, .int p8), (9, .int p9), (12, .int 0)] [] G bc bs)) ∧ (¬ b1 = 0 → (okCast G p7 "java/util/HashMap$TreeNode" ∧ ∃ a5, p7 = some a5 ∧ gC G a5 = kO 13 ∧ cR Γ l h mJ21_putTreeVal [.ref a5, va_rf (some x), va_rf p6, .int p1, va_rf p2, va_rf p3] G bc bs fun r4 Gr4 br4 sr4 => GW Γ l mJ11_putVal h MC MS Q 222 [(0, va_rf (some x)), (1, .int p1), (2, va_rf p2), (3, va_rf p3), (4, .int p4), (5, .int p5), (6, va_rf p6), (7, va_rf p7), (8, .int p8), (9, .int p9), (10, va_rf r4)] [] Gr4 br4 sr4))))) : GW Γ l mJ11_putVal h MC MS Q 104 [(0, va_rf (some x)), (1, .int p1), (2, va_rf p2), (3, va_rf p3), (4, .int p4), (5, .int p5), (6, va_rf p6), (7, va_rf p7), (8, .int p8), (9, .int p9)] [] G bc bs := by
  refine g_aload dJ11_putVal_104 7 rfl ?_
  obtain ⟨b1, e2, F⟩ := F
  refine h_inst q683 e2 dJ11_putVal_106 ?_
  refine g_if_eq 131 dJ11_putVal_109 (by decide) (fun h9 => ?_) (fun h9 => ?_)
  · have F := F.1 h9
    refine g_iconst (v := 0) dJ11_putVal_131 (by decide) ?_
    refine s_istore (lv' := [(0, va_rf (some x)), (1, .int p1), (2, va_rf p2), (3, va_rf p3), (4, .int p4), (5, .int p5), (6, va_rf p6), (7, va_rf p7), (8, .int p8), (9, .int p9), (12, .int 0)]) (cat_R (cat_I (cat_R (cat_R (cat_I (cat_I (cat_R (cat_R (cat_I (cat_I cat_nil)))))))))) dJ11_putVal_132 (by decide) rfl [1, 2, 3, 4, 5, 6, 7, 8, 9, 10, 0] rfl ?_
    exact F
  · have F := F.2 h9
    refine g_aload dJ11_putVal_112 7 rfl ?_
    obtain ⟨k3, F⟩ := F
    refine h_castO q683 k3 dJ11_putVal_114 ?_
    refine g_aload_n dJ11_putVal_117 rfl 0 rfl ?_
    refine g_aload dJ11_putVal_118 6 rfl ?_
    refine g_iload_n dJ11_putVal_120 rfl 1 rfl ?_
    refine g_aload_n dJ11_putVal_121 rfl 2 rfl ?_
    refine g_aload_n dJ11_putVal_122 rfl 3 rfl ?_
    obtain ⟨a5, e6, F⟩ := F
    obtain ⟨c7, F⟩ := F
    refine h_callVR (ci := 13) (C := RJ21) (T := TJ21) (N := 11) (As := [va_rf (some x), va_rf p6, .int p1, va_rf p2, va_rf p3]) (rest := []) F 5 rfl rfl (lw_V q981 q982 q983 q136 q984) vm_J21_putTreeVal (by decide) e6 c7 rfl (room_of sc_nil (Nat.le_of_ble_eq_true rfl)) dJ11_putVal_123 (fun r4 Gr4 br4 sr4 F => ?_)
    refine s_astore (lv' := [(0, va_rf (some x)), (1, .int p1), (2, va_rf p2), (3, va_rf p3), (4, .int p4), (5, .int p5), (6, va_rf p6), (7, va_rf p7), (8, .int p8), (9, .int p9), (10, va_rf r4)]) (cat_R (cat_I (cat_R (cat_R (cat_I (cat_I (cat_R (cat_R (cat_I (cat_I cat_nil)))))))))) dJ11_putVal_126 (by decide) rfl [1, 2, 3, 4, 5, 6, 7, 8, 9, 10, 0] rfl ?_
    refine g_goto 222 dJ11_putVal_128 (by decide) ?_
    exact F
theorem rJ11_putVal_134 {Γ : GE} {l : Launch} {h MC MS : Nat} {Q : Option Value → GH → Prop} {bc bs : Nat} {G : GH} (x : Nat) (p1 : Int32) (p2 : Option Nat) (p3 : Option Nat) (p4 : Int32) (p5 : Int32) (p6 : Option Nat) (p7 : Option Nat) (p8 : Int32) (p9 : Int32) (p12 : Int32) (F : (∃ a1, p7 = some a1 ∧ (gC G a1 = kO 12 ∨ gC G a1 = kO 13) ∧ ((∀ a4, (ndR G a1 3) = some a4 → ((gC G a4 = kO 12 ∨ gC G a4 = kO 13) ∧ ((¬ (ndI G a4 0) = p1 → (GW Γ l mJ11_putVal h MC MS Q 134 [(0, va_rf (some x)), (1, .int p1), (2, va_rf p2), (3, va_rf p3), (4, .int p4), (5, .int p5), (6, va_rf p6), (7, va_rf (ndR G a1 3)), (8, .int p8), (9, .int p9), (12, .int (p12 + 1))] [] G bc bs)) ∧ ((ndI G a4 0) = p1 → (((ndR G a4 1) = p2 → (GW Γ l mJ11_putVal h MC MS Q 222 [(0, va_rf (some x)), (1, .int p1), (2, va_rf p2), (3, va_rf p3), (4, .int p4), (5, .int p5), (6, va_rf p6), (7, va_rf p7), (8, .int p8), (9, .int p9), (10, va_rf (ndR G a1 3))] [] G bc bs)) ∧ (¬ (ndR G a4 1) = p2 → ((p2 = none → (GW Γ l mJ11_putVal h MC MS Q 134 [(0, va_rf (some x)), (1, .int p1), (2, va_rf p2), (3, va_rf p3), (4, .int p4), (5, .int p5), (6, va_rf p6), (7, va_rf (ndR G a1 3)), (8, .int p8), (9, .int p9), (12, .int (p12 + 1))] [] G bc bs)) ∧ (∀ a7, p2 = some a7 → (gC G a7 = kO 5 ∧ cI Γ l h mX3_equals [.ref a7, va_rf (ndR G a4 1)] G bc bs fun r9 Gr9 br9 sr9 => ((r9 = 0 → (GW Γ l mJ11_putVal h MC MS Q 134 [(0, va_rf (some x)), (1, .int p1), (2, va_rf p2), (3, va_rf p3), (4, .int p4), (5, .int p5), (6, va_rf p6), (7, va_rf (ndR G a1 3)), (8, .int p8), (9, .int p9), (12, .int (p12 + 1))] [] Gr9 br9 sr9)) ∧ (¬ r9 = 0 → (GW Γ l mJ11_putVal h MC MS Q 222 [(0, va_rf (some x)), (1, .int p1), (2, va_rf p2), (3, va_rf p3), (4, .int p4), (5, .int p5), (6, va_rf p6), (7, va_rf p7), (8, .int p8), (9, .int p9), (10, va_rf (ndR G a1 3))] [] Gr9 br9 sr9)))))))))))) ∧ ((ndR G a1 3) = none → (gC G x = kO 11 ∧ cR Γ l h mJ11_newNode [.ref x, .int p1, va_rf p2, va_rf p3, va_rf none] G bc bs fun r15 Gr15 br15 sr15 => (gC Gr15 a1 = kO 12 ∨ gC Gr15 a1 = kO 13) ∧ gM Gr15 a1 = true ∧ ((p12 < 7 → (GW Γ l mJ11_putVal h MC MS Q 222 [(0, va_rf (some x)), (1, .int p1), (2, va_rf p2), (3, va_rf p3), (4, .int p4), (5, .int p5), (6, va_rf p6), (7, va_rf p7), (8, .int p8), (9, .int p9), (10, va_rf (ndR G a1 3))] [] (ndsR Gr15 a1 3 r15) br15 sr15)) ∧ (¬ p12 < 7 → (gC (ndsR Gr15 a1 3 r15) x = kO 11 ∧ cV Γ l h mJ11_treeifyBin [.ref x, va_rf p6, .int p1] (ndsR Gr15 a1 3 r15) br15 sr15 fun Gr20 br20 sr20 => GW Γ l mJ11_putVal h MC MS Q 222 [(0, va_rf (some x)), (1, .int p1), (2, va_rf p2), (3, va_rf p3), (4, .int p4), (5, .int p5), (6, va_rf p6), (7, va_rf p7), (8, .int p8), (9, .int p9), (10, va_rf (ndR G a1 3))] [] Gr20 br20 sr20)))))))) : GW Γ l mJ11_putVal h MC MS Q 134 [(0, va_rf (some x)), (1, .int p1), (2, va_rf p2), (3, va_rf p3), (4, .int p4), (5, .int p5), (6, va_rf p6), (7, va_rf p7), (8, .int p8), (9, .int p9), (12, .int p12)] [] G bc bs := by
  refine g_aload dJ11_putVal_134 7 rfl ?_
  obtain ⟨a1, e2, F⟩ := F
  obtain ⟨c3, F⟩ := F
  refine h_getNDR 3 (by decide) q716 e2 c3 dJ11_putVal_136 ?_
  refine g_dup dJ11_putVal_139 (va_rf_cat _) ?_
  refine s_astore (lv' := [(0, va_rf (some x)), (1, .int p1), (2, va_rf p2), (3, va_rf p3), (4, .int p4), (5, .int p5), (6, va_rf p6), (7, va_rf p7), (8, .int p8), (9, .int p9), (10, va_rf (ndR G a1 3)), (12, .int p12)]) (cat_R (cat_I (cat_R (cat_R (cat_I (cat_I (cat_R (cat_R (cat_I (cat_I (cat_I cat_nil))))))))))) dJ11_putVal_140 (by decide) rfl [1, 2, 3, 4, 5, 6, 7, 8, 9, 10, 0, 11] rfl ?_
  refine g_ifnonnull 175 dJ11_putVal_142 (by decide) (fun a4 e5 => ?_) (fun e5 => ?_)
  · have F := F.1 a4 e5
    refine g_aload dJ11_putVal_175 10 rfl ?_
    obtain ⟨c6, F⟩ := F
    refine h_getNDI 0 (by decide) q705 e5 c6 dJ11_putVal_177 ?_
    refine g_iload_n dJ11_putVal_180 rfl 1 rfl ?_
    refine g_icmp_ne 212 dJ11_putVal_181 (by decide) (fun h14 => ?_) (fun h14 => ?_)
    · have F := F.1 h14
      refine g_aload dJ11_putVal_212 10 rfl ?_
      refine s_astore (lv' := [(0, va_rf (some x)), (1, .int p1), (2, va_rf p2), (3, va_rf p3), (4, .int p4), (5, .int p5), (6, va_rf p6), (7, va_rf (ndR G a1 3)), (8, .int p8), (9, .int p9), (10, va_rf (ndR G a1 3)), (12, .int p12)]) (cat_R (cat_I (cat_R (cat_R (cat_I (cat_I (cat_R (cat_R (cat_I (cat_I (cat_R (cat_I cat_nil)))))))))))) dJ11_putVal_214 (by decide) rfl [1, 2, 3, 4, 5, 6, 7, 0, 8, 9, 10, 11] rfl ?_
      refine s_iinc (v := (p12 + 1)) (lv' := [(0, va_rf (some x)), (1, .int p1), (2, va_rf p2), (3, va_rf p3), (4, .int p4), (5, .int p5), (6, va_rf p6), (7, va_rf (ndR G a1 3)), (8, .int p8), (9, .int p9), (10, va_rf (ndR G a1 3)), (12, .int (p12 + 1))]) (cat_R (cat_I (cat_R (cat_R (cat_I (cat_I (cat_R (cat_R (cat_I (cat_I (cat_R (cat_I cat_nil)))))))))))) dJ11_putVal_216 (k0 := 11) rfl rfl (by decide) rfl [1, 2, 3, 4, 5, 6, 7, 8, 9, 10, 11, 0] rfl ?_
      refine g_goto 134 dJ11_putVal_219 (by decide) ?_
      refine GW.lsub (lv' := [(0, va_rf (some x)), (1, .int p1), (2, va_rf p2), (3, va_rf p3), (4, .int p4), (5, .int p5), (6, va_rf p6), (7, va_rf (ndR G a1 3)), (8, .int p8), (9, .int p9), (12, .int (p12 + 1))]) [0, 1, 2, 3, 4, 5, 6, 7, 8, 9, 11] rfl ?_
      exact F
    · have F := F.2 h14
      refine g_aload dJ11_putVal_184 10 rfl ?_
      refine h_getNDR 1 (by decide) q709 e5 c6 dJ11_putVal_186 ?_
      refine g_dup dJ11_putVal_189 (va_rf_cat _) ?_
      refine s_astore (lv' := [(0, va_rf (some x)), (1, .int p1), (2, va_rf p2), (3, va_rf p3), (4, .int p4), (5, .int p5), (6, va_rf p6), (7, va_rf p7), (8, .int p8), (9, .int p9), (10, va_rf (ndR G a1 3)), (11, va_rf (ndR G a4 1)), (12, .int p12)]) (cat_R (cat_I (cat_R (cat_R (cat_I (cat_I (cat_R (cat_R (cat_I (cat_I (cat_R (cat_I cat_nil)))))))))))) dJ11_putVal_190 (by decide) rfl [1, 2, 3, 4, 5, 6, 7, 8, 9, 10, 11, 0, 12] rfl ?_
      refine g_aload_n dJ11_putVal_192 rfl 2 rfl ?_
      refine g_acmp_eq 222 dJ11_putVal_193 (by decide) (fun h13 => ?_) (fun h13 => ?_)
      · have F := F.1 h13
        refine GW.lsub (lv' := [(0, va_rf (some x)), (1, .int p1), (2, va_rf p2), (3, va_rf p3), (4, .int p4), (5, .int p5), (6, va_rf p6), (7, va_rf p7), (8, .int p8), (9, .int p9), (10, va_rf (ndR G a1 3))]) [0, 1, 2, 3, 4, 5, 6, 7, 8, 9, 10] rfl ?_
        exact F
      · have F := F.2 h13
        refine g_aload_n dJ11_putVal_196 rfl 2 rfl ?_
        refine g_ifnull 212 dJ11_putVal_197 (by decide) (fun e8 => ?_) (fun a7 e8 => ?_)
        · have F := F.1 e8
          refine g_aload dJ11_putVal_212 10 rfl ?_
          refine s_astore (lv' := [(0, va_rf (some x)), (1, .int p1), (2, va_rf p2), (3, va_rf p3), (4, .int p4), (5, .int p5), (6, va_rf p6), (7, va_rf (ndR G a1 3)), (8, .int p8), (9, .int p9), (10, va_rf (ndR G a1 3)), (11, va_rf (ndR G a4 1)), (12, .int p12)]) (cat_R (cat_I (cat_R (cat_R (cat_I (cat_I (cat_R (cat_R (cat_I (cat_I (cat_R (cat_R (cat_I cat_nil))))))))))))) dJ11_putVal_214 (by decide) rfl [1, 2, 3, 4, 5, 6, 7, 0, 8, 9, 10, 11, 12] rfl ?_
          refine s_iinc (v := (p12 + 1)) (lv' := [(0, va_rf (some x)), (1, .int p1), (2, va_rf p2), (3, va_rf p3), (4, .int p4), (5, .int p5), (6, va_rf p6), (7, va_rf (ndR G a1 3)), (8, .int p8), (9, .int p9), (10, va_rf (ndR G a1 3)), (11, va_rf (ndR G a4 1)), (12, .int (p12 + 1))]) (cat_R (cat_I (cat_R (cat_R (cat_I (cat_I (cat_R (cat_R (cat_I (cat_I (cat_R (cat_R (cat_I cat_nil))))))))))))) dJ11_putVal_216 (k0 := 12) rfl rfl (by decide) rfl [1, 2, 3, 4, 5, 6, 7, 8, 9, 10, 11, 12, 0] rfl ?_
          refine g_goto 134 dJ11_putVal_219 (by decide) ?_
          refine GW.lsub (lv' := [(0, va_rf (some x)), (1, .int p1), (2, va_rf p2), (3, va_rf p3), (4, .int p4), (5, .int p5), (6, va_rf p6), (7, va_rf (ndR G a1 3)), (8, .int p8), (9, .int p9), (12, .int (p12 + 1))]) [0, 1, 2, 3, 4, 5, 6, 7, 8, 9, 12] rfl ?_
          exact F
        · have F := F.2 a7 e8
          refine g_aload_n dJ11_putVal_200 rfl 2 rfl ?_
          refine g_aload dJ11_putVal_201 11 rfl ?_
          obtain ⟨c10, F⟩ := F
          refine h_callUI (ci := 5) (x := ⟨"java/lang/Object", "equals", "(Ljava/lang/Object;)Z"⟩) (owner := "java/lang/Object") (C := RX3) (T := TX3) (N := 3) (As := [va_rf (ndR G a4 1)]) (rest := []) F 1 rfl rfl (hasW.all q956) (hasW.all q958) (hasD.de (by decide +kernel)) (hasW.all q964) q965 q126 q966 ⟨by decide +kernel, by decide +kernel, by decide +kernel⟩ (by decide) e8 c10 rfl (room_of sc_nil (Nat.le_of_ble_eq_true rfl)) dJ11_putVal_203 (fun r9 Gr9 br9 sr9 F => ?_)
          refine g_if_eq 212 dJ11_putVal_206 (by decide) (fun h12 => ?_) (fun h12 => ?_)
          · have F := F.1 h12
            refine g_aload dJ11_putVal_212 10 rfl ?_
            refine s_astore (lv' := [(0, va_rf (some x)), (1, .int p1), (2, va_rf p2), (3, va_rf p3), (4, .int p4), (5, .int p5), (6, va_rf p6), (7, va_rf (ndR G a1 3)), (8, .int p8), (9, .int p9), (10, va_rf (ndR G a1 3)), (11, va_rf (ndR G a4 1)), (12, .int p12)]) (cat_R (cat_I (cat_R (cat_R (cat_I (cat_I (cat_R (cat_R (cat_I (cat_I (cat_R (cat_R (cat_I cat_nil))))))))))))) dJ11_putVal_214 (by decide) rfl [1, 2, 3, 4, 5, 6, 7, 0, 8, 9, 10, 11, 12] rfl ?_
            refine s_iinc (v := (p12 + 1)) (lv' := [(0, va_rf (some x)), (1, .int p1), (2, va_rf p2), (3, va_rf p3), (4, .int p4), (5, .int p5), (6, va_rf p6), (7, va_rf (ndR G a1 3)), (8, .int p8), (9, .int p9), (10, va_rf (ndR G a1 3)), (11, va_rf (ndR G a4 1)), (12, .int (p12 + 1))]) (cat_R (cat_I (cat_R (cat_R (cat_I (cat_I (cat_R (cat_R (cat_I (cat_I (cat_R (cat_R (cat_I cat_nil))))))))))))) dJ11_putVal_216 (k0 := 12) rfl rfl (by decide) rfl [1, 2, 3, 4, 5, 6, 7, 8, 9, 10, 11, 12, 0] rfl ?_
            refine g_goto 134 dJ11_putVal_219 (by decide) ?_
            refine GW.lsub (lv' := [(0, va_rf (some x)), (1, .int p1), (2, va_rf p2), (3, va_rf p3), (4, .int p4), (5, .int p5), (6, va_rf p6), (7, va_rf (ndR G a1 3)), (8, .int p8), (9, .int p9), (12, .int (p12 + 1))]) [0, 1, 2, 3, 4, 5, 6, 7, 8, 9, 12] rfl ?_
            exact F
          · have F := F.2 h12
            refine g_goto 222 dJ11_putVal_209 (by decide) ?_
            refine GW.lsub (lv' := [(0, va_rf (some x)), (1, .int p1), (2, va_rf p2), (3, va_rf p3), (4, .int p4), (5, .int p5), (6, va_rf p6), (7, va_rf p7), (8, .int p8), (9, .int p9), (10, va_rf (ndR G a1 3))]) [0, 1, 2, 3, 4, 5, 6, 7, 8, 9, 10] rfl ?_
            exact F
  · have F := F.2 e5
    refine g_aload dJ11_putVal_145 7 rfl ?_
    refine g_aload_n dJ11_putVal_147 rfl 0 rfl ?_
    refine g_iload_n dJ11_putVal_148 rfl 1 rfl ?_
    refine g_aload_n dJ11_putVal_149 rfl 2 rfl ?_
    refine g_aload_n dJ11_putVal_150 rfl 3 rfl ?_
    refine g_null dJ11_putVal_151 ?_
    obtain ⟨c16, F⟩ := F
    refine h_callVR (ci := 11) (C := RJ11) (T := TJ11) (N := 8) (As := [.int p1, va_rf p2, va_rf p3, va_rf none]) (rest := [va_rf p7]) F 4 rfl rfl (lw_V q951 q952 q953 q123 q954) vm_J11_newNode (by decide) rfl c16 rfl (room_of (sc_R sc_nil) (Nat.le_of_ble_eq_true rfl)) dJ11_putVal_152 (fun r15 Gr15 br15 sr15 F => ?_)
    obtain ⟨c18, F⟩ := F
    obtain ⟨m19, F⟩ := F
    refine h_putNDR (mi := mJ11_putVal) 3 (by decide) q716 (Or.inl rfl) e2 c18 m19 dJ11_putVal_155 ?_
    refine g_iload dJ11_putVal_158 11 rfl ?_
    refine g_bipush (v := 7) dJ11_putVal_160 (by decide) ?_
    refine g_icmp_lt 222 dJ11_putVal_162 (by decide) (fun h23 => ?_) (fun h23 => ?_)
    · have F := F.1 h23
      refine GW.lsub (lv' := [(0, va_rf (some x)), (1, .int p1), (2, va_rf p2), (3, va_rf p3), (4, .int p4), (5, .int p5), (6, va_rf p6), (7, va_rf p7), (8, .int p8), (9, .int p9), (10, va_rf (ndR G a1 3))]) [0, 1, 2, 3, 4, 5, 6, 7, 8, 9, 10] rfl ?_
      exact F
    · have F := F.2 h23
      refine g_aload_n dJ11_putVal_165 rfl 0 rfl ?_
      refine g_aload dJ11_putVal_166 6 rfl ?_
      refine g_iload_n dJ11_putVal_168 rfl 1 rfl ?_
      obtain ⟨c21, F⟩ := F
      refine h_callVV (ci := 11) (C := RJ11) (T := TJ11) (N := 8) (As := [va_rf p6, .int p1]) (rest := []) F 2 rfl rfl (lw_V q1031 q1032 q1033 q123 q1034) vm_J11_treeifyBin (by decide) rfl c21 rfl (room_of sc_nil (Nat.le_of_ble_eq_true rfl)) dJ11_putVal_169 (fun Gr20 br20 sr20 F => ?_)
      refine g_goto 222 dJ11_putVal_172 (by decide) ?_
      refine GW.lsub (lv' := [(0, va_rf (some x)), (1, .int p1), (2, va_rf p2), (3, va_rf p3), (4, .int p4), (5, .int p5), (6, va_rf p6), (7, va_rf p7), (8, .int p8), (9, .int p9), (10, va_rf (ndR G a1 3))]) [0, 1, 2, 3, 4, 5, 6, 7, 8, 9, 10] rfl ?_
      exact F
theorem rJ11_putVal_222 {Γ : GE} {l : Launch} {h MC MS : Nat} {Q : Option Value → GH → Prop} {bc bs : Nat} {G : GH} (x : Nat) (p1 : Int32) (p2 : Option Nat) (p3 : Option Nat) (p4 : Int32) (p5 : Int32) (p6 : Option Nat) (p7 : Option Nat) (p8 : Int32) (p9 : Int32) (p10 : Option Nat) (F : ((p10 = none → (GW Γ l mJ11_putVal h MC MS Q 259 [(0, va_rf (some x)), (1, .int p1), (2, va_rf p2), (3, va_rf p3), (4, .int p4), (5, .int p5), (6, va_rf p6), (7, va_rf p7), (8, .int p8), (9, .int p9)] [] G bc bs)) ∧ (∀ a1, p10 = some a1 → ((gC G a1 = kO 12 ∨ gC G a1 = kO 13) ∧ ((p4 = 0 → (gM G a1 = true ∧ gC (ndsR G a1 2 p3) x = kO 11 ∧ cV Γ l h mJ11_afterNodeAccess [.ref x, va_rf p10] (ndsR G a1 2 p3) bc bs fun Gr5 br5 sr5 => Q (some (va_rf (ndR G a1 2))) Gr5)) ∧ (¬ p4 = 0 → ((∀ a8, (ndR G a1 2) = some a8 → (gC G x = kO 11 ∧ cV Γ l h mJ11_afterNodeAccess [.ref x, va_rf p10] G bc bs fun Gr10 br10 sr10 => Q (some (va_rf (ndR G a1 2))) Gr10)) ∧ ((ndR G a1 2) = none → (gM G a1 = true ∧ gC (ndsR G a1 2 p3) x = kO 11 ∧ cV Γ l h mJ11_afterNodeAccess [.ref x, va_rf p10] (ndsR G a1 2 p3) bc bs fun Gr14 br14 sr14 => Q (some (va_rf (ndR G a1 2))) Gr14))))))))) : GW Γ l mJ11_putVal h MC MS Q 222 [(0, va_rf (some x)), (1, .int p1), (2, va_rf p2), (3, va_rf p3), (4, .int p4), (5, .int p5), (6, va_rf p6), (7, va_rf p7), (8, .int p8), (9, .int p9), (10, va_rf p10)] [] G bc bs := by
  refine g_aload dJ11_putVal_222 10 rfl ?_
  refine g_ifnull 259 dJ11_putVal_224 (by decide) (fun e2 => ?_) (fun a1 e2 => ?_)
  · have F := F.1 e2
    refine GW.lsub (lv' := [(0, va_rf (some x)), (1, .int p1), (2, va_rf p2), (3, va_rf p3), (4, .int p4), (5, .int p5), (6, va_rf p6), (7, va_rf p7), (8, .int p8), (9, .int p9)]) [0, 1, 2, 3, 4, 5, 6, 7, 8, 9] rfl ?_
    exact F
  · have F := F.2 a1 e2
    refine g_aload dJ11_putVal_227 10 rfl ?_
    obtain ⟨c3, F⟩ := F
    refine h_getNDR 2 (by decide) q711 e2 c3 dJ11_putVal_229 ?_
    refine s_astore (lv' := [(0, va_rf (some x)), (1, .int p1), (2, va_rf p2), (3, va_rf p3), (4, .int p4), (5, .int p5), (6, va_rf p6), (7, va_rf p7), (8, .int p8), (9, .int p9), (10, va_rf p10), (12, va_rf (ndR G a1 2))]) (cat_R (cat_I (cat_R (cat_R (cat_I (cat_I (cat_R (cat_R (cat_I (cat_I (cat_R cat_nil))))))))))) dJ11_putVal_232 (by decide) rfl [1, 2, 3, 4, 5, 6, 7, 8, 9, 10, 11, 0] rfl ?_
    refine g_iload dJ11_putVal_234 4 rfl ?_
    refine g_if_eq 244 dJ11_putVal_236 (by decide) (fun h17 => ?_) (fun h17 => ?_)
    · have F := F.1 h17
      refine g_aload dJ11_putVal_244 10 rfl ?_
      refine g_aload_n dJ11_putVal_246 rfl 3 rfl ?_
      obtain ⟨m4, F⟩ := F
      refine h_putNDR (mi := mJ11_putVal) 2 (by decide) q711 (Or.inl rfl) e2 c3 m4 dJ11_putVal_247 ?_
      refine g_aload_n dJ11_putVal_250 rfl 0 rfl ?_
      refine g_aload dJ11_putVal_251 10 rfl ?_
      obtain ⟨c6, F⟩ := F
      refine h_callVV (ci := 11) (C := RJ11) (T := TJ11) (N := 8) (As := [va_rf p10]) (rest := []) F 1 rfl rfl (lw_V q1040 q1041 q1042 q123 q1043) vm_J11_afterNodeAccess (by decide) rfl c6 rfl (room_of sc_nil (Nat.le_of_ble_eq_true rfl)) dJ11_putVal_253 (fun Gr5 br5 sr5 F => ?_)
      refine g_aload dJ11_putVal_256 11 rfl ?_
      exact g_aret (r := (ndR G a1 2)) rfl (Or.inl ⟨_, rfl⟩) dJ11_putVal_258 F
    · have F := F.2 h17
      refine g_aload dJ11_putVal_239 11 rfl ?_
      refine g_ifnonnull 250 dJ11_putVal_241 (by decide) (fun a8 e9 => ?_) (fun e9 => ?_)
      · have F := F.1 a8 e9
        refine g_aload_n dJ11_putVal_250 rfl 0 rfl ?_
        refine g_aload dJ11_putVal_251 10 rfl ?_
        obtain ⟨c11, F⟩ := F
        refine h_callVV (ci := 11) (C := RJ11) (T := TJ11) (N := 8) (As := [va_rf p10]) (rest := []) F 1 rfl rfl (lw_V q1040 q1041 q1042 q123 q1043) vm_J11_afterNodeAccess (by decide) rfl c11 rfl (room_of sc_nil (Nat.le_of_ble_eq_true rfl)) dJ11_putVal_253 (fun Gr10 br10 sr10 F => ?_)
        refine g_aload dJ11_putVal_256 11 rfl ?_
        exact g_aret (r := (ndR G a1 2)) rfl (Or.inl ⟨_, rfl⟩) dJ11_putVal_258 F
      · have F := F.2 e9
        refine g_aload dJ11_putVal_244 10 rfl ?_
        refine g_aload_n dJ11_putVal_246 rfl 3 rfl ?_
        obtain ⟨m13, F⟩ := F
        refine h_putNDR (mi := mJ11_putVal) 2 (by decide) q711 (Or.inl rfl) e2 c3 m13 dJ11_putVal_247 ?_
        refine g_aload_n dJ11_putVal_250 rfl 0 rfl ?_
        refine g_aload dJ11_putVal_251 10 rfl ?_
        obtain ⟨c15, F⟩ := F
        refine h_callVV (ci := 11) (C := RJ11) (T := TJ11) (N := 8) (As := [va_rf p10]) (rest := []) F 1 rfl rfl (lw_V q1040 q1041 q1042 q123 q1043) vm_J11_afterNodeAccess (by decide) rfl c15 rfl (room_of sc_nil (Nat.le_of_ble_eq_true rfl)) dJ11_putVal_253 (fun Gr14 br14 sr14 F => ?_)
        refine g_aload dJ11_putVal_256 11 rfl ?_
        exact g_aret (r := (ndR G a1 2)) rfl (Or.inl ⟨_, rfl⟩) dJ11_putVal_258 F
theorem rJ11_putVal_259 {Γ : GE} {l : Launch} {h MC MS : Nat} {Q : Option Value → GH → Prop} {bc bs : Nat} {G : GH} (x : Nat) (p1 : Int32) (p2 : Option Nat) (p3 : Option Nat) (p4 : Int32) (p5 : Int32) (p6 : Option Nat) (p7 : Option Nat) (p8 : Int32) (p9 : Int32) (F : (gC G x = kO 11 ∧ gM G x = true ∧ ((((gI (sI G x 5 ((gI G x 5) + 1)) x 4) + 1) ≤ (gI (sI (sI G x 5 ((gI G x 5) + 1)) x 4 ((gI (sI G x 5 ((gI G x 5) + 1)) x 4) + 1)) x 6) → (cV Γ l h mJ11_afterNodeInsertion [.ref x, .int p5] (sI (sI G x 5 ((gI G x 5) + 1)) x 4 ((gI (sI G x 5 ((gI G x 5) + 1)) x 4) + 1)) bc bs fun Gr3 br3 sr3 => Q (some (va_rf none)) Gr3)) ∧ (¬ ((gI (sI G x 5 ((gI G x 5) + 1)) x 4) + 1) ≤ (gI (sI (sI G x 5 ((gI G x 5) + 1)) x 4 ((gI (sI G x 5 ((gI G x 5) + 1)) x 4) + 1)) x 6) → (cR Γ l h mJ11_resize [.ref x] (sI (sI G x 5 ((gI G x 5) + 1)) x 4 ((gI (sI G x 5 ((gI G x 5) + 1)) x 4) + 1)) bc bs fun r5 Gr5 br5 sr5 => gC Gr5 x = kO 11 ∧ cV Γ l h mJ11_afterNodeInsertion [.ref x, .int p5] Gr5 br5 sr5 fun Gr7 br7 sr7 => Q (some (va_rf none)) Gr7))))) : GW Γ l mJ11_putVal h MC MS Q 259 [(0, va_rf (some x)), (1, .int p1), (2, va_rf p2), (3, va_rf p3), (4, .int p4), (5, .int p5), (6, va_rf p6), (7, va_rf p7), (8, .int p8), (9, .int p9)] [] G bc bs := by
  refine g_aload_n dJ11_putVal_259 rfl 0 rfl ?_
  refine g_dup dJ11_putVal_260 (va_rf_cat _) ?_
  obtain ⟨c1, F⟩ := F
  refine h_get (v := .int (gI G x 5)) 11 5 (C := RJ11) (T := TJ11) (N := 8) rfl in_J11 (by decide) q527 (Or.inl rfl) rfl c1 rfl dJ11_putVal_261 ?_
  refine g_iconst (v := 1) dJ11_putVal_264 (by decide) ?_
  refine g_iadd dJ11_putVal_265 ?_
  obtain ⟨m2, F⟩ := F
  refine h_putI (mi := mJ11_putVal) 11 5 (C := RJ11) (T := TJ11) (N := 8) rfl in_J11 tyJ11_ok nmJ11 (by decide) q527 (Or.inl rfl) (Or.inl rfl) rfl rfl c1 m2 rfl rfl dJ11_putVal_266 ?_
  refine g_aload_n dJ11_putVal_269 rfl 0 rfl ?_
  refine g_dup dJ11_putVal_270 (va_rf_cat _) ?_
  refine h_get (v := .int (gI (sI G x 5 ((gI G x 5) + 1)) x 4)) 11 4 (C := RJ11) (T := TJ11) (N := 8) rfl in_J11 (by decide) q526 (Or.inl rfl) rfl c1 rfl dJ11_putVal_271 ?_
  refine g_iconst (v := 1) dJ11_putVal_274 (by decide) ?_
  refine g_iadd dJ11_putVal_275 ?_
  refine g_dup_x1 dJ11_putVal_276 rfl (va_rf_cat _) ?_
  refine h_putI (mi := mJ11_putVal) 11 4 (C := RJ11) (T := TJ11) (N := 8) rfl in_J11 tyJ11_ok nmJ11 (by decide) q526 (Or.inl rfl) (Or.inl rfl) rfl rfl c1 m2 rfl rfl dJ11_putVal_277 ?_
  refine g_aload_n dJ11_putVal_280 rfl 0 rfl ?_
  refine h_get (v := .int (gI (sI (sI G x 5 ((gI G x 5) + 1)) x 4 ((gI (sI G x 5 ((gI G x 5) + 1)) x 4) + 1)) x 6)) 11 6 (C := RJ11) (T := TJ11) (N := 8) rfl in_J11 (by decide) q528 (Or.inl rfl) rfl c1 rfl dJ11_putVal_281 ?_
  refine g_icmp_le 292 dJ11_putVal_284 (by decide) (fun h10 => ?_) (fun h10 => ?_)
  · have F := F.1 h10
    refine g_aload_n dJ11_putVal_292 rfl 0 rfl ?_
    refine g_iload dJ11_putVal_293 5 rfl ?_
    refine h_callVV (ci := 11) (C := RJ11) (T := TJ11) (N := 8) (As := [.int p5]) (rest := []) F 1 rfl rfl (lw_V q1044 q1045 q1046 q123 q1047) vm_J11_afterNodeInsertion (by decide) rfl c1 rfl (room_of sc_nil (Nat.le_of_ble_eq_true rfl)) dJ11_putVal_295 (fun Gr3 br3 sr3 F => ?_)
    refine g_null dJ11_putVal_298 ?_
    exact g_aret (r := none) rfl (Or.inl ⟨_, rfl⟩) dJ11_putVal_299 F
  · have F := F.2 h10
    refine g_aload_n dJ11_putVal_287 rfl 0 rfl ?_
    refine h_callVR (ci := 11) (C := RJ11) (T := TJ11) (N := 8) (As := []) (rest := []) F 0 rfl rfl (lw_V q674 q675 q676 q123 q677) vm_J11_resize (by decide) rfl c1 rfl (room_of sc_nil (Nat.le_of_ble_eq_true rfl)) dJ11_putVal_288 (fun r5 Gr5 br5 sr5 F => ?_)
    refine g_pop dJ11_putVal_291 (va_rf_cat _) ?_
    refine g_aload_n dJ11_putVal_292 rfl 0 rfl ?_
    refine g_iload dJ11_putVal_293 5 rfl ?_
    obtain ⟨c8, F⟩ := F
    refine h_callVV (ci := 11) (C := RJ11) (T := TJ11) (N := 8) (As := [.int p5]) (rest := []) F 1 rfl rfl (lw_V q1044 q1045 q1046 q123 q1047) vm_J11_afterNodeInsertion (by decide) rfl c8 rfl (room_of sc_nil (Nat.le_of_ble_eq_true rfl)) dJ11_putVal_295 (fun Gr7 br7 sr7 F => ?_)
    refine g_null dJ11_putVal_298 ?_
    exact g_aret (r := none) rfl (Or.inl ⟨_, rfl⟩) dJ11_putVal_299 F
theorem rJ11_resize_0 {Γ : GE} {l : Launch} {h MC MS : Nat} {Q : Option Value → GH → Prop} {bc bs : Nat} {G : GH} (x : Nat) (F : (gC G x = kO 11 ∧ ((∀ a2, (gR G x 2) = some a2 → (gC G a2 = kA 7 ∧ GW Γ l mJ11_resize h MC MS Q 15 [(0, va_rf (some x)), (1, va_rf (gR G x 2))] [.int (nI (gL G a2))] G bc bs)) ∧ ((gR G x 2) = none → (GW Γ l mJ11_resize h MC MS Q 15 [(0, va_rf (some x)), (1, va_rf (gR G x 2))] [.int 0] G bc bs))))) : GW Γ l mJ11_resize h MC MS Q 0 [(0, va_rf (some x))] [] G bc bs := by
  refine g_aload_n dJ11_resize_0 rfl 0 rfl ?_
  obtain ⟨c1, F⟩ := F
  refine h_get (v := va_rf (gR G x 2)) 11 2 (C := RJ11) (T := TJ11) (N := 8) rfl in_J11 (by decide) q525 (Or.inl rfl) rfl c1 rfl dJ11_resize_1 ?_
  refine s_astore_n (lv' := [(0, va_rf (some x)), (1, va_rf (gR G x 2))]) (cat_R cat_nil) dJ11_resize_4 rfl (by decide) rfl [1, 0] rfl ?_
  refine g_aload_n dJ11_resize_5 rfl 1 rfl ?_
  refine g_ifnonnull 13 dJ11_resize_6 (by decide) (fun a2 e3 => ?_) (fun e3 => ?_)
  · have F := F.1 a2 e3
    refine g_aload_n dJ11_resize_13 rfl 1 rfl ?_
    obtain ⟨c4, F⟩ := F
    refine h_alen 7 e3 c4 (by decide) dJ11_resize_14 ?_
    exact F
  · have F := F.2 e3
    refine g_iconst (v := 0) dJ11_resize_9 (by decide) ?_
    refine g_goto 15 dJ11_resize_10 (by decide) ?_
    exact F
theorem rJ11_resize_15 {Γ : GE} {l : Launch} {h MC MS : Nat} {Q : Option Value → GH → Prop} {bc bs : Nat} {G : GH} (x : Nat) (p1 : Option Nat) (s0 : Int32) (F : (gC G x = kO 11 ∧ ((s0 ≤ 0 → (((gI G x 6) ≤ 0 → (GW Γ l mJ11_resize h MC MS Q 85 [(0, va_rf (some x)), (1, va_rf p1), (2, .int s0), (3, .int (gI G x 6)), (4, .int 16), (5, .int 12)] [] G bc bs)) ∧ (¬ (gI G x 6) ≤ 0 → (GW Γ l mJ11_resize h MC MS Q 85 [(0, va_rf (some x)), (1, va_rf p1), (2, .int s0), (3, .int (gI G x 6)), (4, .int (gI G x 6)), (5, .int 0)] [] G bc bs)))) ∧ (¬ s0 ≤ 0 → ((s0 < 1073741824 → (((1073741824 : Int32) ≤ (s0 <<< (1 &&& 31)) → (GW Γ l mJ11_resize h MC MS Q 85 [(0, va_rf (some x)), (1, va_rf p1), (2, .int s0), (3, .int (gI G x 6)), (4, .int (s0 <<< (1 &&& 31))), (5, .int 0)] [] G bc bs)) ∧ (¬ (1073741824 : Int32) ≤ (s0 <<< (1 &&& 31)) → ((s0 < 16 → (GW Γ l mJ11_resize h MC MS Q 85 [(0, va_rf (some x)), (1, va_rf p1), (2, .int s0), (3, .int (gI G x 6)), (4, .int (s0 <<< (1 &&& 31))), (5, .int 0)] [] G bc bs)) ∧ (¬ s0 < 16 → (GW Γ l mJ11_resize h MC MS Q 85 [(0, va_rf (some x)), (1, va_rf p1), (2, .int s0), (3, .int (gI G x 6)), (4, .int (s0 <<< (1 &&& 31))), (5, .int ((gI G x 6) <<< (1 &&& 31)))] [] G bc bs)))))) ∧ (¬ s0 < 1073741824 → (gM G x = true ∧ Q (some (va_rf p1)) (sI G x 6 2147483647)))))))) : GW Γ l mJ11_resize h MC MS Q 15 [(0, va_rf (some x)), (1, va_rf p1)] [.int s0] G bc bs := by
  refine s_istore_n (lv' := [(0, va_rf (some x)), (1, va_rf p1), (2, .int s0)]) (cat_R (cat_R cat_nil)) dJ11_resize_15 rfl (by decide) rfl [1, 2, 0] rfl ?_
  refine g_aload_n dJ11_resize_16 rfl 0 rfl ?_
  obtain ⟨c1, F⟩ := F
  refine h_get (v := .int (gI G x 6)) 11 6 (C := RJ11) (T := TJ11) (N := 8) rfl in_J11 (by decide) q528 (Or.inl rfl) rfl c1 rfl dJ11_resize_17 ?_
  refine s_istore_n (lv' := [(0, va_rf (some x)), (1, va_rf p1), (2, .int s0), (3, .int (gI G x 6))]) (cat_R (cat_R (cat_I cat_nil))) dJ11_resize_20 rfl (by decide) rfl [1, 2, 3, 0] rfl ?_
  refine g_iconst (v := 0) dJ11_resize_21 (by decide) ?_
  refine s_istore (lv' := [(0, va_rf (some x)), (1, va_rf p1), (2, .int s0), (3, .int (gI G x 6)), (5, .int 0)]) (cat_R (cat_R (cat_I (cat_I cat_nil)))) dJ11_resize_22 (by decide) rfl [1, 2, 3, 4, 0] rfl ?_
  refine g_iload_n dJ11_resize_24 rfl 2 rfl ?_
  refine g_if_le 67 dJ11_resize_25 (by decide) (fun h7 => ?_) (fun h7 => ?_)
  · have F := F.1 h7
    refine g_iload_n dJ11_resize_67 rfl 3 rfl ?_
    refine g_if_le 77 dJ11_resize_68 (by decide) (fun h2 => ?_) (fun h2 => ?_)
    · have F := F.1 h2
      refine g_bipush (v := 16) dJ11_resize_77 (by decide) ?_
      refine s_istore (lv' := [(0, va_rf (some x)), (1, va_rf p1), (2, .int s0), (3, .int (gI G x 6)), (4, .int 16), (5, .int 0)]) (cat_R (cat_R (cat_I (cat_I (cat_I cat_nil))))) dJ11_resize_79 (by decide) rfl [1, 2, 3, 4, 0, 5] rfl ?_
      refine g_bipush (v := 12) dJ11_resize_81 (by decide) ?_
      refine s_istore (lv' := [(0, va_rf (some x)), (1, va_rf p1), (2, .int s0), (3, .int (gI G x 6)), (4, .int 16), (5, .int 12)]) (cat_R (cat_R (cat_I (cat_I (cat_I (cat_I cat_nil)))))) dJ11_resize_83 (by decide) rfl [1, 2, 3, 4, 5, 0] rfl ?_
      exact F
    · have F := F.2 h2
      refine g_iload_n dJ11_resize_71 rfl 3 rfl ?_
      refine s_istore (lv' := [(0, va_rf (some x)), (1, va_rf p1), (2, .int s0), (3, .int (gI G x 6)), (4, .int (gI G x 6)), (5, .int 0)]) (cat_R (cat_R (cat_I (cat_I (cat_I cat_nil))))) dJ11_resize_72 (by decide) rfl [1, 2, 3, 4, 0, 5] rfl ?_
      refine g_goto 85 dJ11_resize_74 (by decide) ?_
      exact F
  · have F := F.2 h7
    refine g_iload_n dJ11_resize_28 rfl 2 rfl ?_
    refine h_ldcI (v := 1073741824) q678 dJ11_resize_29 ?_
    refine g_icmp_lt 42 dJ11_resize_31 (by decide) (fun h6 => ?_) (fun h6 => ?_)
    · have F := F.1 h6
      refine g_iload_n dJ11_resize_42 rfl 2 rfl ?_
      refine g_iconst (v := 1) dJ11_resize_43 (by decide) ?_
      refine g_ishl dJ11_resize_44 ?_
      refine g_dup dJ11_resize_45 rfl ?_
      refine s_istore (lv' := [(0, va_rf (some x)), (1, va_rf p1), (2, .int s0), (3, .int (gI G x 6)), (4, .int (s0 <<< (1 &&& 31))), (5, .int 0)]) (cat_R (cat_R (cat_I (cat_I (cat_I cat_nil))))) dJ11_resize_46 (by decide) rfl [1, 2, 3, 4, 0, 5] rfl ?_
      refine h_ldcI (v := 1073741824) q678 dJ11_resize_48 ?_
      refine g_icmp_ge 85 dJ11_resize_50 (by decide) (fun h4 => ?_) (fun h4 => ?_)
      · have F := F.1 h4
        exact F
      · have F := F.2 h4
        refine g_iload_n dJ11_resize_53 rfl 2 rfl ?_
        refine g_bipush (v := 16) dJ11_resize_54 (by decide) ?_
        refine g_icmp_lt 85 dJ11_resize_56 (by decide) (fun h3 => ?_) (fun h3 => ?_)
        · have F := F.1 h3
          exact F
        · have F := F.2 h3
          refine g_iload_n dJ11_resize_59 rfl 3 rfl ?_
          refine g_iconst (v := 1) dJ11_resize_60 (by decide) ?_
          refine g_ishl dJ11_resize_61 ?_
          refine s_istore (lv' := [(0, va_rf (some x)), (1, va_rf p1), (2, .int s0), (3, .int (gI G x 6)), (4, .int (s0 <<< (1 &&& 31))), (5, .int ((gI G x 6) <<< (1 &&& 31)))]) (cat_R (cat_R (cat_I (cat_I (cat_I (cat_I cat_nil)))))) dJ11_resize_62 (by decide) rfl [1, 2, 3, 4, 5, 0] rfl ?_
          refine g_goto 85 dJ11_resize_64 (by decide) ?_
          exact F
    · have F := F.2 h6
      refine g_aload_n dJ11_resize_34 rfl 0 rfl ?_
      refine h_ldcI (v := 2147483647) q679 dJ11_resize_35 ?_
      obtain ⟨m5, F⟩ := F
      refine h_putI (mi := mJ11_resize) 11 6 (C := RJ11) (T := TJ11) (N := 8) rfl in_J11 tyJ11_ok nmJ11 (by decide) q528 (Or.inl rfl) (Or.inl rfl) rfl rfl c1 m5 rfl rfl dJ11_resize_37 ?_
      refine g_aload_n dJ11_resize_40 rfl 1 rfl ?_
      exact g_aret (r := p1) rfl (Or.inr ⟨_, rfl⟩) dJ11_resize_41 F
theorem rJ11_resize_85 {Γ : GE} {l : Launch} {h MC MS : Nat} {Q : Option Value → GH → Prop} {bc bs : Nat} {G : GH} (x : Nat) (p1 : Option Nat) (p2 : Int32) (p3 : Int32) (p4 : Int32) (p5 : Int32) (F : ((¬ p5 = 0 → (GW Γ l mJ11_resize h MC MS Q 125 [(0, va_rf (some x)), (1, va_rf p1), (2, .int p2), (3, .int p3), (4, .int p4), (5, .int p5)] [] G bc bs)) ∧ (p5 = 0 → (gC G x = kO 11 ∧ vf_n32 (FP.fmul (FP.i2f p4) (gF G x 7)) ∧ (((1073741824 : Int32) ≤ p4 → (GW Γ l mJ11_resize h MC MS Q 125 [(0, va_rf (some x)), (1, va_rf p1), (2, .int p2), (3, .int p3), (4, .int p4), (5, .int 2147483647)] [] G bc bs)) ∧ (¬ (1073741824 : Int32) ≤ p4 → (((0 : Int32) ≤ (Op.cmpValue (FP.fcmp (FP.fmul (FP.i2f p4) (gF G x 7)) (1317011456 : UInt32)) .g) → (GW Γ l mJ11_resize h MC MS Q 125 [(0, va_rf (some x)), (1, va_rf p1), (2, .int p2), (3, .int p3), (4, .int p4), (5, .int 2147483647)] [] G bc bs)) ∧ (¬ (0 : Int32) ≤ (Op.cmpValue (FP.fcmp (FP.fmul (FP.i2f p4) (gF G x 7)) (1317011456 : UInt32)) .g) → (GW Γ l mJ11_resize h MC MS Q 125 [(0, va_rf (some x)), (1, va_rf p1), (2, .int p2), (3, .int p3), (4, .int p4), (5, .int (FP.f2i (FP.fmul (FP.i2f p4) (gF G x 7))))] [] G bc bs))))))))) : GW Γ l mJ11_resize h MC MS Q 85 [(0, va_rf (some x)), (1, va_rf p1), (2, .int p2), (3, .int p3), (4, .int p4), (5, .int p5)] [] G bc bs := by
  refine g_iload dJ11_resize_85 5 rfl ?_
  refine g_if_ne 125 dJ11_resize_87 (by decide) (fun h5 => ?_) (fun h5 => ?_)
  · have F := F.1 h5
    exact F
  · have F := F.2 h5
    refine g_iload dJ11_resize_90 4 rfl ?_
    refine g_i2f dJ11_resize_92 ?_
    refine g_aload_n dJ11_resize_93 rfl 0 rfl ?_
    obtain ⟨c1, F⟩ := F
    refine h_get (v := .float (gF G x 7)) 11 7 (C := RJ11) (T := TJ11) (N := 8) rfl in_J11 (by decide) q529 (Or.inl rfl) rfl c1 rfl dJ11_resize_94 ?_
    obtain ⟨k2, F⟩ := F
    refine g_fmul dJ11_resize_97 k2 ?_
    refine s_fstore (lv' := [(0, va_rf (some x)), (1, va_rf p1), (2, .int p2), (3, .int p3), (4, .int p4), (5, .int p5), (6, .float (FP.fmul (FP.i2f p4) (gF G x 7)))]) (cat_R (cat_R (cat_I (cat_I (cat_I (cat_I cat_nil)))))) dJ11_resize_98 (by decide) rfl [1, 2, 3, 4, 5, 6, 0] rfl ?_
    refine g_iload dJ11_resize_100 4 rfl ?_
    refine h_ldcI (v := 1073741824) q678 dJ11_resize_102 ?_
    refine g_icmp_ge 121 dJ11_resize_104 (by decide) (fun h4 => ?_) (fun h4 => ?_)
    · have F := F.1 h4
      refine h_ldcI (v := 2147483647) q679 dJ11_resize_121 ?_
      refine s_istore (lv' := [(0, va_rf (some x)), (1, va_rf p1), (2, .int p2), (3, .int p3), (4, .int p4), (5, .int 2147483647), (6, .float (FP.fmul (FP.i2f p4) (gF G x 7)))]) (cat_R (cat_R (cat_I (cat_I (cat_I (cat_I (cat_F cat_nil))))))) dJ11_resize_123 (by decide) rfl [1, 2, 3, 4, 5, 0, 6] rfl ?_
      refine GW.lsub (lv' := [(0, va_rf (some x)), (1, va_rf p1), (2, .int p2), (3, .int p3), (4, .int p4), (5, .int 2147483647)]) [0, 1, 2, 3, 4, 5] rfl ?_
      exact F
    · have F := F.2 h4
      refine g_fload dJ11_resize_107 6 rfl ?_
      refine g_ldcf (v := (1317011456 : UInt32)) q680 dJ11_resize_109 ?_
      refine g_fcmp dJ11_resize_111 ?_
      refine g_if_ge 121 dJ11_resize_112 (by decide) (fun h3 => ?_) (fun h3 => ?_)
      · have F := F.1 h3
        refine h_ldcI (v := 2147483647) q679 dJ11_resize_121 ?_
        refine s_istore (lv' := [(0, va_rf (some x)), (1, va_rf p1), (2, .int p2), (3, .int p3), (4, .int p4), (5, .int 2147483647), (6, .float (FP.fmul (FP.i2f p4) (gF G x 7)))]) (cat_R (cat_R (cat_I (cat_I (cat_I (cat_I (cat_F cat_nil))))))) dJ11_resize_123 (by decide) rfl [1, 2, 3, 4, 5, 0, 6] rfl ?_
        refine GW.lsub (lv' := [(0, va_rf (some x)), (1, va_rf p1), (2, .int p2), (3, .int p3), (4, .int p4), (5, .int 2147483647)]) [0, 1, 2, 3, 4, 5] rfl ?_
        exact F
      · have F := F.2 h3
        refine g_fload dJ11_resize_115 6 rfl ?_
        refine g_f2i dJ11_resize_117 ?_
        refine g_goto 123 dJ11_resize_118 (by decide) ?_
        refine s_istore (lv' := [(0, va_rf (some x)), (1, va_rf p1), (2, .int p2), (3, .int p3), (4, .int p4), (5, .int (FP.f2i (FP.fmul (FP.i2f p4) (gF G x 7)))), (6, .float (FP.fmul (FP.i2f p4) (gF G x 7)))]) (cat_R (cat_R (cat_I (cat_I (cat_I (cat_I (cat_F cat_nil))))))) dJ11_resize_123 (by decide) rfl [1, 2, 3, 4, 5, 0, 6] rfl ?_
        refine GW.lsub (lv' := [(0, va_rf (some x)), (1, va_rf p1), (2, .int p2), (3, .int p3), (4, .int p4), (5, .int (FP.f2i (FP.fmul (FP.i2f p4) (gF G x 7))))]) [0, 1, 2, 3, 4, 5] rfl ?_
        exact F
theorem rJ11_resize_125 {Γ : GE} {l : Launch} {h MC MS : Nat} {Q : Option Value → GH → Prop} {bc bs : Nat} {G : GH} (x : Nat) (p1 : Option Nat) (p2 : Int32) (p3 : Int32) (p4 : Int32) (p5 : Int32) (F : (gC G x = kO 11 ∧ gM G x = true ∧ ¬ p4 < 0 ∧ (p4).toNatClampNeg * 4 ≤ 536870912 ∧ 1 ≤ bc ∧ (p4).toNatClampNeg ≤ bs ∧ ∀ q3, gC (sI G x 6 p5) q3 = 0 → gA Γ q3 → gC (nA (sI G x 6 p5) q3 7 (p4).toNatClampNeg) x = kO 11 ∧ gM (nA (sI G x 6 p5) q3 7 (p4).toNatClampNeg) x = true ∧ ((p1 = none → (Q (some (va_rf (some q3))) (sR (nA (sI G x 6 p5) q3 7 (p4).toNatClampNeg) x 2 (some q3)))) ∧ (∀ a12, p1 = some a12 → (GW Γ l mJ11_resize h MC MS Q 151 [(0, va_rf (some x)), (1, va_rf p1), (2, .int p2), (3, .int p3), (4, .int p4), (5, .int p5), (6, va_rf (some q3)), (7, .int 0)] [] (sR (nA (sI G x 6 p5) q3 7 (p4).toNatClampNeg) x 2 (some q3)) (bc - 1) (bs - (p4).toNatClampNeg)))))) : GW Γ l mJ11_resize h MC MS Q 125 [(0, va_rf (some x)), (1, va_rf p1), (2, .int p2), (3, .int p3), (4, .int p4), (5, .int p5)] [] G bc bs := by
  refine g_aload_n dJ11_resize_125 rfl 0 rfl ?_
  refine g_iload dJ11_resize_126 5 rfl ?_
  obtain ⟨c1, F⟩ := F
  obtain ⟨m2, F⟩ := F
  refine h_putI (mi := mJ11_resize) 11 6 (C := RJ11) (T := TJ11) (N := 8) rfl in_J11 tyJ11_ok nmJ11 (by decide) q528 (Or.inl rfl) (Or.inl rfl) rfl rfl c1 m2 rfl rfl dJ11_resize_128 ?_
  refine g_iload dJ11_resize_131 4 rfl ?_
  obtain ⟨k4, F⟩ := F
  obtain ⟨k5, F⟩ := F
  obtain ⟨k6, F⟩ := F
  obtain ⟨k7, F⟩ := F
  refine h_newq 7 (p4).toNatClampNeg (by decide) (by decide) q681 (by decide +kernel) k4 rfl k5 k6 k7 dJ11_resize_133 (fun q3 z8 z8' => ?_)
  have F := F q3 z8 z8'
  refine s_astore (lv' := [(0, va_rf (some x)), (1, va_rf p1), (2, .int p2), (3, .int p3), (4, .int p4), (5, .int p5), (6, va_rf (some q3))]) (cat_R (cat_R (cat_I (cat_I (cat_I (cat_I cat_nil)))))) dJ11_resize_136 (by decide) rfl [1, 2, 3, 4, 5, 6, 0] rfl ?_
  refine g_aload_n dJ11_resize_138 rfl 0 rfl ?_
  refine g_aload dJ11_resize_139 6 rfl ?_
  obtain ⟨c10, F⟩ := F
  obtain ⟨m11, F⟩ := F
  refine h_putR (mi := mJ11_resize) 11 2 (C := RJ11) (T := TJ11) (N := 8) rfl in_J11 tyJ11_ok nmJ11 (by decide) q525 (Or.inl rfl) (Or.inl rfl) rfl rfl rfl c10 m11 dJ11_resize_141 ?_
  refine g_aload_n dJ11_resize_144 rfl 1 rfl ?_
  refine g_ifnull 353 dJ11_resize_145 (by decide) (fun e13 => ?_) (fun a12 e13 => ?_)
  · have F := F.1 e13
    refine g_aload dJ11_resize_353 6 rfl ?_
    exact g_aret (r := (some q3)) rfl (Or.inr ⟨_, rfl⟩) dJ11_resize_355 F
  · have F := F.2 a12 e13
    refine g_iconst (v := 0) dJ11_resize_148 (by decide) ?_
    refine s_istore (lv' := [(0, va_rf (some x)), (1, va_rf p1), (2, .int p2), (3, .int p3), (4, .int p4), (5, .int p5), (6, va_rf (some q3)), (7, .int 0)]) (cat_R (cat_R (cat_I (cat_I (cat_I (cat_I (cat_R cat_nil))))))) dJ11_resize_149 (by decide) rfl [1, 2, 3, 4, 5, 6, 7, 0] rfl ?_
    exact F
theorem rJ11_resize_151 {Γ : GE} {l : Launch} {h MC MS : Nat} {Q : Option Value → GH → Prop} {bc bs : Nat} {G : GH} (x : Nat) (p1 : Option Nat) (p2 : Int32) (p3 : Int32) (p4 : Int32) (p5 : Int32) (p6 : Option Nat) (p7 : Int32) (F : ((p2 ≤ p7 → (Q (some (va_rf p6)) G)) ∧ (¬ p2 ≤ p7 → (∃ a1, p1 = some a1 ∧ gC G a1 = kA 7 ∧ gM G a1 = true ∧ vp_in p7 (gL G a1) ∧ (((gR G a1 p7.toNatClampNeg) = none → (GW Γ l mJ11_resize h MC MS Q 151 [(0, va_rf (some x)), (1, va_rf p1), (2, .int p2), (3, .int p3), (4, .int p4), (5, .int p5), (6, va_rf p6), (7, .int (p7 + 1))] [] G bc bs)) ∧ (∀ a6, (gR G a1 p7.toNatClampNeg) = some a6 → (vp_in p7 (gL G a1) ∧ okS G 7 none ∧ (gC (sR G a1 p7.toNatClampNeg none) a6 = kO 12 ∨ gC (sR G a1 p7.toNatClampNeg none) a6 = kO 13) ∧ ((∀ a11, (ndR (sR G a1 p7.toNatClampNeg none) a6 3) = some a11 → (∃ b13, okInst (sR G a1 p7.toNatClampNeg none) (gR G a1 p7.toNatClampNeg) "java/util/HashMap$TreeNode" b13 ∧ ((b13 = 0 → (GW Γ l mJ11_resize h MC MS Q 235 [(0, va_rf (some x)), (1, va_rf p1), (2, .int p2), (3, .int p3), (4, .int p4), (5, .int p5), (6, va_rf p6), (7, .int p7), (8, va_rf (gR G a1 p7.toNatClampNeg)), (9, va_rf none), (10, va_rf none), (11, va_rf none), (12, va_rf none)] [] (sR G a1 p7.toNatClampNeg none) bc bs)) ∧ (¬ b13 = 0 → (okCast (sR G a1 p7.toNatClampNeg none) (gR G a1 p7.toNatClampNeg) "java/util/HashMap$TreeNode" ∧ gC (sR G a1 p7.toNatClampNeg none) a6 = kO 13 ∧ cV Γ l h mJ21_split [.ref a6, va_rf (some x), va_rf p6, .int p7, .int p2] (sR G a1 p7.toNatClampNeg none) bc bs fun Gr16 br16 sr16 => GW Γ l mJ11_resize h MC MS Q 151 [(0, va_rf (some x)), (1, va_rf p1), (2, .int p2), (3, .int p3), (4, .int p4), (5, .int p5), (6, va_rf p6), (7, .int (p7 + 1))] [] Gr16 br16 sr16))))) ∧ ((ndR (sR G a1 p7.toNatClampNeg none) a6 3) = none → (∃ a20, p6 = some a20 ∧ gC (sR G a1 p7.toNatClampNeg none) a20 = kA 7 ∧ gM (sR G a1 p7.toNatClampNeg none) a20 = true ∧ vp_in ((ndI (sR G a1 p7.toNatClampNeg none) a6 0) &&& (p4 - 1)) (gL (sR G a1 p7.toNatClampNeg none) a20) ∧ okS (sR G a1 p7.toNatClampNeg none) 7 (gR G a1 p7.toNatClampNeg) ∧ GW Γ l mJ11_resize h MC MS Q 151 [(0, va_rf (some x)), (1, va_rf p1), (2, .int p2), (3, .int p3), (4, .int p4), (5, .int p5), (6, va_rf p6), (7, .int (p7 + 1))] [] (sR (sR G a1 p7.toNatClampNeg none) a20 ((ndI (sR G a1 p7.toNatClampNeg none) a6 0) &&& (p4 - 1)).toNatClampNeg (gR G a1 p7.toNatClampNeg)) bc bs)))))))))) : GW Γ l mJ11_resize h MC MS Q 151 [(0, va_rf (some x)), (1, va_rf p1), (2, .int p2), (3, .int p3), (4, .int p4), (5, .int p5), (6, va_rf p6), (7, .int p7)] [] G bc bs := by
  refine g_iload dJ11_resize_151 7 rfl ?_
  refine g_iload_n dJ11_resize_153 rfl 2 rfl ?_
  refine g_icmp_ge 353 dJ11_resize_154 (by decide) (fun h26 => ?_) (fun h26 => ?_)
  · have F := F.1 h26
    refine g_aload dJ11_resize_353 6 rfl ?_
    exact g_aret (r := p6) rfl (Or.inr ⟨_, rfl⟩) dJ11_resize_355 F
  · have F := F.2 h26
    refine g_aload_n dJ11_resize_157 rfl 1 rfl ?_
    refine g_iload dJ11_resize_158 7 rfl ?_
    obtain ⟨a1, e2, F⟩ := F
    obtain ⟨c3, F⟩ := F
    obtain ⟨m4, F⟩ := F
    obtain ⟨k5, F⟩ := F
    refine h_aald 7 e2 c3 (by decide) (by decide) m4 k5 dJ11_resize_160 ?_
    refine g_dup dJ11_resize_161 (va_rf_cat _) ?_
    refine s_astore (lv' := [(0, va_rf (some x)), (1, va_rf p1), (2, .int p2), (3, .int p3), (4, .int p4), (5, .int p5), (6, va_rf p6), (7, .int p7), (8, va_rf (gR G a1 p7.toNatClampNeg))]) (cat_R (cat_R (cat_I (cat_I (cat_I (cat_I (cat_R (cat_I cat_nil)))))))) dJ11_resize_162 (by decide) rfl [1, 2, 3, 4, 5, 6, 7, 8, 0] rfl ?_
    refine g_ifnull 347 dJ11_resize_164 (by decide) (fun e7 => ?_) (fun a6 e7 => ?_)
    · have F := F.1 e7
      refine s_iinc (v := (p7 + 1)) (lv' := [(0, va_rf (some x)), (1, va_rf p1), (2, .int p2), (3, .int p3), (4, .int p4), (5, .int p5), (6, va_rf p6), (7, .int (p7 + 1)), (8, va_rf (gR G a1 p7.toNatClampNeg))]) (cat_R (cat_R (cat_I (cat_I (cat_I (cat_I (cat_R (cat_I (cat_R cat_nil))))))))) dJ11_resize_347 (k0 := 7) rfl rfl (by decide) rfl [1, 2, 3, 4, 5, 6, 7, 0, 8] rfl ?_
      refine g_goto 151 dJ11_resize_350 (by decide) ?_
      refine GW.lsub (lv' := [(0, va_rf (some x)), (1, va_rf p1), (2, .int p2), (3, .int p3), (4, .int p4), (5, .int p5), (6, va_rf p6), (7, .int (p7 + 1))]) [0, 1, 2, 3, 4, 5, 6, 7] rfl ?_
      exact F
    · have F := F.2 a6 e7
      refine g_aload_n dJ11_resize_167 rfl 1 rfl ?_
      refine g_iload dJ11_resize_168 7 rfl ?_
      refine g_null dJ11_resize_170 ?_
      obtain ⟨k8, F⟩ := F
      obtain ⟨k9, F⟩ := F
      refine h_aast 7 e2 c3 (by decide) (by decide) m4 k8 k9 dJ11_resize_171 ?_
      refine g_aload dJ11_resize_172 8 rfl ?_
      obtain ⟨c10, F⟩ := F
      refine h_getNDR 3 (by decide) q716 e7 c10 dJ11_resize_174 ?_
      refine g_ifnonnull 198 dJ11_resize_177 (by decide) (fun a11 e12 => ?_) (fun e12 => ?_)
      · have F := F.1 a11 e12
        refine g_aload dJ11_resize_198 8 rfl ?_
        obtain ⟨b13, e14, F⟩ := F
        refine h_inst q683 e14 dJ11_resize_200 ?_
        refine g_if_eq 223 dJ11_resize_203 (by decide) (fun h19 => ?_) (fun h19 => ?_)
        · have F := F.1 h19
          refine g_null dJ11_resize_223 ?_
          refine s_astore (lv' := [(0, va_rf (some x)), (1, va_rf p1), (2, .int p2), (3, .int p3), (4, .int p4), (5, .int p5), (6, va_rf p6), (7, .int p7), (8, va_rf (gR G a1 p7.toNatClampNeg)), (9, va_rf none)]) (cat_R (cat_R (cat_I (cat_I (cat_I (cat_I (cat_R (cat_I (cat_R cat_nil))))))))) dJ11_resize_224 (by decide) rfl [1, 2, 3, 4, 5, 6, 7, 8, 9, 0] rfl ?_
          refine g_null dJ11_resize_226 ?_
          refine s_astore (lv' := [(0, va_rf (some x)), (1, va_rf p1), (2, .int p2), (3, .int p3), (4, .int p4), (5, .int p5), (6, va_rf p6), (7, .int p7), (8, va_rf (gR G a1 p7.toNatClampNeg)), (9, va_rf none), (10, va_rf none)]) (cat_R (cat_R (cat_I (cat_I (cat_I (cat_I (cat_R (cat_I (cat_R (cat_R cat_nil)))))))))) dJ11_resize_227 (by decide) rfl [1, 2, 3, 4, 5, 6, 7, 8, 9, 10, 0] rfl ?_
          refine g_null dJ11_resize_229 ?_
          refine s_astore (lv' := [(0, va_rf (some x)), (1, va_rf p1), (2, .int p2), (3, .int p3), (4, .int p4), (5, .int p5), (6, va_rf p6), (7, .int p7), (8, va_rf (gR G a1 p7.toNatClampNeg)), (9, va_rf none), (10, va_rf none), (11, va_rf none)]) (cat_R (cat_R (cat_I (cat_I (cat_I (cat_I (cat_R (cat_I (cat_R (cat_R (cat_R cat_nil))))))))))) dJ11_resize_230 (by decide) rfl [1, 2, 3, 4, 5, 6, 7, 8, 9, 10, 11, 0] rfl ?_
          refine g_null dJ11_resize_232 ?_
          refine s_astore (lv' := [(0, va_rf (some x)), (1, va_rf p1), (2, .int p2), (3, .int p3), (4, .int p4), (5, .int p5), (6, va_rf p6), (7, .int p7), (8, va_rf (gR G a1 p7.toNatClampNeg)), (9, va_rf none), (10, va_rf none), (11, va_rf none), (12, va_rf none)]) (cat_R (cat_R (cat_I (cat_I (cat_I (cat_I (cat_R (cat_I (cat_R (cat_R (cat_R (cat_R cat_nil)))))))))))) dJ11_resize_233 (by decide) rfl [1, 2, 3, 4, 5, 6, 7, 8, 9, 10, 11, 12, 0] rfl ?_
          exact F
        · have F := F.2 h19
          refine g_aload dJ11_resize_206 8 rfl ?_
          obtain ⟨k15, F⟩ := F
          refine h_castO q683 k15 dJ11_resize_208 ?_
          refine g_aload_n dJ11_resize_211 rfl 0 rfl ?_
          refine g_aload dJ11_resize_212 6 rfl ?_
          refine g_iload dJ11_resize_214 7 rfl ?_
          refine g_iload_n dJ11_resize_216 rfl 2 rfl ?_
          obtain ⟨c17, F⟩ := F
          refine h_callVV (ci := 13) (C := RJ21) (T := TJ21) (N := 11) (As := [va_rf (some x), va_rf p6, .int p7, .int p2]) (rest := []) F 4 rfl rfl (lw_V q684 q685 q686 q136 q687) vm_J21_split (by decide) e7 c17 rfl (room_of sc_nil (Nat.le_of_ble_eq_true rfl)) dJ11_resize_217 (fun Gr16 br16 sr16 F => ?_)
          refine g_goto 347 dJ11_resize_220 (by decide) ?_
          refine s_iinc (v := (p7 + 1)) (lv' := [(0, va_rf (some x)), (1, va_rf p1), (2, .int p2), (3, .int p3), (4, .int p4), (5, .int p5), (6, va_rf p6), (7, .int (p7 + 1)), (8, va_rf (gR G a1 p7.toNatClampNeg))]) (cat_R (cat_R (cat_I (cat_I (cat_I (cat_I (cat_R (cat_I (cat_R cat_nil))))))))) dJ11_resize_347 (k0 := 7) rfl rfl (by decide) rfl [1, 2, 3, 4, 5, 6, 7, 0, 8] rfl ?_
          refine g_goto 151 dJ11_resize_350 (by decide) ?_
          refine GW.lsub (lv' := [(0, va_rf (some x)), (1, va_rf p1), (2, .int p2), (3, .int p3), (4, .int p4), (5, .int p5), (6, va_rf p6), (7, .int (p7 + 1))]) [0, 1, 2, 3, 4, 5, 6, 7] rfl ?_
          exact F
      · have F := F.2 e12
        refine g_aload dJ11_resize_180 6 rfl ?_
        refine g_aload dJ11_resize_182 8 rfl ?_
        refine h_getNDI 0 (by decide) q705 e7 c10 dJ11_resize_184 ?_
        refine g_iload dJ11_resize_187 4 rfl ?_
        refine g_iconst (v := 1) dJ11_resize_189 (by decide) ?_
        refine g_isub dJ11_resize_190 ?_
        refine g_iand dJ11_resize_191 ?_
        refine g_aload dJ11_resize_192 8 rfl ?_
        obtain ⟨a20, e21, F⟩ := F
        obtain ⟨c22, F⟩ := F
        obtain ⟨m23, F⟩ := F
        obtain ⟨k24, F⟩ := F
        obtain ⟨k25, F⟩ := F
        refine h_aast 7 e21 c22 (by decide) (by decide) m23 k24 k25 dJ11_resize_194 ?_
        refine g_goto 347 dJ11_resize_195 (by decide) ?_
        refine s_iinc (v := (p7 + 1)) (lv' := [(0, va_rf (some x)), (1, va_rf p1), (2, .int p2), (3, .int p3), (4, .int p4), (5, .int p5), (6, va_rf p6), (7, .int (p7 + 1)), (8, va_rf (gR G a1 p7.toNatClampNeg))]) (cat_R (cat_R (cat_I (cat_I (cat_I (cat_I (cat_R (cat_I (cat_R cat_nil))))))))) dJ11_resize_347 (k0 := 7) rfl rfl (by decide) rfl [1, 2, 3, 4, 5, 6, 7, 0, 8] rfl ?_
        refine g_goto 151 dJ11_resize_350 (by decide) ?_
        refine GW.lsub (lv' := [(0, va_rf (some x)), (1, va_rf p1), (2, .int p2), (3, .int p3), (4, .int p4), (5, .int p5), (6, va_rf p6), (7, .int (p7 + 1))]) [0, 1, 2, 3, 4, 5, 6, 7] rfl ?_
        exact F
theorem rJ11_resize_235 {Γ : GE} {l : Launch} {h MC MS : Nat} {Q : Option Value → GH → Prop} {bc bs : Nat} {G : GH} (x : Nat) (p1 : Option Nat) (p2 : Int32) (p3 : Int32) (p4 : Int32) (p5 : Int32) (p6 : Option Nat) (p7 : Int32) (p8 : Option Nat) (p9 : Option Nat) (p10 : Option Nat) (p11 : Option Nat) (p12 : Option Nat) (F : (∃ a1, p8 = some a1 ∧ (gC G a1 = kO 12 ∨ gC G a1 = kO 13) ∧ ((¬ ((ndI G a1 0) &&& p2) = 0 → ((∀ a4, p12 = some a4 → ((gC G a4 = kO 12 ∨ gC G a4 = kO 13) ∧ gM G a4 = true ∧ GW Γ l mJ11_resize h MC MS Q 297 [(0, va_rf (some x)), (1, va_rf p1), (2, .int p2), (3, .int p3), (4, .int p4), (5, .int p5), (6, va_rf p6), (7, .int p7), (8, va_rf p8), (9, va_rf p9), (10, va_rf p10), (11, va_rf p11), (12, va_rf p12), (13, va_rf (ndR G a1 3))] [] (ndsR G a4 3 p8) bc bs)) ∧ (p12 = none → (GW Γ l mJ11_resize h MC MS Q 297 [(0, va_rf (some x)), (1, va_rf p1), (2, .int p2), (3, .int p3), (4, .int p4), (5, .int p5), (6, va_rf p6), (7, .int p7), (8, va_rf p8), (9, va_rf p9), (10, va_rf p10), (11, va_rf p8), (12, va_rf p12), (13, va_rf (ndR G a1 3))] [] G bc bs)))) ∧ (((ndI G a1 0) &&& p2) = 0 → ((∀ a8, p10 = some a8 → ((gC G a8 = kO 12 ∨ gC G a8 = kO 13) ∧ gM G a8 = true ∧ GW Γ l mJ11_resize h MC MS Q 271 [(0, va_rf (some x)), (1, va_rf p1), (2, .int p2), (3, .int p3), (4, .int p4), (5, .int p5), (6, va_rf p6), (7, .int p7), (8, va_rf p8), (9, va_rf p9), (10, va_rf p10), (11, va_rf p11), (12, va_rf p12), (13, va_rf (ndR G a1 3))] [] (ndsR G a8 3 p8) bc bs)) ∧ (p10 = none → (GW Γ l mJ11_resize h MC MS Q 271 [(0, va_rf (some x)), (1, va_rf p1), (2, .int p2), (3, .int p3), (4, .int p4), (5, .int p5), (6, va_rf p6), (7, .int p7), (8, va_rf p8), (9, va_rf p8), (10, va_rf p10), (11, va_rf p11), (12, va_rf p12), (13, va_rf (ndR G a1 3))] [] G bc bs))))))) : GW Γ l mJ11_resize h MC MS Q 235 [(0, va_rf (some x)), (1, va_rf p1), (2, .int p2), (3, .int p3), (4, .int p4), (5, .int p5), (6, va_rf p6), (7, .int p7), (8, va_rf p8), (9, va_rf p9), (10, va_rf p10), (11, va_rf p11), (12, va_rf p12)] [] G bc bs := by
  refine g_aload dJ11_resize_235 8 rfl ?_
  obtain ⟨a1, e2, F⟩ := F
  obtain ⟨c3, F⟩ := F
  refine h_getNDR 3 (by decide) q716 e2 c3 dJ11_resize_237 ?_
  refine s_astore (lv' := [(0, va_rf (some x)), (1, va_rf p1), (2, .int p2), (3, .int p3), (4, .int p4), (5, .int p5), (6, va_rf p6), (7, .int p7), (8, va_rf p8), (9, va_rf p9), (10, va_rf p10), (11, va_rf p11), (12, va_rf p12), (13, va_rf (ndR G a1 3))]) (cat_R (cat_R (cat_I (cat_I (cat_I (cat_I (cat_R (cat_I (cat_R (cat_R (cat_R (cat_R (cat_R cat_nil))))))))))))) dJ11_resize_240 (by decide) rfl [1, 2, 3, 4, 5, 6, 7, 8, 9, 10, 11, 12, 13, 0] rfl ?_
  refine g_aload dJ11_resize_242 8 rfl ?_
  refine h_getNDI 0 (by decide) q705 e2 c3 dJ11_resize_244 ?_
  refine g_iload_n dJ11_resize_247 rfl 2 rfl ?_
  refine g_iand dJ11_resize_248 ?_
  refine g_if_ne 278 dJ11_resize_249 (by decide) (fun h12 => ?_) (fun h12 => ?_)
  · have F := F.1 h12
    refine g_aload dJ11_resize_278 12 rfl ?_
    refine g_ifnonnull 290 dJ11_resize_280 (by decide) (fun a4 e5 => ?_) (fun e5 => ?_)
    · have F := F.1 a4 e5
      refine g_aload dJ11_resize_290 12 rfl ?_
      refine g_aload dJ11_resize_292 8 rfl ?_
      obtain ⟨c6, F⟩ := F
      obtain ⟨m7, F⟩ := F
      refine h_putNDR (mi := mJ11_resize) 3 (by decide) q716 (Or.inl rfl) e5 c6 m7 dJ11_resize_294 ?_
      exact F
    · have F := F.2 e5
      refine g_aload dJ11_resize_283 8 rfl ?_
      refine s_astore (lv' := [(0, va_rf (some x)), (1, va_rf p1), (2, .int p2), (3, .int p3), (4, .int p4), (5, .int p5), (6, va_rf p6), (7, .int p7), (8, va_rf p8), (9, va_rf p9), (10, va_rf p10), (11, va_rf p8), (12, va_rf p12), (13, va_rf (ndR G a1 3))]) (cat_R (cat_R (cat_I (cat_I (cat_I (cat_I (cat_R (cat_I (cat_R (cat_R (cat_R (cat_R (cat_R (cat_R cat_nil)))))))))))))) dJ11_resize_285 (by decide) rfl [1, 2, 3, 4, 5, 6, 7, 8, 9, 10, 11, 0, 12, 13] rfl ?_
      refine g_goto 297 dJ11_resize_287 (by decide) ?_
      exact F
  · have F := F.2 h12
    refine g_aload dJ11_resize_252 10 rfl ?_
    refine g_ifnonnull 264 dJ11_resize_254 (by decide) (fun a8 e9 => ?_) (fun e9 => ?_)
    · have F := F.1 a8 e9
      refine g_aload dJ11_resize_264 10 rfl ?_
      refine g_aload dJ11_resize_266 8 rfl ?_
      obtain ⟨c10, F⟩ := F
      obtain ⟨m11, F⟩ := F
      refine h_putNDR (mi := mJ11_resize) 3 (by decide) q716 (Or.inl rfl) e9 c10 m11 dJ11_resize_268 ?_
      exact F
    · have F := F.2 e9
      refine g_aload dJ11_resize_257 8 rfl ?_
      refine s_astore (lv' := [(0, va_rf (some x)), (1, va_rf p1), (2, .int p2), (3, .int p3), (4, .int p4), (5, .int p5), (6, va_rf p6), (7, .int p7), (8, va_rf p8), (9, va_rf p8), (10, va_rf p10), (11, va_rf p11), (12, va_rf p12), (13, va_rf (ndR G a1 3))]) (cat_R (cat_R (cat_I (cat_I (cat_I (cat_I (cat_R (cat_I (cat_R (cat_R (cat_R (cat_R (cat_R (cat_R cat_nil)))))))))))))) dJ11_resize_259 (by decide) rfl [1, 2, 3, 4, 5, 6, 7, 8, 9, 0, 10, 11, 12, 13] rfl ?_
      refine g_goto 271 dJ11_resize_261 (by decide) ?_
      exact F
theorem rJ11_resize_271 {Γ : GE} {l : Launch} {h MC MS : Nat} {Q : Option Value → GH → Prop} {bc bs : Nat} {G : GH} (x : Nat) (p1 : Option Nat) (p2 : Int32) (p3 : Int32) (p4 : Int32) (p5 : Int32) (p6 : Option Nat) (p7 : Int32) (p8 : Option Nat) (p9 : Option Nat) (p10 : Option Nat) (p11 : Option Nat) (p12 : Option Nat) (p13 : Option Nat) (F : ((∀ a1, p13 = some a1 → (GW Γ l mJ11_resize h MC MS Q 235 [(0, va_rf (some x)), (1, va_rf p1), (2, .int p2), (3, .int p3), (4, .int p4), (5, .int p5), (6, va_rf p6), (7, .int p7), (8, va_rf p13), (9, va_rf p9), (10, va_rf p8), (11, va_rf p11), (12, va_rf p12)] [] G bc bs)) ∧ (p13 = none → ((p8 = none → (GW Γ l mJ11_resize h MC MS Q 327 [(0, va_rf (some x)), (1, va_rf p1), (2, .int p2), (3, .int p3), (4, .int p4), (5, .int p5), (6, va_rf p6), (7, .int p7), (8, va_rf p13), (9, va_rf p9), (10, va_rf p8), (11, va_rf p11), (12, va_rf p12), (13, va_rf p13)] [] G bc bs)) ∧ (∀ a3, p8 = some a3 → ((gC G a3 = kO 12 ∨ gC G a3 = kO 13) ∧ gM G a3 = true ∧ ∃ a7, p6 = some a7 ∧ gC (ndsR G a3 3 none) a7 = kA 7 ∧ gM (ndsR G a3 3 none) a7 = true ∧ vp_in p7 (gL (ndsR G a3 3 none) a7) ∧ okS (ndsR G a3 3 none) 7 p9 ∧ GW Γ l mJ11_resize h MC MS Q 327 [(0, va_rf (some x)), (1, va_rf p1), (2, .int p2), (3, .int p3), (4, .int p4), (5, .int p5), (6, va_rf p6), (7, .int p7), (8, va_rf p13), (9, va_rf p9), (10, va_rf p8), (11, va_rf p11), (12, va_rf p12), (13, va_rf p13)] [] (sR (ndsR G a3 3 none) a7 p7.toNatClampNeg p9) bc bs)))))) : GW Γ l mJ11_resize h MC MS Q 271 [(0, va_rf (some x)), (1, va_rf p1), (2, .int p2), (3, .int p3), (4, .int p4), (5, .int p5), (6, va_rf p6), (7, .int p7), (8, va_rf p8), (9, va_rf p9), (10, va_rf p10), (11, va_rf p11), (12, va_rf p12), (13, va_rf p13)] [] G bc bs := by
  refine g_aload dJ11_resize_271 8 rfl ?_
  refine s_astore (lv' := [(0, va_rf (some x)), (1, va_rf p1), (2, .int p2), (3, .int p3), (4, .int p4), (5, .int p5), (6, va_rf p6), (7, .int p7), (8, va_rf p8), (9, va_rf p9), (10, va_rf p8), (11, va_rf p11), (12, va_rf p12), (13, va_rf p13)]) (cat_R (cat_R (cat_I (cat_I (cat_I (cat_I (cat_R (cat_I (cat_R (cat_R (cat_R (cat_R (cat_R (cat_R cat_nil)))))))))))))) dJ11_resize_273 (by decide) rfl [1, 2, 3, 4, 5, 6, 7, 8, 9, 10, 0, 11, 12, 13] rfl ?_
  refine g_goto 301 dJ11_resize_275 (by decide) ?_
  refine g_aload dJ11_resize_301 13 rfl ?_
  refine g_dup dJ11_resize_303 (va_rf_cat _) ?_
  refine s_astore (lv' := [(0, va_rf (some x)), (1, va_rf p1), (2, .int p2), (3, .int p3), (4, .int p4), (5, .int p5), (6, va_rf p6), (7, .int p7), (8, va_rf p13), (9, va_rf p9), (10, va_rf p8), (11, va_rf p11), (12, va_rf p12), (13, va_rf p13)]) (cat_R (cat_R (cat_I (cat_I (cat_I (cat_I (cat_R (cat_I (cat_R (cat_R (cat_R (cat_R (cat_R (cat_R cat_nil)))))))))))))) dJ11_resize_304 (by decide) rfl [1, 2, 3, 4, 5, 6, 7, 8, 0, 9, 10, 11, 12, 13] rfl ?_
  refine g_ifnonnull 235 dJ11_resize_306 (by decide) (fun a1 e2 => ?_) (fun e2 => ?_)
  · have F := F.1 a1 e2
    refine GW.lsub (lv' := [(0, va_rf (some x)), (1, va_rf p1), (2, .int p2), (3, .int p3), (4, .int p4), (5, .int p5), (6, va_rf p6), (7, .int p7), (8, va_rf p13), (9, va_rf p9), (10, va_rf p8), (11, va_rf p11), (12, va_rf p12)]) [0, 1, 2, 3, 4, 5, 6, 7, 8, 9, 10, 11, 12] rfl ?_
    exact F
  · have F := F.2 e2
    refine g_aload dJ11_resize_309 10 rfl ?_
    refine g_ifnull 327 dJ11_resize_311 (by decide) (fun e4 => ?_) (fun a3 e4 => ?_)
    · have F := F.1 e4
      exact F
    · have F := F.2 a3 e4
      refine g_aload dJ11_resize_314 10 rfl ?_
      refine g_null dJ11_resize_316 ?_
      obtain ⟨c5, F⟩ := F
      obtain ⟨m6, F⟩ := F
      refine h_putNDR (mi := mJ11_resize) 3 (by decide) q716 (Or.inl rfl) e4 c5 m6 dJ11_resize_317 ?_
      refine g_aload dJ11_resize_320 6 rfl ?_
      refine g_iload dJ11_resize_322 7 rfl ?_
      refine g_aload dJ11_resize_324 9 rfl ?_
      obtain ⟨a7, e8, F⟩ := F
      obtain ⟨c9, F⟩ := F
      obtain ⟨m10, F⟩ := F
      obtain ⟨k11, F⟩ := F
      obtain ⟨k12, F⟩ := F
      refine h_aast 7 e8 c9 (by decide) (by decide) m10 k11 k12 dJ11_resize_326 ?_
      exact F
theorem rJ11_resize_297 {Γ : GE} {l : Launch} {h MC MS : Nat} {Q : Option Value → GH → Prop} {bc bs : Nat} {G : GH} (x : Nat) (p1 : Option Nat) (p2 : Int32) (p3 : Int32) (p4 : Int32) (p5 : Int32) (p6 : Option Nat) (p7 : Int32) (p8 : Option Nat) (p9 : Option Nat) (p10 : Option Nat) (p11 : Option Nat) (p12 : Option Nat) (p13 : Option Nat) (F : ((∀ a1, p13 = some a1 → (GW Γ l mJ11_resize h MC MS Q 235 [(0, va_rf (some x)), (1, va_rf p1), (2, .int p2), (3, .int p3), (4, .int p4), (5, .int p5), (6, va_rf p6), (7, .int p7), (8, va_rf p13), (9, va_rf p9), (10, va_rf p10), (11, va_rf p11), (12, va_rf p8)] [] G bc bs)) ∧ (p13 = none → ((p10 = none → (GW Γ l mJ11_resize h MC MS Q 327 [(0, va_rf (some x)), (1, va_rf p1), (2, .int p2), (3, .int p3), (4, .int p4), (5, .int p5), (6, va_rf p6), (7, .int p7), (8, va_rf p13), (9, va_rf p9), (10, va_rf p10), (11, va_rf p11), (12, va_rf p8), (13, va_rf p13)] [] G bc bs)) ∧ (∀ a3, p10 = some a3 → ((gC G a3 = kO 12 ∨ gC G a3 = kO 13) ∧ gM G a3 = true ∧ ∃ a7, p6 = some a7 ∧ gC (ndsR G a3 3 none) a7 = kA 7 ∧ gM (ndsR G a3 3 none) a7 = true ∧ vp_in p7 (gL (ndsR G a3 3 none) a7) ∧ okS (ndsR G a3 3 none) 7 p9 ∧ GW Γ l mJ11_resize h MC MS Q 327 [(0, va_rf (some x)), (1, va_rf p1), (2, .int p2), (3, .int p3), (4, .int p4), (5, .int p5), (6, va_rf p6), (7, .int p7), (8, va_rf p13), (9, va_rf p9), (10, va_rf p10), (11, va_rf p11), (12, va_rf p8), (13, va_rf p13)] [] (sR (ndsR G a3 3 none) a7 p7.toNatClampNeg p9) bc bs)))))) : GW Γ l mJ11_resize h MC MS Q 297 [(0, va_rf (some x)), (1, va_rf p1), (2, .int p2), (3, .int p3), (4, .int p4), (5, .int p5), (6, va_rf p6), (7, .int p7), (8, va_rf p8), (9, va_rf p9), (10, va_rf p10), (11, va_rf p11), (12, va_rf p12), (13, va_rf p13)] [] G bc bs := by
  refine g_aload dJ11_resize_297 8 rfl ?_
  refine s_astore (lv' := [(0, va_rf (some x)), (1, va_rf p1), (2, .int p2), (3, .int p3), (4, .int p4), (5, .int p5), (6, va_rf p6), (7, .int p7), (8, va_rf p8), (9, va_rf p9), (10, va_rf p10), (11, va_rf p11), (12, va_rf p8), (13, va_rf p13)]) (cat_R (cat_R (cat_I (cat_I (cat_I (cat_I (cat_R (cat_I (cat_R (cat_R (cat_R (cat_R (cat_R (cat_R cat_nil)))))))))))))) dJ11_resize_299 (by decide) rfl [1, 2, 3, 4, 5, 6, 7, 8, 9, 10, 11, 12, 0, 13] rfl ?_
  refine g_aload dJ11_resize_301 13 rfl ?_
  refine g_dup dJ11_resize_303 (va_rf_cat _) ?_
  refine s_astore (lv' := [(0, va_rf (some x)), (1, va_rf p1), (2, .int p2), (3, .int p3), (4, .int p4), (5, .int p5), (6, va_rf p6), (7, .int p7), (8, va_rf p13), (9, va_rf p9), (10, va_rf p10), (11, va_rf p11), (12, va_rf p8), (13, va_rf p13)]) (cat_R (cat_R (cat_I (cat_I (cat_I (cat_I (cat_R (cat_I (cat_R (cat_R (cat_R (cat_R (cat_R (cat_R cat_nil)))))))))))))) dJ11_resize_304 (by decide) rfl [1, 2, 3, 4, 5, 6, 7, 8, 0, 9, 10, 11, 12, 13] rfl ?_
  refine g_ifnonnull 235 dJ11_resize_306 (by decide) (fun a1 e2 => ?_) (fun e2 => ?_)
  · have F := F.1 a1 e2
    refine GW.lsub (lv' := [(0, va_rf (some x)), (1, va_rf p1), (2, .int p2), (3, .int p3), (4, .int p4), (5, .int p5), (6, va_rf p6), (7, .int p7), (8, va_rf p13), (9, va_rf p9), (10, va_rf p10), (11, va_rf p11), (12, va_rf p8)]) [0, 1, 2, 3, 4, 5, 6, 7, 8, 9, 10, 11, 12] rfl ?_
    exact F
  · have F := F.2 e2
    refine g_aload dJ11_resize_309 10 rfl ?_
    refine g_ifnull 327 dJ11_resize_311 (by decide) (fun e4 => ?_) (fun a3 e4 => ?_)
    · have F := F.1 e4
      exact F
    · have F := F.2 a3 e4
      refine g_aload dJ11_resize_314 10 rfl ?_
      refine g_null dJ11_resize_316 ?_
      obtain ⟨c5, F⟩ := F
      obtain ⟨m6, F⟩ := F
      refine h_putNDR (mi := mJ11_resize) 3 (by decide) q716 (Or.inl rfl) e4 c5 m6 dJ11_resize_317 ?_
      refine g_aload dJ11_resize_320 6 rfl ?_
      refine g_iload dJ11_resize_322 7 rfl ?_
      refine g_aload dJ11_resize_324 9 rfl ?_
      obtain ⟨a7, e8, F⟩ := F
      obtain ⟨c9, F⟩ := F
      obtain ⟨m10, F⟩ := F
      obtain ⟨k11, F⟩ := F
      obtain ⟨k12, F⟩ := F
      refine h_aast 7 e8 c9 (by decide) (by decide) m10 k11 k12 dJ11_resize_326 ?_
      exact F
theorem rJ11_resize_327 {Γ : GE} {l : Launch} {h MC MS : Nat} {Q : Option Value → GH → Prop} {bc bs : Nat} {G : GH} (x : Nat) (p1 : Option Nat) (p2 : Int32) (p3 : Int32) (p4 : Int32) (p5 : Int32) (p6 : Option Nat) (p7 : Int32) (p8 : Option Nat) (p9 : Option Nat) (p10 : Option Nat) (p11 : Option Nat) (p12 : Option Nat) (p13 : Option Nat) (F : ((p12 = none → (GW Γ l mJ11_resize h MC MS Q 151 [(0, va_rf (some x)), (1, va_rf p1), (2, .int p2), (3, .int p3), (4, .int p4), (5, .int p5), (6, va_rf p6), (7, .int (p7 + 1))] [] G bc bs)) ∧ (∀ a1, p12 = some a1 → ((gC G a1 = kO 12 ∨ gC G a1 = kO 13) ∧ gM G a1 = true ∧ ∃ a5, p6 = some a5 ∧ gC (ndsR G a1 3 none) a5 = kA 7 ∧ gM (ndsR G a1 3 none) a5 = true ∧ vp_in (p7 + p2) (gL (ndsR G a1 3 none) a5) ∧ okS (ndsR G a1 3 none) 7 p11 ∧ GW Γ l mJ11_resize h MC MS Q 151 [(0, va_rf (some x)), (1, va_rf p1), (2, .int p2), (3, .int p3), (4, .int p4), (5, .int p5), (6, va_rf p6), (7, .int (p7 + 1))] [] (sR (ndsR G a1 3 none) a5 (p7 + p2).toNatClampNeg p11) bc bs)))) : GW Γ l mJ11_resize h MC MS Q 327 [(0, va_rf (some x)), (1, va_rf p1), (2, .int p2), (3, .int p3), (4, .int p4), (5, .int p5), (6, va_rf p6), (7, .int p7), (8, va_rf p8), (9, va_rf p9), (10, va_rf p10), (11, va_rf p11), (12, va_rf p12), (13, va_rf p13)] [] G bc bs := by
  refine g_aload dJ11_resize_327 12 rfl ?_
  refine g_ifnull 347 dJ11_resize_329 (by decide) (fun e2 => ?_) (fun a1 e2 => ?_)
  · have F := F.1 e2
    refine s_iinc (v := (p7 + 1)) (lv' := [(0, va_rf (some x)), (1, va_rf p1), (2, .int p2), (3, .int p3), (4, .int p4), (5, .int p5), (6, va_rf p6), (7, .int (p7 + 1)), (8, va_rf p8), (9, va_rf p9), (10, va_rf p10), (11, va_rf p11), (12, va_rf p12), (13, va_rf p13)]) (cat_R (cat_R (cat_I (cat_I (cat_I (cat_I (cat_R (cat_I (cat_R (cat_R (cat_R (cat_R (cat_R (cat_R cat_nil)))))))))))))) dJ11_resize_347 (k0 := 7) rfl rfl (by decide) rfl [1, 2, 3, 4, 5, 6, 7, 0, 8, 9, 10, 11, 12, 13] rfl ?_
    refine g_goto 151 dJ11_resize_350 (by decide) ?_
    refine GW.lsub (lv' := [(0, va_rf (some x)), (1, va_rf p1), (2, .int p2), (3, .int p3), (4, .int p4), (5, .int p5), (6, va_rf p6), (7, .int (p7 + 1))]) [0, 1, 2, 3, 4, 5, 6, 7] rfl ?_
    exact F
  · have F := F.2 a1 e2
    refine g_aload dJ11_resize_332 12 rfl ?_
    refine g_null dJ11_resize_334 ?_
    obtain ⟨c3, F⟩ := F
    obtain ⟨m4, F⟩ := F
    refine h_putNDR (mi := mJ11_resize) 3 (by decide) q716 (Or.inl rfl) e2 c3 m4 dJ11_resize_335 ?_
    refine g_aload dJ11_resize_338 6 rfl ?_
    refine g_iload dJ11_resize_340 7 rfl ?_
    refine g_iload_n dJ11_resize_342 rfl 2 rfl ?_
    refine g_iadd dJ11_resize_343 ?_
    refine g_aload dJ11_resize_344 11 rfl ?_
    obtain ⟨a5, e6, F⟩ := F
    obtain ⟨c7, F⟩ := F
    obtain ⟨m8, F⟩ := F
    obtain ⟨k9, F⟩ := F
    obtain ⟨k10, F⟩ := F
    refine h_aast 7 e6 c7 (by decide) (by decide) m8 k9 k10 dJ11_resize_346 ?_
    refine s_iinc (v := (p7 + 1)) (lv' := [(0, va_rf (some x)), (1, va_rf p1), (2, .int p2), (3, .int p3), (4, .int p4), (5, .int p5), (6, va_rf p6), (7, .int (p7 + 1)), (8, va_rf p8), (9, va_rf p9), (10, va_rf p10), (11, va_rf p11), (12, va_rf p12), (13, va_rf p13)]) (cat_R (cat_R (cat_I (cat_I (cat_I (cat_I (cat_R (cat_I (cat_R (cat_R (cat_R (cat_R (cat_R (cat_R cat_nil)))))))))))))) dJ11_resize_347 (k0 := 7) rfl rfl (by decide) rfl [1, 2, 3, 4, 5, 6, 7, 0, 8, 9, 10, 11, 12, 13] rfl ?_
    refine g_goto 151 dJ11_resize_350 (by decide) ?_
    refine GW.lsub (lv' := [(0, va_rf (some x)), (1, va_rf p1), (2, .int p2), (3, .int p3), (4, .int p4), (5, .int p5), (6, va_rf p6), (7, .int (p7 + 1))]) [0, 1, 2, 3, 4, 5, 6, 7] rfl ?_
    exact F
theorem rJ11_replacementNode_0 {Γ : GE} {l : Launch} {h MC MS : Nat} {Q : Option Value → GH → Prop} {bc bs : Nat} {G : GH} (x : Nat) (p1 : Option Nat) (p2 : Option Nat) (F : (1 ≤ bc ∧ 4 ≤ bs ∧ ∀ q1, gC G q1 = 0 → gA Γ q1 → ∃ a6, p1 = some a6 ∧ (gC (nO G q1 12) a6 = kO 12 ∨ gC (nO G q1 12) a6 = kO 13) ∧ cV Γ l h mJ16_init [.ref q1, .int (ndI (nO G q1 12) a6 0), va_rf (ndR (nO G q1 12) a6 1), va_rf (ndR (nO G q1 12) a6 2), va_rf p2] (nO G q1 12) (bc - 1) (bs - 4) fun Gr9 br9 sr9 => Q (some (va_rf (some q1))) Gr9)) : GW Γ l mJ11_replacementNode h MC MS Q 0 [(0, va_rf (some x)), (1, va_rf p1), (2, va_rf p2)] [] G bc bs := by
  obtain ⟨k3, F⟩ := F
  obtain ⟨k4, F⟩ := F
  refine g_new (C := RJ16) (T := TJ16) (N := 4) 12 rfl in_J16 tyJ16_ok nd_J16 q681 q697 q129 k3 k4 dJ11_replacementNode_0 (fun q1 z2 z2' => ?_)
  have F := F q1 z2 z2'
  refine g_dup dJ11_replacementNode_3 (va_rf_cat _) ?_
  refine g_aload_n dJ11_replacementNode_4 rfl 1 rfl ?_
  obtain ⟨a6, e7, F⟩ := F
  obtain ⟨c8, F⟩ := F
  refine h_getNDI 0 (by decide) q705 e7 c8 dJ11_replacementNode_5 ?_
  refine g_aload_n dJ11_replacementNode_8 rfl 1 rfl ?_
  refine h_getNDR 1 (by decide) q709 e7 c8 dJ11_replacementNode_9 ?_
  refine g_aload_n dJ11_replacementNode_12 rfl 1 rfl ?_
  refine h_getNDR 2 (by decide) q711 e7 c8 dJ11_replacementNode_13 ?_
  refine g_aload_n dJ11_replacementNode_16 rfl 2 rfl ?_
  refine h_callIV (As := [.int (ndI (nO G q1 12) a6 0), va_rf (ndR (nO G q1 12) a6 1), va_rf (ndR (nO G q1 12) a6 2), va_rf p2]) (rest := [va_rf (some q1)]) F 4 rfl rfl (lw_meth q700) q129 q698 q699 rfl vm_J16_init.2 (by decide) rfl rfl (room_of (sc_R sc_nil) (Nat.le_of_ble_eq_true rfl)) dJ11_replacementNode_17 (fun Gr9 br9 sr9 F => ?_)
  exact g_aret (r := (some q1)) rfl (Or.inl ⟨_, rfl⟩) dJ11_replacementNode_20 F
theorem rJ11_comparableClassFor_0 {Γ : GE} {l : Launch} {h MC MS : Nat} {Q : Option Value → GH → Prop} {bc bs : Nat} {G : GH} (p0 : Option Nat) (F : (∃ b1, okInst G p0 "java/lang/Comparable" b1 ∧ ((b1 = 0 → (Q (some (va_rf none)) G)) ∧ (¬ b1 = 0 → (False))))) : GW Γ l mJ11_comparableClassFor h MC MS Q 0 [(0, va_rf p0)] [] G bc bs := by
  refine g_aload_n dJ11_comparableClassFor_0 rfl 0 rfl ?_
  obtain ⟨b1, e2, F⟩ := F
  refine h_inst q734 e2 dJ11_comparableClassFor_1 ?_
  refine g_if_eq 113 dJ11_comparableClassFor_4 (by decide) (fun h3 => ?_) (fun h3 => ?_)
  · have F := F.1 h3
    refine g_null dJ11_comparableClassFor_113 ?_
    exact g_aret (r := none) rfl (Or.inl ⟨_, rfl⟩) dJ11_comparableClassFor_114 F
  · have F := F.2 h3
    refine g_aload_n dJ11_comparableClassFor_7 rfl 0 rfl ?_
    exact F.elim
theorem rJ11_compareComparables_0 {Γ : GE} {l : Launch} {h MC MS : Nat} {Q : Option Value → GH → Prop} {bc bs : Nat} {G : GH} (p0 : Option Nat) (p1 : Option Nat) (p2 : Option Nat) (F : ((p2 = none → (Q (some (.int 0)) G)) ∧ (∀ a1, p2 = some a1 → (False)))) : GW Γ l mJ11_compareComparables h MC MS Q 0 [(0, va_rf p0), (1, va_rf p1), (2, va_rf p2)] [] G bc bs := by
  refine g_aload_n dJ11_compareComparables_0 rfl 2 rfl ?_
  refine g_ifnull 12 dJ11_compareComparables_1 (by decide) (fun e2 => ?_) (fun a1 e2 => ?_)
  · have F := F.1 e2
    refine g_iconst (v := 0) dJ11_compareComparables_12 (by decide) ?_
    refine g_goto 26 dJ11_compareComparables_13 (by decide) ?_
    exact g_iret rfl dJ11_compareComparables_26 F
  · have F := F.2 a1 e2
    refine g_aload_n dJ11_compareComparables_4 rfl 2 rfl ?_
    exact F.elim
theorem rJ11_newNode_0 {Γ : GE} {l : Launch} {h MC MS : Nat} {Q : Option Value → GH → Prop} {bc bs : Nat} {G : GH} (x : Nat) (p1 : Int32) (p2 : Option Nat) (p3 : Option Nat) (p4 : Option Nat) (F : (1 ≤ bc ∧ 4 ≤ bs ∧ ∀ q1, gC G q1 = 0 → gA Γ q1 → cV Γ l h mJ16_init [.ref q1, .int p1, va_rf p2, va_rf p3, va_rf p4] (nO G q1 12) (bc - 1) (bs - 4) fun Gr6 br6 sr6 => Q (some (va_rf (some q1))) Gr6)) : GW Γ l mJ11_newNode h MC MS Q 0 [(0, va_rf (some x)), (1, .int p1), (2, va_rf p2), (3, va_rf p3), (4, va_rf p4)] [] G bc bs := by
  obtain ⟨k3, F⟩ := F
  obtain ⟨k4, F⟩ := F
  refine g_new (C := RJ16) (T := TJ16) (N := 4) 12 rfl in_J16 tyJ16_ok nd_J16 q681 q697 q129 k3 k4 dJ11_newNode_0 (fun q1 z2 z2' => ?_)
  have F := F q1 z2 z2'
  refine g_dup dJ11_newNode_3 (va_rf_cat _) ?_
  refine g_iload_n dJ11_newNode_4 rfl 1 rfl ?_
  refine g_aload_n dJ11_newNode_5 rfl 2 rfl ?_
  refine g_aload_n dJ11_newNode_6 rfl 3 rfl ?_
  refine g_aload dJ11_newNode_7 4 rfl ?_
  refine h_callIV (As := [.int p1, va_rf p2, va_rf p3, va_rf p4]) (rest := [va_rf (some q1)]) F 4 rfl rfl (lw_meth q700) q129 q698 q699 rfl vm_J16_init.2 (by decide) rfl rfl (room_of (sc_R sc_nil) (Nat.le_of_ble_eq_true rfl)) dJ11_newNode_9 (fun Gr6 br6 sr6 F => ?_)
  exact g_aret (r := (some q1)) rfl (Or.inl ⟨_, rfl⟩) dJ11_newNode_12 F
theorem rJ11_newTreeNode_0 {Γ : GE} {l : Launch} {h MC MS : Nat} {Q : Option Value → GH → Prop} {bc bs : Nat} {G : GH} (x : Nat) (p1 : Int32) (p2 : Option Nat) (p3 : Option Nat) (p4 : Option Nat) (F : (1 ≤ bc ∧ 11 ≤ bs ∧ ∀ q1, gC G q1 = 0 → gA Γ q1 → cV Γ l h mJ21_init [.ref q1, .int p1, va_rf p2, va_rf p3, va_rf p4] (nO G q1 13) (bc - 1) (bs - 11) fun Gr6 br6 sr6 => Q (some (va_rf (some q1))) Gr6)) : GW Γ l mJ11_newTreeNode h MC MS Q 0 [(0, va_rf (some x)), (1, .int p1), (2, va_rf p2), (3, va_rf p3), (4, va_rf p4)] [] G bc bs := by
  obtain ⟨k3, F⟩ := F
  obtain ⟨k4, F⟩ := F
  refine g_new (C := RJ21) (T := TJ21) (N := 11) 13 rfl in_J21 tyJ21_ok nd_J21 q683 q998 q136 k3 k4 dJ11_newTreeNode_0 (fun q1 z2 z2' => ?_)
  have F := F q1 z2 z2'
  refine g_dup dJ11_newTreeNode_3 (va_rf_cat _) ?_
  refine g_iload_n dJ11_newTreeNode_4 rfl 1 rfl ?_
  refine g_aload_n dJ11_newTreeNode_5 rfl 2 rfl ?_
  refine g_aload_n dJ11_newTreeNode_6 rfl 3 rfl ?_
  refine g_aload dJ11_newTreeNode_7 4 rfl ?_
  refine h_callIV (As := [.int p1, va_rf p2, va_rf p3, va_rf p4]) (rest := [va_rf (some q1)]) F 4 rfl rfl (lw_meth q1001) q136 q999 q1000 rfl vm_J21_init.2 (by decide) rfl rfl (room_of (sc_R sc_nil) (Nat.le_of_ble_eq_true rfl)) dJ11_newTreeNode_9 (fun Gr6 br6 sr6 F => ?_)
  exact g_aret (r := (some q1)) rfl (Or.inl ⟨_, rfl⟩) dJ11_newTreeNode_12 F
theorem rJ11_treeifyBin_0 {Γ : GE} {l : Launch} {h MC MS : Nat} {Q : Option Value → GH → Prop} {bc bs : Nat} {G : GH} (x : Nat) (p1 : Option Nat) (p2 : Int32) (F : ((p1 = none → (gC G x = kO 11 ∧ cR Γ l h mJ11_resize [.ref x] G bc bs fun r3 Gr3 br3 sr3 => Q none Gr3)) ∧ (∀ a1, p1 = some a1 → (gC G a1 = kA 7 ∧ (((64 : Int32) ≤ (nI (gL G a1)) → (gM G a1 = true ∧ vp_in (((nI (gL G a1)) - 1) &&& p2) (gL G a1) ∧ (((gR G a1 (((nI (gL G a1)) - 1) &&& p2).toNatClampNeg) = none → (Q none G)) ∧ (∀ a9, (gR G a1 (((nI (gL G a1)) - 1) &&& p2).toNatClampNeg) = some a9 → (GW Γ l mJ11_treeifyBin h MC MS Q 43 [(0, va_rf (some x)), (1, va_rf p1), (2, .int p2), (3, .int (nI (gL G a1))), (4, .int (((nI (gL G a1)) - 1) &&& p2)), (5, va_rf (gR G a1 (((nI (gL G a1)) - 1) &&& p2).toNatClampNeg)), (6, va_rf none), (7, va_rf none)] [] G bc bs))))) ∧ (¬ (64 : Int32) ≤ (nI (gL G a1)) → (gC G x = kO 11 ∧ cR Γ l h mJ11_resize [.ref x] G bc bs fun r11 Gr11 br11 sr11 => Q none Gr11))))))) : GW Γ l mJ11_treeifyBin h MC MS Q 0 [(0, va_rf (some x)), (1, va_rf p1), (2, .int p2)] [] G bc bs := by
  refine g_aload_n dJ11_treeifyBin_0 rfl 1 rfl ?_
  refine g_ifnull 13 dJ11_treeifyBin_1 (by decide) (fun e2 => ?_) (fun a1 e2 => ?_)
  · have F := F.1 e2
    refine g_aload_n dJ11_treeifyBin_13 rfl 0 rfl ?_
    obtain ⟨c4, F⟩ := F
    refine h_callVR (ci := 11) (C := RJ11) (T := TJ11) (N := 8) (As := []) (rest := []) F 0 rfl rfl (lw_V q674 q675 q676 q123 q677) vm_J11_resize (by decide) rfl c4 rfl (room_of sc_nil (Nat.le_of_ble_eq_true rfl)) dJ11_treeifyBin_14 (fun r3 Gr3 br3 sr3 F => ?_)
    refine g_pop dJ11_treeifyBin_17 (va_rf_cat _) ?_
    refine g_goto 109 dJ11_treeifyBin_18 (by decide) ?_
    exact g_vret rfl dJ11_treeifyBin_109 F
  · have F := F.2 a1 e2
    refine g_aload_n dJ11_treeifyBin_4 rfl 1 rfl ?_
    obtain ⟨c6, F⟩ := F
    refine h_alen 7 e2 c6 (by decide) dJ11_treeifyBin_5 ?_
    refine g_dup dJ11_treeifyBin_6 rfl ?_
    refine s_istore_n (lv' := [(0, va_rf (some x)), (1, va_rf p1), (2, .int p2), (3, .int (nI (gL G a1)))]) (cat_R (cat_R (cat_I cat_nil))) dJ11_treeifyBin_7 rfl (by decide) rfl [1, 2, 3, 0] rfl ?_
    refine g_bipush (v := 64) dJ11_treeifyBin_8 (by decide) ?_
    refine g_icmp_ge 21 dJ11_treeifyBin_10 (by decide) (fun h14 => ?_) (fun h14 => ?_)
    · have F := F.1 h14
      refine g_aload_n dJ11_treeifyBin_21 rfl 1 rfl ?_
      refine g_iload_n dJ11_treeifyBin_22 rfl 3 rfl ?_
      refine g_iconst (v := 1) dJ11_treeifyBin_23 (by decide) ?_
      refine g_isub dJ11_treeifyBin_24 ?_
      refine g_iload_n dJ11_treeifyBin_25 rfl 2 rfl ?_
      refine g_iand dJ11_treeifyBin_26 ?_
      refine g_dup dJ11_treeifyBin_27 rfl ?_
      refine s_istore (lv' := [(0, va_rf (some x)), (1, va_rf p1), (2, .int p2), (3, .int (nI (gL G a1))), (4, .int (((nI (gL G a1)) - 1) &&& p2))]) (cat_R (cat_R (cat_I (cat_I cat_nil)))) dJ11_treeifyBin_28 (by decide) rfl [1, 2, 3, 4, 0] rfl ?_
      obtain ⟨m7, F⟩ := F
      obtain ⟨k8, F⟩ := F
      refine h_aald 7 e2 c6 (by decide) (by decide) m7 k8 dJ11_treeifyBin_30 ?_
      refine g_dup dJ11_treeifyBin_31 (va_rf_cat _) ?_
      refine s_astore (lv' := [(0, va_rf (some x)), (1, va_rf p1), (2, .int p2), (3, .int (nI (gL G a1))), (4, .int (((nI (gL G a1)) - 1) &&& p2)), (5, va_rf (gR G a1 (((nI (gL G a1)) - 1) &&& p2).toNatClampNeg))]) (cat_R (cat_R (cat_I (cat_I (cat_I cat_nil))))) dJ11_treeifyBin_32 (by decide) rfl [1, 2, 3, 4, 5, 0] rfl ?_
      refine g_ifnull 109 dJ11_treeifyBin_34 (by decide) (fun e10 => ?_) (fun a9 e10 => ?_)
      · have F := F.1 e10
        exact g_vret rfl dJ11_treeifyBin_109 F
      · have F := F.2 a9 e10
        refine g_null dJ11_treeifyBin_37 ?_
        refine s_astore (lv' := [(0, va_rf (some x)), (1, va_rf p1), (2, .int p2), (3, .int (nI (gL G a1))), (4, .int (((nI (gL G a1)) - 1) &&& p2)), (5, va_rf (gR G a1 (((nI (gL G a1)) - 1) &&& p2).toNatClampNeg)), (6, va_rf none)]) (cat_R (cat_R (cat_I (cat_I (cat_I (cat_R cat_nil)))))) dJ11_treeifyBin_38 (by decide) rfl [1, 2, 3, 4, 5, 6, 0] rfl ?_
        refine g_null dJ11_treeifyBin_40 ?_
        refine s_astore (lv' := [(0, va_rf (some x)), (1, va_rf p1), (2, .int p2), (3, .int (nI (gL G a1))), (4, .int (((nI (gL G a1)) - 1) &&& p2)), (5, va_rf (gR G a1 (((nI (gL G a1)) - 1) &&& p2).toNatClampNeg)), (6, va_rf none), (7, va_rf none)]) (cat_R (cat_R (cat_I (cat_I (cat_I (cat_R (cat_R cat_nil))))))) dJ11_treeifyBin_41 (by decide) rfl [1, 2, 3, 4, 5, 6, 7, 0] rfl ?_
        exact F
    · have F := F.2 h14
      refine g_aload_n dJ11_treeifyBin_13 rfl 0 rfl ?_
      obtain ⟨c12, F⟩ := F
      refine h_callVR (ci := 11) (C := RJ11) (T := TJ11) (N := 8) (As := []) (rest := []) F 0 rfl rfl (lw_V q674 q675 q676 q123 q677) vm_J11_resize (by decide) rfl c12 rfl (room_of sc_nil (Nat.le_of_ble_eq_true rfl)) dJ11_treeifyBin_14 (fun r11 Gr11 br11 sr11 F => ?_)
      refine g_pop dJ11_treeifyBin_17 (va_rf_cat _) ?_
      refine g_goto 109 dJ11_treeifyBin_18 (by decide) ?_
      exact g_vret rfl dJ11_treeifyBin_109 F
theorem rJ11_treeifyBin_43 {Γ : GE} {l : Launch} {h MC MS : Nat} {Q : Option Value → GH → Prop} {bc bs : Nat} {G : GH} (x : Nat) (p1 : Option Nat) (p2 : Int32) (p3 : Int32) (p4 : Int32) (p5 : Option Nat) (p6 : Option Nat) (p7 : Option Nat) (F : (gC G x = kO 11 ∧ cR Γ l h mJ11_replacementTreeNode [.ref x, va_rf p5, va_rf none] G bc bs fun r1 Gr1 br1 sr1 => ((∀ a4, p7 = some a4 → (∃ a6, r1 = some a6 ∧ gC Gr1 a6 = kO 13 ∧ gM Gr1 a6 = true ∧ gC (sR Gr1 a6 9 p7) a4 = kO 13 ∧ gM (sR Gr1 a6 9 p7) a4 = true ∧ GW Γ l mJ11_treeifyBin h MC MS Q 78 [(0, va_rf (some x)), (1, va_rf p1), (2, .int p2), (3, .int p3), (4, .int p4), (5, va_rf p5), (6, va_rf p6), (7, va_rf p7), (8, va_rf r1)] [] (sR (sR Gr1 a6 9 p7) a4 5 r1) br1 sr1)) ∧ (p7 = none → (GW Γ l mJ11_treeifyBin h MC MS Q 78 [(0, va_rf (some x)), (1, va_rf p1), (2, .int p2), (3, .int p3), (4, .int p4), (5, va_rf p5), (6, va_rf r1), (7, va_rf p7), (8, va_rf r1)] [] Gr1 br1 sr1))))) : GW Γ l mJ11_treeifyBin h MC MS Q 43 [(0, va_rf (some x)), (1, va_rf p1), (2, .int p2), (3, .int p3), (4, .int p4), (5, va_rf p5), (6, va_rf p6), (7, va_rf p7)] [] G bc bs := by
  refine g_aload_n dJ11_treeifyBin_43 rfl 0 rfl ?_
  refine g_aload dJ11_treeifyBin_44 5 rfl ?_
  refine g_null dJ11_treeifyBin_46 ?_
  obtain ⟨c2, F⟩ := F
  refine h_callVR (ci := 11) (C := RJ11) (T := TJ11) (N := 8) (As := [va_rf p5, va_rf none]) (rest := []) F 2 rfl rfl (lw_V q1035 q1036 q1037 q123 q1038) vm_J11_replacementTreeNode (by decide) rfl c2 rfl (room_of sc_nil (Nat.le_of_ble_eq_true rfl)) dJ11_treeifyBin_47 (fun r1 Gr1 br1 sr1 F => ?_)
  refine s_astore (lv' := [(0, va_rf (some x)), (1, va_rf p1), (2, .int p2), (3, .int p3), (4, .int p4), (5, va_rf p5), (6, va_rf p6), (7, va_rf p7), (8, va_rf r1)]) (cat_R (cat_R (cat_I (cat_I (cat_I (cat_R (cat_R (cat_R cat_nil)))))))) dJ11_treeifyBin_50 (by decide) rfl [1, 2, 3, 4, 5, 6, 7, 8, 0] rfl ?_
  refine g_aload dJ11_treeifyBin_52 7 rfl ?_
  refine g_ifnonnull 64 dJ11_treeifyBin_54 (by decide) (fun a4 e5 => ?_) (fun e5 => ?_)
  · have F := F.1 a4 e5
    refine g_aload dJ11_treeifyBin_64 8 rfl ?_
    refine g_aload dJ11_treeifyBin_66 7 rfl ?_
    obtain ⟨a6, e7, F⟩ := F
    obtain ⟨c8, F⟩ := F
    obtain ⟨m9, F⟩ := F
    refine h_putR (mi := mJ11_treeifyBin) 13 9 (C := RJ21) (T := TJ21) (N := 11) rfl in_J21 tyJ21_ok nmJ21 (by decide) q1010 (Or.inl rfl) (Or.inl rfl) rfl rfl e7 c8 m9 dJ11_treeifyBin_68 ?_
    refine g_aload dJ11_treeifyBin_71 7 rfl ?_
    refine g_aload dJ11_treeifyBin_73 8 rfl ?_
    obtain ⟨c10, F⟩ := F
    obtain ⟨m11, F⟩ := F
    refine h_putR (mi := mJ11_treeifyBin) 13 5 (C := RJ21) (T := TJ21) (N := 11) rfl in_J21 tyJ21_ok nmJ21 (by decide) q717 (Or.inr q714) (Or.inl rfl) rfl rfl e5 c10 m11 dJ11_treeifyBin_75 ?_
    exact F
  · have F := F.2 e5
    refine g_aload dJ11_treeifyBin_57 8 rfl ?_
    refine s_astore (lv' := [(0, va_rf (some x)), (1, va_rf p1), (2, .int p2), (3, .int p3), (4, .int p4), (5, va_rf p5), (6, va_rf r1), (7, va_rf p7), (8, va_rf r1)]) (cat_R (cat_R (cat_I (cat_I (cat_I (cat_R (cat_R (cat_R (cat_R cat_nil))))))))) dJ11_treeifyBin_59 (by decide) rfl [1, 2, 3, 4, 5, 6, 0, 7, 8] rfl ?_
    refine g_goto 78 dJ11_treeifyBin_61 (by decide) ?_
    exact F
theorem rJ11_treeifyBin_78 {Γ : GE} {l : Launch} {h MC MS : Nat} {Q : Option Value → GH → Prop} {bc bs : Nat} {G : GH} (x : Nat) (p1 : Option Nat) (p2 : Int32) (p3 : Int32) (p4 : Int32) (p5 : Option Nat) (p6 : Option Nat) (p7 : Option Nat) (p8 : Option Nat) (F : (∃ a1, p5 = some a1 ∧ (gC G a1 = kO 12 ∨ gC G a1 = kO 13) ∧ ((∀ a4, (ndR G a1 3) = some a4 → (GW Γ l mJ11_treeifyBin h MC MS Q 43 [(0, va_rf (some x)), (1, va_rf p1), (2, .int p2), (3, .int p3), (4, .int p4), (5, va_rf (ndR G a1 3)), (6, va_rf p6), (7, va_rf p8)] [] G bc bs)) ∧ ((ndR G a1 3) = none → (∃ a6, p1 = some a6 ∧ gC G a6 = kA 7 ∧ gM G a6 = true ∧ vp_in p4 (gL G a6) ∧ okS G 7 p6 ∧ ((p6 = none → (Q none (sR G a6 p4.toNatClampNeg p6))) ∧ (∀ a12, p6 = some a12 → (gC (sR G a6 p4.toNatClampNeg p6) a12 = kO 13 ∧ cV Γ l h mJ21_treeify [.ref a12, va_rf p1] (sR G a6 p4.toNatClampNeg p6) bc bs fun Gr14 br14 sr14 => Q none Gr14)))))))) : GW Γ l mJ11_treeifyBin h MC MS Q 78 [(0, va_rf (some x)), (1, va_rf p1), (2, .int p2), (3, .int p3), (4, .int p4), (5, va_rf p5), (6, va_rf p6), (7, va_rf p7), (8, va_rf p8)] [] G bc bs := by
  refine g_aload dJ11_treeifyBin_78 8 rfl ?_
  refine s_astore (lv' := [(0, va_rf (some x)), (1, va_rf p1), (2, .int p2), (3, .int p3), (4, .int p4), (5, va_rf p5), (6, va_rf p6), (7, va_rf p8), (8, va_rf p8)]) (cat_R (cat_R (cat_I (cat_I (cat_I (cat_R (cat_R (cat_R (cat_R cat_nil))))))))) dJ11_treeifyBin_80 (by decide) rfl [1, 2, 3, 4, 5, 6, 7, 0, 8] rfl ?_
  refine g_aload dJ11_treeifyBin_82 5 rfl ?_
  obtain ⟨a1, e2, F⟩ := F
  obtain ⟨c3, F⟩ := F
  refine h_getNDR 3 (by decide) q716 e2 c3 dJ11_treeifyBin_84 ?_
  refine g_dup dJ11_treeifyBin_87 (va_rf_cat _) ?_
  refine s_astore (lv' := [(0, va_rf (some x)), (1, va_rf p1), (2, .int p2), (3, .int p3), (4, .int p4), (5, va_rf (ndR G a1 3)), (6, va_rf p6), (7, va_rf p8), (8, va_rf p8)]) (cat_R (cat_R (cat_I (cat_I (cat_I (cat_R (cat_R (cat_R (cat_R cat_nil))))))))) dJ11_treeifyBin_88 (by decide) rfl [1, 2, 3, 4, 5, 0, 6, 7, 8] rfl ?_
  refine g_ifnonnull 43 dJ11_treeifyBin_90 (by decide) (fun a4 e5 => ?_) (fun e5 => ?_)
  · have F := F.1 a4 e5
    refine GW.lsub (lv' := [(0, va_rf (some x)), (1, va_rf p1), (2, .int p2), (3, .int p3), (4, .int p4), (5, va_rf (ndR G a1 3)), (6, va_rf p6), (7, va_rf p8)]) [0, 1, 2, 3, 4, 5, 6, 7] rfl ?_
    exact F
  · have F := F.2 e5
    refine g_aload_n dJ11_treeifyBin_93 rfl 1 rfl ?_
    refine g_iload dJ11_treeifyBin_94 4 rfl ?_
    refine g_aload dJ11_treeifyBin_96 6 rfl ?_
    refine g_dup_x2 dJ11_treeifyBin_98 (va_rf_cat _) rfl (va_rf_cat _) ?_
    obtain ⟨a6, e7, F⟩ := F
    obtain ⟨c8, F⟩ := F
    obtain ⟨m9, F⟩ := F
    obtain ⟨k10, F⟩ := F
    obtain ⟨k11, F⟩ := F
    refine h_aast 7 e7 c8 (by decide) (by decide) m9 k10 k11 dJ11_treeifyBin_99 ?_
    refine g_ifnull 109 dJ11_treeifyBin_100 (by decide) (fun e13 => ?_) (fun a12 e13 => ?_)
    · have F := F.1 e13
      exact g_vret rfl dJ11_treeifyBin_109 F
    · have F := F.2 a12 e13
      refine g_aload dJ11_treeifyBin_103 6 rfl ?_
      refine g_aload_n dJ11_treeifyBin_105 rfl 1 rfl ?_
      obtain ⟨c15, F⟩ := F
      refine h_callVV (ci := 13) (C := RJ21) (T := TJ21) (N := 11) (As := [va_rf p1]) (rest := []) F 1 rfl rfl (lw_V q1039 q728 q729 q136 q730) vm_J21_treeify (by decide) e13 c15 rfl (room_of sc_nil (Nat.le_of_ble_eq_true rfl)) dJ11_treeifyBin_106 (fun Gr14 br14 sr14 F => ?_)
      exact g_vret rfl dJ11_treeifyBin_109 F
theorem rJ11_replacementTreeNode_0 {Γ : GE} {l : Launch} {h MC MS : Nat} {Q : Option Value → GH → Prop} {bc bs : Nat} {G : GH} (x : Nat) (p1 : Option Nat) (p2 : Option Nat) (F : (1 ≤ bc ∧ 11 ≤ bs ∧ ∀ q1, gC G q1 = 0 → gA Γ q1 → ∃ a6, p1 = some a6 ∧ (gC (nO G q1 13) a6 = kO 12 ∨ gC (nO G q1 13) a6 = kO 13) ∧ cV Γ l h mJ21_init [.ref q1, .int (ndI (nO G q1 13) a6 0), va_rf (ndR (nO G q1 13) a6 1), va_rf (ndR (nO G q1 13) a6 2), va_rf p2] (nO G q1 13) (bc - 1) (bs - 11) fun Gr9 br9 sr9 => Q (some (va_rf (some q1))) Gr9)) : GW Γ l mJ11_replacementTreeNode h MC MS Q 0 [(0, va_rf (some x)), (1, va_rf p1), (2, va_rf p2)] [] G bc bs := by
  obtain ⟨k3, F⟩ := F
  obtain ⟨k4, F⟩ := F
  refine g_new (C := RJ21) (T := TJ21) (N := 11) 13 rfl in_J21 tyJ21_ok nd_J21 q683 q998 q136 k3 k4 dJ11_replacementTreeNode_0 (fun q1 z2 z2' => ?_)
  have F := F q1 z2 z2'
  refine g_dup dJ11_replacementTreeNode_3 (va_rf_cat _) ?_
  refine g_aload_n dJ11_replacementTreeNode_4 rfl 1 rfl ?_
  obtain ⟨a6, e7, F⟩ := F
  obtain ⟨c8, F⟩ := F
  refine h_getNDI 0 (by decide) q705 e7 c8 dJ11_replacementTreeNode_5 ?_
  refine g_aload_n dJ11_replacementTreeNode_8 rfl 1 rfl ?_
  refine h_getNDR 1 (by decide) q709 e7 c8 dJ11_replacementTreeNode_9 ?_
  refine g_aload_n dJ11_replacementTreeNode_12 rfl 1 rfl ?_
  refine h_getNDR 2 (by decide) q711 e7 c8 dJ11_replacementTreeNode_13 ?_
  refine g_aload_n dJ11_replacementTreeNode_16 rfl 2 rfl ?_
  refine h_callIV (As := [.int (ndI (nO G q1 13) a6 0), va_rf (ndR (nO G q1 13) a6 1), va_rf (ndR (nO G q1 13) a6 2), va_rf p2]) (rest := [va_rf (some q1)]) F 4 rfl rfl (lw_meth q1001) q136 q999 q1000 rfl vm_J21_init.2 (by decide) rfl rfl (room_of (sc_R sc_nil) (Nat.le_of_ble_eq_true rfl)) dJ11_replacementTreeNode_17 (fun Gr9 br9 sr9 F => ?_)
  exact g_aret (r := (some q1)) rfl (Or.inl ⟨_, rfl⟩) dJ11_replacementTreeNode_20 F
theorem rJ11_afterNodeAccess_0 {Γ : GE} {l : Launch} {h MC MS : Nat} {Q : Option Value → GH → Prop} {bc bs : Nat} {G : GH} (x : Nat) (p1 : Option Nat) (F : (Q none G)) : GW Γ l mJ11_afterNodeAccess h MC MS Q 0 [(0, va_rf (some x)), (1, va_rf p1)] [] G bc bs := by
  exact g_vret rfl dJ11_afterNodeAccess_0 F
theorem rJ11_afterNodeInsertion_0 {Γ : GE} {l : Launch} {h MC MS : Nat} {Q : Option Value → GH → Prop} {bc bs : Nat} {G : GH} (x : Nat) (p1 : Int32) (F : (Q none G)) : GW Γ l mJ11_afterNodeInsertion h MC MS Q 0 [(0, va_rf (some x)), (1, .int p1)] [] G bc bs := by
  exact g_vret rfl dJ11_afterNodeInsertion_0 F
theorem rJ11_containsKey_0 {Γ : GE} {l : Launch} {h MC MS : Nat} {Q : Option Value → GH → Prop} {bc bs : Nat} {G : GH} (x : Nat) (p1 : Option Nat) (F : (gC G x = kO 11 ∧ cR Γ l h mJ11_getNode [.ref x, va_rf p1] G bc bs fun r1 Gr1 br1 sr1 => ((r1 = none → (Q (some (.int 0)) Gr1)) ∧ (∀ a4, r1 = some a4 → (Q (some (.int 1)) Gr1))))) : GW Γ l mJ11_containsKey h MC MS Q 0 [(0, va_rf (some x)), (1, va_rf p1)] [] G bc bs := by
  refine g_aload_n dJ11_containsKey_0 rfl 0 rfl ?_
  refine g_aload_n dJ11_containsKey_1 rfl 1 rfl ?_
  obtain ⟨c2, F⟩ := F
  refine h_callVR (ci := 11) (C := RJ11) (T := TJ11) (N := 8) (As := [va_rf p1]) (rest := []) F 1 rfl rfl (lw_V q1056 q1057 q1058 q123 q1059) vm_J11_getNode (by decide) rfl c2 rfl (room_of sc_nil (Nat.le_of_ble_eq_true rfl)) dJ11_containsKey_2 (fun r1 Gr1 br1 sr1 F => ?_)
  refine g_ifnull 12 dJ11_containsKey_5 (by decide) (fun e5 => ?_) (fun a4 e5 => ?_)
  · have F := F.1 e5
    refine g_iconst (v := 0) dJ11_containsKey_12 (by decide) ?_
    exact g_zret rfl rfl dJ11_containsKey_13 F
  · have F := F.2 a4 e5
    refine g_iconst (v := 1) dJ11_containsKey_8 (by decide) ?_
    refine g_goto 13 dJ11_containsKey_9 (by decide) ?_
    exact g_zret rfl rfl dJ11_containsKey_13 F
theorem rJ11_getNode_0 {Γ : GE} {l : Launch} {h MC MS : Nat} {Q : Option Value → GH → Prop} {bc bs : Nat} {G : GH} (x : Nat) (p1 : Option Nat) (F : (gC G x = kO 11 ∧ (((gR G x 2) = none → (Q (some (va_rf none)) G)) ∧ (∀ a2, (gR G x 2) = some a2 → (gC G a2 = kA 7 ∧ (((nI (gL G a2)) ≤ 0 → (Q (some (va_rf none)) G)) ∧ (¬ (nI (gL G a2)) ≤ 0 → (cI Γ l h mJ11_hash [va_rf p1] G bc bs fun r5 Gr5 br5 sr5 => gC Gr5 a2 = kA 7 ∧ gM Gr5 a2 = true ∧ vp_in (((nI (gL G a2)) - 1) &&& r5) (gL Gr5 a2) ∧ (((gR Gr5 a2 (((nI (gL G a2)) - 1) &&& r5).toNatClampNeg) = none → (Q (some (va_rf none)) Gr5)) ∧ (∀ a10, (gR Gr5 a2 (((nI (gL G a2)) - 1) &&& r5).toNatClampNeg) = some a10 → ((gC Gr5 a10 = kO 12 ∨ gC Gr5 a10 = kO 13) ∧ ((¬ (ndI Gr5 a10 0) = r5 → (GW Γ l mJ11_getNode h MC MS Q 71 [(0, va_rf (some x)), (1, va_rf p1), (2, va_rf (gR G x 2)), (3, va_rf (gR Gr5 a2 (((nI (gL G a2)) - 1) &&& r5).toNatClampNeg)), (5, .int (nI (gL G a2))), (6, .int r5)] [] Gr5 br5 sr5)) ∧ ((ndI Gr5 a10 0) = r5 → (((ndR Gr5 a10 1) = p1 → (Q (some (va_rf (gR Gr5 a2 (((nI (gL G a2)) - 1) &&& r5).toNatClampNeg))) Gr5)) ∧ (¬ (ndR Gr5 a10 1) = p1 → ((p1 = none → (GW Γ l mJ11_getNode h MC MS Q 71 [(0, va_rf (some x)), (1, va_rf p1), (2, va_rf (gR G x 2)), (3, va_rf (gR Gr5 a2 (((nI (gL G a2)) - 1) &&& r5).toNatClampNeg)), (5, .int (nI (gL G a2))), (6, .int r5)] [] Gr5 br5 sr5)) ∧ (∀ a13, p1 = some a13 → (gC Gr5 a13 = kO 5 ∧ cI Γ l h mX3_equals [.ref a13, va_rf (ndR Gr5 a10 1)] Gr5 br5 sr5 fun r15 Gr15 br15 sr15 => ((r15 = 0 → (GW Γ l mJ11_getNode h MC MS Q 71 [(0, va_rf (some x)), (1, va_rf p1), (2, va_rf (gR G x 2)), (3, va_rf (gR Gr5 a2 (((nI (gL G a2)) - 1) &&& r5).toNatClampNeg)), (5, .int (nI (gL G a2))), (6, .int r5)] [] Gr15 br15 sr15)) ∧ (¬ r15 = 0 → (Q (some (va_rf (gR Gr5 a2 (((nI (gL G a2)) - 1) &&& r5).toNatClampNeg))) Gr15))))))))))))))))))))) : GW Γ l mJ11_getNode h MC MS Q 0 [(0, va_rf (some x)), (1, va_rf p1)] [] G bc bs := by
  refine g_aload_n dJ11_getNode_0 rfl 0 rfl ?_
  obtain ⟨c1, F⟩ := F
  refine h_get (v := va_rf (gR G x 2)) 11 2 (C := RJ11) (T := TJ11) (N := 8) rfl in_J11 (by decide) q525 (Or.inl rfl) rfl c1 rfl dJ11_getNode_1 ?_
  refine g_dup dJ11_getNode_4 (va_rf_cat _) ?_
  refine s_astore_n (lv' := [(0, va_rf (some x)), (1, va_rf p1), (2, va_rf (gR G x 2))]) (cat_R (cat_R cat_nil)) dJ11_getNode_5 rfl (by decide) rfl [1, 2, 0] rfl ?_
  refine g_ifnull 148 dJ11_getNode_6 (by decide) (fun e3 => ?_) (fun a2 e3 => ?_)
  · have F := F.1 e3
    refine g_null dJ11_getNode_148 ?_
    exact g_aret (r := none) rfl (Or.inl ⟨_, rfl⟩) dJ11_getNode_149 F
  · have F := F.2 a2 e3
    refine g_aload_n dJ11_getNode_9 rfl 2 rfl ?_
    obtain ⟨c4, F⟩ := F
    refine h_alen 7 e3 c4 (by decide) dJ11_getNode_10 ?_
    refine g_dup dJ11_getNode_11 rfl ?_
    refine s_istore (lv' := [(0, va_rf (some x)), (1, va_rf p1), (2, va_rf (gR G x 2)), (5, .int (nI (gL G a2)))]) (cat_R (cat_R (cat_R cat_nil))) dJ11_getNode_12 (by decide) rfl [1, 2, 3, 0] rfl ?_
    refine g_if_le 148 dJ11_getNode_14 (by decide) (fun h21 => ?_) (fun h21 => ?_)
    · have F := F.1 h21
      refine g_null dJ11_getNode_148 ?_
      exact g_aret (r := none) rfl (Or.inl ⟨_, rfl⟩) dJ11_getNode_149 F
    · have F := F.2 h21
      refine g_aload_n dJ11_getNode_17 rfl 2 rfl ?_
      refine g_iload dJ11_getNode_18 3 rfl ?_
      refine g_iconst (v := 1) dJ11_getNode_20 (by decide) ?_
      refine g_isub dJ11_getNode_21 ?_
      refine g_aload_n dJ11_getNode_22 rfl 1 rfl ?_
      refine h_callSI (As := [va_rf p1]) (rest := [.int ((nI (gL G a2)) - 1), va_rf (gR G x 2)]) F 1 rfl (lw_S q583 q584 q123 q585) vm_J11_hash.2 (by decide) rfl (room_of (sc_I (sc_R sc_nil)) (Nat.le_of_ble_eq_true rfl)) dJ11_getNode_23 (fun r5 Gr5 br5 sr5 F => ?_)
      refine g_dup dJ11_getNode_26 rfl ?_
      refine s_istore (lv' := [(0, va_rf (some x)), (1, va_rf p1), (2, va_rf (gR G x 2)), (5, .int (nI (gL G a2))), (6, .int r5)]) (cat_R (cat_R (cat_R (cat_I cat_nil)))) dJ11_getNode_27 (by decide) rfl [1, 2, 3, 4, 0] rfl ?_
      refine g_iand dJ11_getNode_29 ?_
      obtain ⟨c7, F⟩ := F
      obtain ⟨m8, F⟩ := F
      obtain ⟨k9, F⟩ := F
      refine h_aald 7 e3 c7 (by decide) (by decide) m8 k9 dJ11_getNode_30 ?_
      refine g_dup dJ11_getNode_31 (va_rf_cat _) ?_
      refine s_astore_n (lv' := [(0, va_rf (some x)), (1, va_rf p1), (2, va_rf (gR G x 2)), (3, va_rf (gR Gr5 a2 (((nI (gL G a2)) - 1) &&& r5).toNatClampNeg)), (5, .int (nI (gL G a2))), (6, .int r5)]) (cat_R (cat_R (cat_R (cat_I (cat_I cat_nil))))) dJ11_getNode_32 rfl (by decide) rfl [1, 2, 3, 0, 4, 5] rfl ?_
      refine g_ifnull 148 dJ11_getNode_33 (by decide) (fun e11 => ?_) (fun a10 e11 => ?_)
      · have F := F.1 e11
        refine g_null dJ11_getNode_148 ?_
        exact g_aret (r := none) rfl (Or.inl ⟨_, rfl⟩) dJ11_getNode_149 F
      · have F := F.2 a10 e11
        refine g_aload_n dJ11_getNode_36 rfl 3 rfl ?_
        obtain ⟨c12, F⟩ := F
        refine h_getNDI 0 (by decide) q705 e11 c12 dJ11_getNode_37 ?_
        refine g_iload dJ11_getNode_40 5 rfl ?_
        refine g_icmp_ne 71 dJ11_getNode_42 (by decide) (fun h20 => ?_) (fun h20 => ?_)
        · have F := F.1 h20
          exact F
        · have F := F.2 h20
          refine g_aload_n dJ11_getNode_45 rfl 3 rfl ?_
          refine h_getNDR 1 (by decide) q709 e11 c12 dJ11_getNode_46 ?_
          refine g_dup dJ11_getNode_49 (va_rf_cat _) ?_
          refine s_astore (lv' := [(0, va_rf (some x)), (1, va_rf p1), (2, va_rf (gR G x 2)), (3, va_rf (gR Gr5 a2 (((nI (gL G a2)) - 1) &&& r5).toNatClampNeg)), (5, .int (nI (gL G a2))), (6, .int r5), (7, va_rf (ndR Gr5 a10 1))]) (cat_R (cat_R (cat_R (cat_R (cat_I (cat_I cat_nil)))))) dJ11_getNode_50 (by decide) rfl [1, 2, 3, 4, 5, 6, 0] rfl ?_
          refine g_aload_n dJ11_getNode_52 rfl 1 rfl ?_
          refine g_acmp_eq 69 dJ11_getNode_53 (by decide) (fun h19 => ?_) (fun h19 => ?_)
          · have F := F.1 h19
            refine g_aload_n dJ11_getNode_69 rfl 3 rfl ?_
            exact g_aret (r := (gR Gr5 a2 (((nI (gL G a2)) - 1) &&& r5).toNatClampNeg)) rfl (Or.inl ⟨_, rfl⟩) dJ11_getNode_70 F
          · have F := F.2 h19
            refine g_aload_n dJ11_getNode_56 rfl 1 rfl ?_
            refine g_ifnull 71 dJ11_getNode_57 (by decide) (fun e14 => ?_) (fun a13 e14 => ?_)
            · have F := F.1 e14
              refine GW.lsub (lv' := [(0, va_rf (some x)), (1, va_rf p1), (2, va_rf (gR G x 2)), (3, va_rf (gR Gr5 a2 (((nI (gL G a2)) - 1) &&& r5).toNatClampNeg)), (5, .int (nI (gL G a2))), (6, .int r5)]) [0, 1, 2, 3, 4, 5] rfl ?_
              exact F
            · have F := F.2 a13 e14
              refine g_aload_n dJ11_getNode_60 rfl 1 rfl ?_
              refine g_aload dJ11_getNode_61 6 rfl ?_
              obtain ⟨c16, F⟩ := F
              refine h_callUI (ci := 5) (x := ⟨"java/lang/Object", "equals", "(Ljava/lang/Object;)Z"⟩) (owner := "java/lang/Object") (C := RX3) (T := TX3) (N := 3) (As := [va_rf (ndR Gr5 a10 1)]) (rest := []) F 1 rfl rfl (hasW.all q956) (hasW.all q958) (hasD.de (by decide +kernel)) (hasW.all q964) q965 q126 q966 ⟨by decide +kernel, by decide +kernel, by decide +kernel⟩ (by decide) e14 c16 rfl (room_of sc_nil (Nat.le_of_ble_eq_true rfl)) dJ11_getNode_63 (fun r15 Gr15 br15 sr15 F => ?_)
              refine g_if_eq 71 dJ11_getNode_66 (by decide) (fun h18 => ?_) (fun h18 => ?_)
              · have F := F.1 h18
                refine GW.lsub (lv' := [(0, va_rf (some x)), (1, va_rf p1), (2, va_rf (gR G x 2)), (3, va_rf (gR Gr5 a2 (((nI (gL G a2)) - 1) &&& r5).toNatClampNeg)), (5, .int (nI (gL G a2))), (6, .int r5)]) [0, 1, 2, 3, 4, 5] rfl ?_
                exact F
              · have F := F.2 h18
                refine g_aload_n dJ11_getNode_69 rfl 3 rfl ?_
                exact g_aret (r := (gR Gr5 a2 (((nI (gL G a2)) - 1) &&& r5).toNatClampNeg)) rfl (Or.inl ⟨_, rfl⟩) dJ11_getNode_70 F
theorem rJ11_getNode_71 {Γ : GE} {l : Launch} {h MC MS : Nat} {Q : Option Value → GH → Prop} {bc bs : Nat} {G : GH} (x : Nat) (p1 : Option Nat) (p2 : Option Nat) (p3 : Option Nat) (p5 : Int32) (p6 : Int32) (F : (∃ a1, p3 = some a1 ∧ (gC G a1 = kO 12 ∨ gC G a1 = kO 13) ∧ (((ndR G a1 3) = none → (Q (some (va_rf none)) G)) ∧ (∀ a4, (ndR G a1 3) = some a4 → (∃ b6, okInst G p3 "java/util/HashMap$TreeNode" b6 ∧ ((b6 = 0 → (GW Γ l mJ11_getNode h MC MS Q 99 [(0, va_rf (some x)), (1, va_rf p1), (2, va_rf p2), (3, va_rf p3), (4, va_rf (ndR G a1 3)), (5, .int p5), (6, .int p6)] [] G bc bs)) ∧ (¬ b6 = 0 → (okCast G p3 "java/util/HashMap$TreeNode" ∧ gC G a1 = kO 13 ∧ cR Γ l h mJ21_getTreeNode [.ref a1, .int p6, va_rf p1] G bc bs fun r9 Gr9 br9 sr9 => Q (some (va_rf r9)) Gr9)))))))) : GW Γ l mJ11_getNode h MC MS Q 71 [(0, va_rf (some x)), (1, va_rf p1), (2, va_rf p2), (3, va_rf p3), (5, .int p5), (6, .int p6)] [] G bc bs := by
  refine g_aload_n dJ11_getNode_71 rfl 3 rfl ?_
  obtain ⟨a1, e2, F⟩ := F
  obtain ⟨c3, F⟩ := F
  refine h_getNDR 3 (by decide) q716 e2 c3 dJ11_getNode_72 ?_
  refine g_dup dJ11_getNode_75 (va_rf_cat _) ?_
  refine s_astore (lv' := [(0, va_rf (some x)), (1, va_rf p1), (2, va_rf p2), (3, va_rf p3), (4, va_rf (ndR G a1 3)), (5, .int p5), (6, .int p6)]) (cat_R (cat_R (cat_R (cat_R (cat_I (cat_I cat_nil)))))) dJ11_getNode_76 (by decide) rfl [1, 2, 3, 4, 0, 5, 6] rfl ?_
  refine g_ifnull 148 dJ11_getNode_78 (by decide) (fun e5 => ?_) (fun a4 e5 => ?_)
  · have F := F.1 e5
    refine g_null dJ11_getNode_148 ?_
    exact g_aret (r := none) rfl (Or.inl ⟨_, rfl⟩) dJ11_getNode_149 F
  · have F := F.2 a4 e5
    refine g_aload_n dJ11_getNode_81 rfl 3 rfl ?_
    obtain ⟨b6, e7, F⟩ := F
    refine h_inst q683 e7 dJ11_getNode_82 ?_
    refine g_if_eq 99 dJ11_getNode_85 (by decide) (fun h12 => ?_) (fun h12 => ?_)
    · have F := F.1 h12
      exact F
    · have F := F.2 h12
      refine g_aload_n dJ11_getNode_88 rfl 3 rfl ?_
      obtain ⟨k8, F⟩ := F
      refine h_castO q683 k8 dJ11_getNode_89 ?_
      refine g_iload dJ11_getNode_92 6 rfl ?_
      refine g_aload_n dJ11_getNode_94 rfl 1 rfl ?_
      obtain ⟨c10, F⟩ := F
      refine h_callVR (ci := 13) (C := RJ21) (T := TJ21) (N := 11) (As := [.int p6, va_rf p1]) (rest := []) F 2 rfl rfl (lw_V q1060 q1061 q1062 q136 q1063) vm_J21_getTreeNode (by decide) e2 c10 rfl (room_of sc_nil (Nat.le_of_ble_eq_true rfl)) dJ11_getNode_95 (fun r9 Gr9 br9 sr9 F => ?_)
      exact g_aret (r := r9) rfl (Or.inl ⟨_, rfl⟩) dJ11_getNode_98 F
theorem rJ11_getNode_99 {Γ : GE} {l : Launch} {h MC MS : Nat} {Q : Option Value → GH → Prop} {bc bs : Nat} {G : GH} (x : Nat) (p1 : Option Nat) (p2 : Option Nat) (p3 : Option Nat) (p4 : Option Nat) (p5 : Int32) (p6 : Int32) (F : (∃ a1, p4 = some a1 ∧ (gC G a1 = kO 12 ∨ gC G a1 = kO 13) ∧ ((¬ (ndI G a1 0) = p6 → ((∀ a4, (ndR G a1 3) = some a4 → (GW Γ l mJ11_getNode h MC MS Q 99 [(0, va_rf (some x)), (1, va_rf p1), (2, va_rf p2), (3, va_rf p3), (4, va_rf (ndR G a1 3)), (5, .int p5), (6, .int p6)] [] G bc bs)) ∧ ((ndR G a1 3) = none → (Q (some (va_rf none)) G)))) ∧ ((ndI G a1 0) = p6 → (((ndR G a1 1) = p1 → (Q (some (va_rf p4)) G)) ∧ (¬ (ndR G a1 1) = p1 → ((p1 = none → ((∀ a8, (ndR G a1 3) = some a8 → (GW Γ l mJ11_getNode h MC MS Q 99 [(0, va_rf (some x)), (1, va_rf p1), (2, va_rf p2), (3, va_rf p3), (4, va_rf (ndR G a1 3)), (5, .int p5), (6, .int p6)] [] G bc bs)) ∧ ((ndR G a1 3) = none → (Q (some (va_rf none)) G)))) ∧ (∀ a6, p1 = some a6 → (gC G a6 = kO 5 ∧ cI Γ l h mX3_equals [.ref a6, va_rf (ndR G a1 1)] G bc bs fun r10 Gr10 br10 sr10 => ((r10 = 0 → ((gC Gr10 a1 = kO 12 ∨ gC Gr10 a1 = kO 13) ∧ ((∀ a14, (ndR Gr10 a1 3) = some a14 → (GW Γ l mJ11_getNode h MC MS Q 99 [(0, va_rf (some x)), (1, va_rf p1), (2, va_rf p2), (3, va_rf p3), (4, va_rf (ndR Gr10 a1 3)), (5, .int p5), (6, .int p6)] [] Gr10 br10 sr10)) ∧ ((ndR Gr10 a1 3) = none → (Q (some (va_rf none)) Gr10))))) ∧ (¬ r10 = 0 → (Q (some (va_rf p4)) Gr10)))))))))))) : GW Γ l mJ11_getNode h MC MS Q 99 [(0, va_rf (some x)), (1, va_rf p1), (2, va_rf p2), (3, va_rf p3), (4, va_rf p4), (5, .int p5), (6, .int p6)] [] G bc bs := by
  refine g_aload dJ11_getNode_99 4 rfl ?_
  obtain ⟨a1, e2, F⟩ := F
  obtain ⟨c3, F⟩ := F
  refine h_getNDI 0 (by decide) q705 e2 c3 dJ11_getNode_101 ?_
  refine g_iload dJ11_getNode_104 6 rfl ?_
  refine g_icmp_ne 137 dJ11_getNode_106 (by decide) (fun h18 => ?_) (fun h18 => ?_)
  · have F := F.1 h18
    refine g_aload dJ11_getNode_137 4 rfl ?_
    refine h_getNDR 3 (by decide) q716 e2 c3 dJ11_getNode_139 ?_
    refine g_dup dJ11_getNode_142 (va_rf_cat _) ?_
    refine s_astore (lv' := [(0, va_rf (some x)), (1, va_rf p1), (2, va_rf p2), (3, va_rf p3), (4, va_rf (ndR G a1 3)), (5, .int p5), (6, .int p6)]) (cat_R (cat_R (cat_R (cat_R (cat_R (cat_I (cat_I cat_nil))))))) dJ11_getNode_143 (by decide) rfl [1, 2, 3, 4, 0, 5, 6] rfl ?_
    refine g_ifnonnull 99 dJ11_getNode_145 (by decide) (fun a4 e5 => ?_) (fun e5 => ?_)
    · have F := F.1 a4 e5
      exact F
    · have F := F.2 e5
      refine g_null dJ11_getNode_148 ?_
      exact g_aret (r := none) rfl (Or.inl ⟨_, rfl⟩) dJ11_getNode_149 F
  · have F := F.2 h18
    refine g_aload dJ11_getNode_109 4 rfl ?_
    refine h_getNDR 1 (by decide) q709 e2 c3 dJ11_getNode_111 ?_
    refine g_dup dJ11_getNode_114 (va_rf_cat _) ?_
    refine s_astore (lv' := [(0, va_rf (some x)), (1, va_rf p1), (2, va_rf p2), (3, va_rf p3), (4, va_rf p4), (5, .int p5), (6, .int p6), (7, va_rf (ndR G a1 1))]) (cat_R (cat_R (cat_R (cat_R (cat_R (cat_I (cat_I cat_nil))))))) dJ11_getNode_115 (by decide) rfl [1, 2, 3, 4, 5, 6, 7, 0] rfl ?_
    refine g_aload_n dJ11_getNode_117 rfl 1 rfl ?_
    refine g_acmp_eq 134 dJ11_getNode_118 (by decide) (fun h17 => ?_) (fun h17 => ?_)
    · have F := F.1 h17
      refine g_aload dJ11_getNode_134 4 rfl ?_
      exact g_aret (r := p4) rfl (Or.inl ⟨_, rfl⟩) dJ11_getNode_136 F
    · have F := F.2 h17
      refine g_aload_n dJ11_getNode_121 rfl 1 rfl ?_
      refine g_ifnull 137 dJ11_getNode_122 (by decide) (fun e7 => ?_) (fun a6 e7 => ?_)
      · have F := F.1 e7
        refine g_aload dJ11_getNode_137 4 rfl ?_
        refine h_getNDR 3 (by decide) q716 e2 c3 dJ11_getNode_139 ?_
        refine g_dup dJ11_getNode_142 (va_rf_cat _) ?_
        refine s_astore (lv' := [(0, va_rf (some x)), (1, va_rf p1), (2, va_rf p2), (3, va_rf p3), (4, va_rf (ndR G a1 3)), (5, .int p5), (6, .int p6), (7, va_rf (ndR G a1 1))]) (cat_R (cat_R (cat_R (cat_R (cat_R (cat_I (cat_I (cat_R cat_nil)))))))) dJ11_getNode_143 (by decide) rfl [1, 2, 3, 4, 0, 5, 6, 7] rfl ?_
        refine g_ifnonnull 99 dJ11_getNode_145 (by decide) (fun a8 e9 => ?_) (fun e9 => ?_)
        · have F := F.1 a8 e9
          refine GW.lsub (lv' := [(0, va_rf (some x)), (1, va_rf p1), (2, va_rf p2), (3, va_rf p3), (4, va_rf (ndR G a1 3)), (5, .int p5), (6, .int p6)]) [0, 1, 2, 3, 4, 5, 6] rfl ?_
          exact F
        · have F := F.2 e9
          refine g_null dJ11_getNode_148 ?_
          exact g_aret (r := none) rfl (Or.inl ⟨_, rfl⟩) dJ11_getNode_149 F
      · have F := F.2 a6 e7
        refine g_aload_n dJ11_getNode_125 rfl 1 rfl ?_
        refine g_aload dJ11_getNode_126 7 rfl ?_
        obtain ⟨c11, F⟩ := F
        refine h_callUI (ci := 5) (x := ⟨"java/lang/Object", "equals", "(Ljava/lang/Object;)Z"⟩) (owner := "java/lang/Object") (C := RX3) (T := TX3) (N := 3) (As := [va_rf (ndR G a1 1)]) (rest := []) F 1 rfl rfl (hasW.all q956) (hasW.all q958) (hasD.de (by decide +kernel)) (hasW.all q964) q965 q126 q966 ⟨by decide +kernel, by decide +kernel, by decide +kernel⟩ (by decide) e7 c11 rfl (room_of sc_nil (Nat.le_of_ble_eq_true rfl)) dJ11_getNode_128 (fun r10 Gr10 br10 sr10 F => ?_)
        refine g_if_eq 137 dJ11_getNode_131 (by decide) (fun h16 => ?_) (fun h16 => ?_)
        · have F := F.1 h16
          refine g_aload dJ11_getNode_137 4 rfl ?_
          obtain ⟨c13, F⟩ := F
          refine h_getNDR 3 (by decide) q716 e2 c13 dJ11_getNode_139 ?_
          refine g_dup dJ11_getNode_142 (va_rf_cat _) ?_
          refine s_astore (lv' := [(0, va_rf (some x)), (1, va_rf p1), (2, va_rf p2), (3, va_rf p3), (4, va_rf (ndR Gr10 a1 3)), (5, .int p5), (6, .int p6), (7, va_rf (ndR G a1 1))]) (cat_R (cat_R (cat_R (cat_R (cat_R (cat_I (cat_I (cat_R cat_nil)))))))) dJ11_getNode_143 (by decide) rfl [1, 2, 3, 4, 0, 5, 6, 7] rfl ?_
          refine g_ifnonnull 99 dJ11_getNode_145 (by decide) (fun a14 e15 => ?_) (fun e15 => ?_)
          · have F := F.1 a14 e15
            refine GW.lsub (lv' := [(0, va_rf (some x)), (1, va_rf p1), (2, va_rf p2), (3, va_rf p3), (4, va_rf (ndR Gr10 a1 3)), (5, .int p5), (6, .int p6)]) [0, 1, 2, 3, 4, 5, 6] rfl ?_
            exact F
          · have F := F.2 e15
            refine g_null dJ11_getNode_148 ?_
            exact g_aret (r := none) rfl (Or.inl ⟨_, rfl⟩) dJ11_getNode_149 F
        · have F := F.2 h16
          refine g_aload dJ11_getNode_134 4 rfl ?_
          exact g_aret (r := p4) rfl (Or.inl ⟨_, rfl⟩) dJ11_getNode_136 F
theorem rJ2_init_0 {Γ : GE} {l : Launch} {h MC MS : Nat} {Q : Option Value → GH → Prop} {bc bs : Nat} {G : GH} (x : Nat) (F : (cV Γ l h mJ1_init [.ref x] G bc bs fun Gr1 br1 sr1 => gC Gr1 x = kO 9 ∧ gM Gr1 x = true ∧ Q none (sR Gr1 x 1 (some (Γ.2.2.2 0))))) : GW Γ l mJ2_init h MC MS Q 0 [(0, va_rf (some x))] [] G bc bs := by
  refine g_aload_n dJ2_init_0 rfl 0 rfl ?_
  refine h_callIV (As := []) (rest := []) F 0 rfl rfl (lw_meth q167) q111 q165 q166 rfl vm_J1_init.2 (by decide) rfl rfl (room_of sc_nil (Nat.le_of_ble_eq_true rfl)) dJ2_init_1 (fun Gr1 br1 sr1 F => ?_)
  refine g_aload_n dJ2_init_4 rfl 0 rfl ?_
  refine g_getsr (C := "java/util/ArrayList") (n := "DEFAULTCAPACITY_EMPTY_ELEMENTDATA") (d := "[Ljava/lang/Object;") (i := 0) (by decide) q172 rfl dJ2_init_5 ?_
  obtain ⟨c3, F⟩ := F
  obtain ⟨m4, F⟩ := F
  refine h_putR (mi := mJ2_init) 9 1 (C := RJ2) (T := TJ2) (N := 3) rfl in_J2 tyJ2_ok nmJ2 (by decide) q174 (Or.inl rfl) (Or.inl rfl) rfl rfl rfl c3 m4 dJ2_init_8 ?_
  exact g_vret rfl dJ2_init_11 F
theorem rJ2_size_0 {Γ : GE} {l : Launch} {h MC MS : Nat} {Q : Option Value → GH → Prop} {bc bs : Nat} {G : GH} (x : Nat) (F : (gC G x = kO 9 ∧ Q (some (.int (gI G x 2))) G)) : GW Γ l mJ2_size h MC MS Q 0 [(0, va_rf (some x))] [] G bc bs := by
  refine g_aload_n dJ2_size_0 rfl 0 rfl ?_
  obtain ⟨c1, F⟩ := F
  refine h_get (v := .int (gI G x 2)) 9 2 (C := RJ2) (T := TJ2) (N := 3) rfl in_J2 (by decide) q175 (Or.inl rfl) rfl c1 rfl dJ2_size_1 ?_
  exact g_iret rfl dJ2_size_4 F
theorem rJ2_get_0 {Γ : GE} {l : Launch} {h MC MS : Nat} {Q : Option Value → GH → Prop} {bc bs : Nat} {G : GH} (x : Nat) (p1 : Int32) (F : (gC G x = kO 9 ∧ cI Γ l h mJ12_checkIndex [.int p1, .int (gI G x 2)] G bc bs fun r2 Gr2 br2 sr2 => gC Gr2 x = kO 9 ∧ cR Γ l h mJ2_elementData [.ref x, .int p1] Gr2 br2 sr2 fun r4 Gr4 br4 sr4 => Q (some (va_rf r4)) Gr4)) : GW Γ l mJ2_get h MC MS Q 0 [(0, va_rf (some x)), (1, .int p1)] [] G bc bs := by
  refine g_iload_n dJ2_get_0 rfl 1 rfl ?_
  refine g_aload_n dJ2_get_1 rfl 0 rfl ?_
  obtain ⟨c1, F⟩ := F
  refine h_get (v := .int (gI G x 2)) 9 2 (C := RJ2) (T := TJ2) (N := 3) rfl in_J2 (by decide) q175 (Or.inl rfl) rfl c1 rfl dJ2_get_2 ?_
  refine h_callSI (As := [.int p1, .int (gI G x 2)]) (rest := []) F 2 rfl (lw_S q335 q336 q124 q337) vm_J12_checkIndex.2 (by decide) rfl (room_of sc_nil (Nat.le_of_ble_eq_true rfl)) dJ2_get_5 (fun r2 Gr2 br2 sr2 F => ?_)
  refine g_pop dJ2_get_8 rfl ?_
  refine g_aload_n dJ2_get_9 rfl 0 rfl ?_
  refine g_iload_n dJ2_get_10 rfl 1 rfl ?_
  obtain ⟨c5, F⟩ := F
  refine h_callVR (ci := 9) (C := RJ2) (T := TJ2) (N := 3) (As := [.int p1]) (rest := []) F 1 rfl rfl (lw_V q341 q342 q343 q112 q344) vm_J2_elementData (by decide) rfl c5 rfl (room_of sc_nil (Nat.le_of_ble_eq_true rfl)) dJ2_get_11 (fun r4 Gr4 br4 sr4 F => ?_)
  exact g_aret (r := r4) rfl (Or.inl ⟨_, rfl⟩) dJ2_get_14 F
theorem rJ2_elementData_0 {Γ : GE} {l : Launch} {h MC MS : Nat} {Q : Option Value → GH → Prop} {bc bs : Nat} {G : GH} (x : Nat) (p1 : Int32) (F : (gC G x = kO 9 ∧ ∃ a2, (gR G x 1) = some a2 ∧ gC G a2 = kA 4 ∧ gM G a2 = true ∧ vp_in p1 (gL G a2) ∧ Q (some (va_rf (gR G a2 p1.toNatClampNeg))) G)) : GW Γ l mJ2_elementData h MC MS Q 0 [(0, va_rf (some x)), (1, .int p1)] [] G bc bs := by
  refine g_aload_n dJ2_elementData_0 rfl 0 rfl ?_
  obtain ⟨c1, F⟩ := F
  refine h_get (v := va_rf (gR G x 1)) 9 1 (C := RJ2) (T := TJ2) (N := 3) rfl in_J2 (by decide) q174 (Or.inl rfl) rfl c1 rfl dJ2_elementData_1 ?_
  refine g_iload_n dJ2_elementData_4 rfl 1 rfl ?_
  obtain ⟨a2, e3, F⟩ := F
  obtain ⟨c4, F⟩ := F
  obtain ⟨m5, F⟩ := F
  obtain ⟨k6, F⟩ := F
  refine h_aald 4 e3 c4 (by decide) (by decide) m5 k6 dJ2_elementData_5 ?_
  exact g_aret (r := (gR G a2 p1.toNatClampNeg)) rfl (Or.inl ⟨_, rfl⟩) dJ2_elementData_6 F
theorem rJ2_add_0 {Γ : GE} {l : Launch} {h MC MS : Nat} {Q : Option Value → GH → Prop} {bc bs : Nat} {G : GH} (x : Nat) (p1 : Option Nat) (F : (gC G x = kO 9 ∧ gM G x = true ∧ cV Γ l h mJ2_add_2 [.ref x, va_rf p1, va_rf (gR (sI G x 0 ((gI G x 0) + 1)) x 1), .int (gI (sI G x 0 ((gI G x 0) + 1)) x 2)] (sI G x 0 ((gI G x 0) + 1)) bc bs fun Gr3 br3 sr3 => Q (some (.int 1)) Gr3)) : GW Γ l mJ2_add h MC MS Q 0 [(0, va_rf (some x)), (1, va_rf p1)] [] G bc bs := by
  refine g_aload_n dJ2_add_0 rfl 0 rfl ?_
  refine g_dup dJ2_add_1 (va_rf_cat _) ?_
  obtain ⟨c1, F⟩ := F
  refine h_get (v := .int (gI G x 0)) 9 0 (C := RJ2) (T := TJ2) (N := 3) rfl in_J2 (by decide) q177 (Or.inr q178) rfl c1 rfl dJ2_add_2 ?_
  refine g_iconst (v := 1) dJ2_add_5 (by decide) ?_
  refine g_iadd dJ2_add_6 ?_
  obtain ⟨m2, F⟩ := F
  refine h_putI (mi := mJ2_add) 9 0 (C := RJ2) (T := TJ2) (N := 3) rfl in_J2 tyJ2_ok nmJ2 (by decide) q177 (Or.inr q178) (Or.inl rfl) rfl rfl c1 m2 rfl rfl dJ2_add_7 ?_
  refine g_aload_n dJ2_add_10 rfl 0 rfl ?_
  refine g_aload_n dJ2_add_11 rfl 1 rfl ?_
  refine g_aload_n dJ2_add_12 rfl 0 rfl ?_
  refine h_get (v := va_rf (gR (sI G x 0 ((gI G x 0) + 1)) x 1)) 9 1 (C := RJ2) (T := TJ2) (N := 3) rfl in_J2 (by decide) q174 (Or.inl rfl) rfl c1 rfl dJ2_add_13 ?_
  refine g_aload_n dJ2_add_16 rfl 0 rfl ?_
  refine h_get (v := .int (gI (sI G x 0 ((gI G x 0) + 1)) x 2)) 9 2 (C := RJ2) (T := TJ2) (N := 3) rfl in_J2 (by decide) q175 (Or.inl rfl) rfl c1 rfl dJ2_add_17 ?_
  refine h_callVV (ci := 9) (C := RJ2) (T := TJ2) (N := 3) (As := [va_rf p1, va_rf (gR (sI G x 0 ((gI G x 0) + 1)) x 1), .int (gI (sI G x 0 ((gI G x 0) + 1)) x 2)]) (rest := []) F 3 rfl rfl (lw_V q381 q383 qs0 q112 q384) vm_J2_add_2 (by decide) rfl c1 rfl (room_of sc_nil (Nat.le_of_ble_eq_true rfl)) dJ2_add_20 (fun Gr3 br3 sr3 F => ?_)
  refine g_iconst (v := 1) dJ2_add_23 (by decide) ?_
  exact g_zret rfl rfl dJ2_add_24 F
theorem rJ2_add_2_0 {Γ : GE} {l : Launch} {h MC MS : Nat} {Q : Option Value → GH → Prop} {bc bs : Nat} {G : GH} (x : Nat) (p1 : Option Nat) (p2 : Option Nat) (p3 : Int32) (F : (∃ a1, p2 = some a1 ∧ gC G a1 = kA 4 ∧ ((¬ p3 = (nI (gL G a1)) → (gM G a1 = true ∧ vp_in p3 (gL G a1) ∧ okS G 4 p1 ∧ gC (sR G a1 p3.toNatClampNeg p1) x = kO 9 ∧ gM (sR G a1 p3.toNatClampNeg p1) x = true ∧ Q none (sI (sR G a1 p3.toNatClampNeg p1) x 2 (p3 + 1)))) ∧ (p3 = (nI (gL G a1)) → (gC G x = kO 9 ∧ cR Γ l h mJ2_grow [.ref x] G bc bs fun r9 Gr9 br9 sr9 => ∃ a12, r9 = some a12 ∧ gC Gr9 a12 = kA 4 ∧ gM Gr9 a12 = true ∧ vp_in p3 (gL Gr9 a12) ∧ okS Gr9 4 p1 ∧ gC (sR Gr9 a12 p3.toNatClampNeg p1) x = kO 9 ∧ gM (sR Gr9 a12 p3.toNatClampNeg p1) x = true ∧ Q none (sI (sR Gr9 a12 p3.toNatClampNeg p1) x 2 (p3 + 1))))))) : GW Γ l mJ2_add_2 h MC MS Q 0 [(0, va_rf (some x)), (1, va_rf p1), (2, va_rf p2), (3, .int p3)] [] G bc bs := by
  refine g_iload_n dJ2_add_2_0 rfl 3 rfl ?_
  refine g_aload_n dJ2_add_2_1 rfl 2 rfl ?_
  obtain ⟨a1, e2, F⟩ := F
  obtain ⟨c3, F⟩ := F
  refine h_alen 4 e2 c3 (by decide) dJ2_add_2_2 ?_
  refine g_icmp_ne 11 dJ2_add_2_3 (by decide) (fun h20 => ?_) (fun h20 => ?_)
  · have F := F.1 h20
    refine g_aload_n dJ2_add_2_11 rfl 2 rfl ?_
    refine g_iload_n dJ2_add_2_12 rfl 3 rfl ?_
    refine g_aload_n dJ2_add_2_13 rfl 1 rfl ?_
    obtain ⟨m4, F⟩ := F
    obtain ⟨k5, F⟩ := F
    obtain ⟨k6, F⟩ := F
    refine h_aast 4 e2 c3 (by decide) (by decide) m4 k5 k6 dJ2_add_2_14 ?_
    refine g_aload_n dJ2_add_2_15 rfl 0 rfl ?_
    refine g_iload_n dJ2_add_2_16 rfl 3 rfl ?_
    refine g_iconst (v := 1) dJ2_add_2_17 (by decide) ?_
    refine g_iadd dJ2_add_2_18 ?_
    obtain ⟨c7, F⟩ := F
    obtain ⟨m8, F⟩ := F
    refine h_putI (mi := mJ2_add_2) 9 2 (C := RJ2) (T := TJ2) (N := 3) rfl in_J2 tyJ2_ok nmJ2 (by decide) q175 (Or.inl rfl) (Or.inl rfl) rfl rfl c7 m8 rfl rfl dJ2_add_2_19 ?_
    exact g_vret rfl dJ2_add_2_22 F
  · have F := F.2 h20
    refine g_aload_n dJ2_add_2_6 rfl 0 rfl ?_
    obtain ⟨c10, F⟩ := F
    refine h_callVR (ci := 9) (C := RJ2) (T := TJ2) (N := 3) (As := []) (rest := []) F 0 rfl rfl (lw_V q385 q387 qs1 q112 q388) vm_J2_grow (by decide) rfl c10 rfl (room_of sc_nil (Nat.le_of_ble_eq_true rfl)) dJ2_add_2_7 (fun r9 Gr9 br9 sr9 F => ?_)
    refine s_astore_n (lv' := [(0, va_rf (some x)), (1, va_rf p1), (2, va_rf r9), (3, .int p3)]) (cat_R (cat_R (cat_R (cat_I cat_nil)))) dJ2_add_2_10 rfl (by decide) rfl [1, 2, 0, 3] rfl ?_
    refine g_aload_n dJ2_add_2_11 rfl 2 rfl ?_
    refine g_iload_n dJ2_add_2_12 rfl 3 rfl ?_
    refine g_aload_n dJ2_add_2_13 rfl 1 rfl ?_
    obtain ⟨a12, e13, F⟩ := F
    obtain ⟨c14, F⟩ := F
    obtain ⟨m15, F⟩ := F
    obtain ⟨k16, F⟩ := F
    obtain ⟨k17, F⟩ := F
    refine h_aast 4 e13 c14 (by decide) (by decide) m15 k16 k17 dJ2_add_2_14 ?_
    refine g_aload_n dJ2_add_2_15 rfl 0 rfl ?_
    refine g_iload_n dJ2_add_2_16 rfl 3 rfl ?_
    refine g_iconst (v := 1) dJ2_add_2_17 (by decide) ?_
    refine g_iadd dJ2_add_2_18 ?_
    obtain ⟨c18, F⟩ := F
    obtain ⟨m19, F⟩ := F
    refine h_putI (mi := mJ2_add_2) 9 2 (C := RJ2) (T := TJ2) (N := 3) rfl in_J2 tyJ2_ok nmJ2 (by decide) q175 (Or.inl rfl) (Or.inl rfl) rfl rfl c18 m19 rfl rfl dJ2_add_2_19 ?_
    exact g_vret rfl dJ2_add_2_22 F
theorem rJ2_grow_0 {Γ : GE} {l : Launch} {h MC MS : Nat} {Q : Option Value → GH → Prop} {bc bs : Nat} {G : GH} (x : Nat) (F : (gC G x = kO 9 ∧ cR Γ l h mJ2_grow_2 [.ref x, .int ((gI G x 2) + 1)] G bc bs fun r2 Gr2 br2 sr2 => Q (some (va_rf r2)) Gr2)) : GW Γ l mJ2_grow h MC MS Q 0 [(0, va_rf (some x))] [] G bc bs := by
  refine g_aload_n dJ2_grow_0 rfl 0 rfl ?_
  refine g_aload_n dJ2_grow_1 rfl 0 rfl ?_
  obtain ⟨c1, F⟩ := F
  refine h_get (v := .int (gI G x 2)) 9 2 (C := RJ2) (T := TJ2) (N := 3) rfl in_J2 (by decide) q175 (Or.inl rfl) rfl c1 rfl dJ2_grow_2 ?_
  refine g_iconst (v := 1) dJ2_grow_5 (by decide) ?_
  refine g_iadd dJ2_grow_6 ?_
  refine h_callVR (ci := 9) (C := RJ2) (T := TJ2) (N := 3) (As := [.int ((gI G x 2) + 1)]) (rest := []) F 1 rfl rfl (lw_V q389 q391 qs2 q112 q392) vm_J2_grow_2 (by decide) rfl c1 rfl (room_of sc_nil (Nat.le_of_ble_eq_true rfl)) dJ2_grow_7 (fun r2 Gr2 br2 sr2 F => ?_)
  exact g_aret (r := r2) rfl (Or.inr ⟨_, rfl⟩) dJ2_grow_10 F
theorem rJ2_grow_2_0 {Γ : GE} {l : Launch} {h MC MS : Nat} {Q : Option Value → GH → Prop} {bc bs : Nat} {G : GH} (x : Nat) (p1 : Int32) (F : (gC G x = kO 9 ∧ ∃ a2, (gR G x 1) = some a2 ∧ gC G a2 = kA 4 ∧ (((0 : Int32) < (nI (gL G a2)) → (GW Γ l mJ2_grow_2 h MC MS Q 20 [(0, va_rf (some x)), (1, .int p1), (2, .int (nI (gL G a2)))] [] G bc bs)) ∧ (¬ (0 : Int32) < (nI (gL G a2)) → (((gR G x 1) = (some (Γ.2.2.2 0)) → (cI Γ l h mJ7_max [.int 10, .int p1] G bc bs fun r5 Gr5 br5 sr5 => ¬ r5 < 0 ∧ (r5).toNatClampNeg * 4 ≤ 536870912 ∧ 1 ≤ br5 ∧ (r5).toNatClampNeg ≤ sr5 ∧ ∀ q7, gC Gr5 q7 = 0 → gA Γ q7 → gC (nA Gr5 q7 4 (r5).toNatClampNeg) x = kO 9 ∧ gM (nA Gr5 q7 4 (r5).toNatClampNeg) x = true ∧ Q (some (va_rf (some q7))) (sR (nA Gr5 q7 4 (r5).toNatClampNeg) x 1 (some q7)))) ∧ (¬ (gR G x 1) = (some (Γ.2.2.2 0)) → (GW Γ l mJ2_grow_2 h MC MS Q 20 [(0, va_rf (some x)), (1, .int p1), (2, .int (nI (gL G a2)))] [] G bc bs))))))) : GW Γ l mJ2_grow_2 h MC MS Q 0 [(0, va_rf (some x)), (1, .int p1)] [] G bc bs := by
  refine g_aload_n dJ2_grow_2_0 rfl 0 rfl ?_
  obtain ⟨c1, F⟩ := F
  refine h_get (v := va_rf (gR G x 1)) 9 1 (C := RJ2) (T := TJ2) (N := 3) rfl in_J2 (by decide) q174 (Or.inl rfl) rfl c1 rfl dJ2_grow_2_1 ?_
  obtain ⟨a2, e3, F⟩ := F
  obtain ⟨c4, F⟩ := F
  refine h_alen 4 e3 c4 (by decide) dJ2_grow_2_4 ?_
  refine s_istore_n (lv' := [(0, va_rf (some x)), (1, .int p1), (2, .int (nI (gL G a2)))]) (cat_R (cat_I cat_nil)) dJ2_grow_2_5 rfl (by decide) rfl [1, 2, 0] rfl ?_
  refine g_iload_n dJ2_grow_2_6 rfl 2 rfl ?_
  refine g_if_gt 20 dJ2_grow_2_7 (by decide) (fun h17 => ?_) (fun h17 => ?_)
  · have F := F.1 h17
    exact F
  · have F := F.2 h17
    refine g_aload_n dJ2_grow_2_10 rfl 0 rfl ?_
    refine h_get (v := va_rf (gR G x 1)) 9 1 (C := RJ2) (T := TJ2) (N := 3) rfl in_J2 (by decide) q174 (Or.inl rfl) rfl c1 rfl dJ2_grow_2_11 ?_
    refine g_getsr (C := "java/util/ArrayList") (n := "DEFAULTCAPACITY_EMPTY_ELEMENTDATA") (d := "[Ljava/lang/Object;") (i := 0) (by decide) q172 rfl dJ2_grow_2_14 ?_
    refine g_acmp_eq 45 dJ2_grow_2_17 (by decide) (fun h16 => ?_) (fun h16 => ?_)
    · have F := F.1 h16
      refine g_aload_n dJ2_grow_2_45 rfl 0 rfl ?_
      refine g_bipush (v := 10) dJ2_grow_2_46 (by decide) ?_
      refine g_iload_n dJ2_grow_2_48 rfl 1 rfl ?_
      refine h_callSI (As := [.int 10, .int p1]) (rest := [va_rf (some x)]) F 2 rfl (lw_S q440 q397 q119 q398) vm_J7_max.2 (by decide) rfl (room_of (sc_R sc_nil) (Nat.le_of_ble_eq_true rfl)) dJ2_grow_2_49 (fun r5 Gr5 br5 sr5 F => ?_)
      obtain ⟨k8, F⟩ := F
      obtain ⟨k9, F⟩ := F
      obtain ⟨k10, F⟩ := F
      obtain ⟨k11, F⟩ := F
      refine h_newq 4 (r5).toNatClampNeg (by decide) (by decide) q441 (by decide +kernel) k8 rfl k9 k10 k11 dJ2_grow_2_52 (fun q7 z12 z12' => ?_)
      have F := F q7 z12 z12'
      refine g_dup_x1 dJ2_grow_2_55 (va_rf_cat _) (va_rf_cat _) ?_
      obtain ⟨c14, F⟩ := F
      obtain ⟨m15, F⟩ := F
      refine h_putR (mi := mJ2_grow_2) 9 1 (C := RJ2) (T := TJ2) (N := 3) rfl in_J2 tyJ2_ok nmJ2 (by decide) q174 (Or.inl rfl) (Or.inl rfl) rfl rfl rfl c14 m15 dJ2_grow_2_56 ?_
      exact g_aret (r := (some q7)) rfl (Or.inr ⟨_, rfl⟩) dJ2_grow_2_59 F
    · have F := F.2 h16
      exact F
theorem rJ2_grow_2_20 {Γ : GE} {l : Launch} {h MC MS : Nat} {Q : Option Value → GH → Prop} {bc bs : Nat} {G : GH} (x : Nat) (p1 : Int32) (p2 : Int32) (F : (cI Γ l h mJ15_newLength [.int p2, .int (p1 - p2), .int (p2 >>> (1 &&& 31))] G bc bs fun r1 Gr1 br1 sr1 => gC Gr1 x = kO 9 ∧ cR Γ l h mJ22_copyOf [va_rf (gR Gr1 x 1), .int r1] Gr1 br1 sr1 fun r4 Gr4 br4 sr4 => gC Gr4 x = kO 9 ∧ gM Gr4 x = true ∧ Q (some (va_rf r4)) (sR Gr4 x 1 r4))) : GW Γ l mJ2_grow_2 h MC MS Q 20 [(0, va_rf (some x)), (1, .int p1), (2, .int p2)] [] G bc bs := by
  refine g_iload_n dJ2_grow_2_20 rfl 2 rfl ?_
  refine g_iload_n dJ2_grow_2_21 rfl 1 rfl ?_
  refine g_iload_n dJ2_grow_2_22 rfl 2 rfl ?_
  refine g_isub dJ2_grow_2_23 ?_
  refine g_iload_n dJ2_grow_2_24 rfl 2 rfl ?_
  refine g_iconst (v := 1) dJ2_grow_2_25 (by decide) ?_
  refine g_ishr dJ2_grow_2_26 ?_
  refine h_callSI (As := [.int p2, .int (p1 - p2), .int (p2 >>> (1 &&& 31))]) (rest := []) F 3 rfl (lw_S q393 q394 q128 q395) vm_J15_newLength.2 (by decide) rfl (room_of sc_nil (Nat.le_of_ble_eq_true rfl)) dJ2_grow_2_27 (fun r1 Gr1 br1 sr1 F => ?_)
  refine s_istore_n (lv' := [(0, va_rf (some x)), (1, .int p1), (2, .int p2), (3, .int r1)]) (cat_R (cat_I (cat_I cat_nil))) dJ2_grow_2_30 rfl (by decide) rfl [1, 2, 3, 0] rfl ?_
  refine g_aload_n dJ2_grow_2_31 rfl 0 rfl ?_
  refine g_aload_n dJ2_grow_2_32 rfl 0 rfl ?_
  obtain ⟨c3, F⟩ := F
  refine h_get (v := va_rf (gR Gr1 x 1)) 9 1 (C := RJ2) (T := TJ2) (N := 3) rfl in_J2 (by decide) q174 (Or.inl rfl) rfl c3 rfl dJ2_grow_2_33 ?_
  refine g_iload_n dJ2_grow_2_36 rfl 3 rfl ?_
  refine h_callSR (As := [va_rf (gR Gr1 x 1), .int r1]) (rest := [va_rf (some x)]) F 2 rfl (lw_S q403 q404 q138 q405) vm_J22_copyOf.2 (by decide) rfl (room_of (sc_R sc_nil) (Nat.le_of_ble_eq_true rfl)) dJ2_grow_2_37 (fun r4 Gr4 br4 sr4 F => ?_)
  refine g_dup_x1 dJ2_grow_2_40 (va_rf_cat _) (va_rf_cat _) ?_
  obtain ⟨c6, F⟩ := F
  obtain ⟨m7, F⟩ := F
  refine h_putR (mi := mJ2_grow_2) 9 1 (C := RJ2) (T := TJ2) (N := 3) rfl in_J2 tyJ2_ok nmJ2 (by decide) q174 (Or.inl rfl) (Or.inl rfl) rfl rfl rfl c6 m7 dJ2_grow_2_41 ?_
  exact g_aret (r := r4) rfl (Or.inr ⟨_, rfl⟩) dJ2_grow_2_44 F
