set_option maxRecDepth 100000
theorem rX9_init_0 {Γ : GE} {l : Launch} {h MC MS : Nat} {Q : Option Value → GH → Prop} {bc bs : Nat} {G : GH} (x : Nat) (p1 : Int32) (F : (cV Γ l h mJ24_init [.ref x, va_rf (some (Γ.2.2.2 40))] G bc bs fun Gr1 br1 sr1 => gC Gr1 x = kO 8 ∧ gM Gr1 x = true ∧ Q none (sI Gr1 x 6 p1))) : GW Γ l mX9_init h MC MS Q 0 [(0, va_rf (some x)), (1, .int p1)] [] G bc bs := by
  refine g_aload_n dX9_init_0 rfl 0 rfl ?_
  refine h_ldcS (tx := "command") 40 (by decide +kernel) dX9_init_1 ?_
  refine h_callIV (As := [va_rf (some (Γ.2.2.2 40))]) (rest := []) F 1 rfl rfl (lw_meth q1937) q144 q1935 q1936 rfl vm_J24_init.2 (by decide) rfl rfl (room_of sc_nil (Nat.le_of_ble_eq_true rfl)) dX9_init_3 (fun Gr1 br1 sr1 F => ?_)
  refine g_aload_n dX9_init_6 rfl 0 rfl ?_
  refine g_iload_n dX9_init_7 rfl 1 rfl ?_
  obtain ⟨c3, F⟩ := F
  obtain ⟨m4, F⟩ := F
  refine h_putI (mi := mX9_init) 8 6 (C := RX9) (T := TX9) (N := 7) rfl in_X9 tyX9_ok nmX9 (by decide) q1941 (Or.inl rfl) (Or.inr ⟨rfl, rfl⟩) rfl rfl c3 m4 rfl rfl dX9_init_8 ?_
  exact g_vret rfl dX9_init_11 F
theorem rX3_init_0 {Γ : GE} {l : Launch} {h MC MS : Nat} {Q : Option Value → GH → Prop} {bc bs : Nat} {G : GH} (x : Nat) (p1 : Int32) (p2 : Int32) (p3 : Int32) (F : (0 < h ∧ gC G x = kO 5 ∧ gM G x = true ∧ Q none (sI (sI (sI G x 0 p1) x 1 p2) x 2 p3))) : GW Γ l mX3_init h MC MS Q 0 [(0, va_rf (some x)), (1, .int p1), (2, .int p2), (3, .int p3)] [] G bc bs := by
  refine g_aload_n dX3_init_0 rfl 0 rfl ?_
  obtain ⟨k1, F⟩ := F
  refine h_objInit q562 q152 q153 rfl dX3_init_1 k1 (room_of sc_nil (Nat.le_of_ble_eq_true rfl)) ?_
  refine g_aload_n dX3_init_4 rfl 0 rfl ?_
  refine g_iload_n dX3_init_5 rfl 1 rfl ?_
  obtain ⟨c2, F⟩ := F
  obtain ⟨m3, F⟩ := F
  refine h_putI (mi := mX3_init) 5 0 (C := RX3) (T := TX3) (N := 3) rfl in_X3 tyX3_ok nmX3 (by decide) q563 (Or.inl rfl) (Or.inr ⟨rfl, rfl⟩) rfl rfl c2 m3 rfl rfl dX3_init_6 ?_
  refine g_aload_n dX3_init_9 rfl 0 rfl ?_
  refine g_iload_n dX3_init_10 rfl 2 rfl ?_
  refine h_putI (mi := mX3_init) 5 1 (C := RX3) (T := TX3) (N := 3) rfl in_X3 tyX3_ok nmX3 (by decide) q564 (Or.inl rfl) (Or.inr ⟨rfl, rfl⟩) rfl rfl c2 m3 rfl rfl dX3_init_11 ?_
  refine g_aload_n dX3_init_14 rfl 0 rfl ?_
  refine g_iload_n dX3_init_15 rfl 3 rfl ?_
  refine h_putI (mi := mX3_init) 5 2 (C := RX3) (T := TX3) (N := 3) rfl in_X3 tyX3_ok nmX3 (by decide) q565 (Or.inl rfl) (Or.inr ⟨rfl, rfl⟩) rfl rfl c2 m3 rfl rfl dX3_init_16 ?_
  exact g_vret rfl dX3_init_19 F
theorem rX3_hashCode_0 {Γ : GE} {l : Launch} {h MC MS : Nat} {Q : Option Value → GH → Prop} {bc bs : Nat} {G : GH} (x : Nat) (F : (gC G x = kO 5 ∧ Q (some (.int ((((6 * (gI G x 0)) + (gI G x 1)) * 6000) + (gI G x 2)))) G)) : GW Γ l mX3_hashCode h MC MS Q 0 [(0, va_rf (some x))] [] G bc bs := by
  refine g_bipush (v := 6) dX3_hashCode_0 (by decide) ?_
  refine g_aload_n dX3_hashCode_2 rfl 0 rfl ?_
  obtain ⟨c1, F⟩ := F
  refine h_get (v := .int (gI G x 0)) 5 0 (C := RX3) (T := TX3) (N := 3) rfl in_X3 (by decide) q563 (Or.inl rfl) rfl c1 rfl dX3_hashCode_3 ?_
  refine g_imul dX3_hashCode_6 ?_
  refine g_aload_n dX3_hashCode_7 rfl 0 rfl ?_
  refine h_get (v := .int (gI G x 1)) 5 1 (C := RX3) (T := TX3) (N := 3) rfl in_X3 (by decide) q564 (Or.inl rfl) rfl c1 rfl dX3_hashCode_8 ?_
  refine g_iadd dX3_hashCode_11 ?_
  refine g_sipush (v := 6000) dX3_hashCode_12 (by decide) ?_
  refine g_imul dX3_hashCode_15 ?_
  refine g_aload_n dX3_hashCode_16 rfl 0 rfl ?_
  refine h_get (v := .int (gI G x 2)) 5 2 (C := RX3) (T := TX3) (N := 3) rfl in_X3 (by decide) q565 (Or.inl rfl) rfl c1 rfl dX3_hashCode_17 ?_
  refine g_iadd dX3_hashCode_20 ?_
  exact g_iret rfl dX3_hashCode_21 F
theorem rX3_equals_0 {Γ : GE} {l : Launch} {h MC MS : Nat} {Q : Option Value → GH → Prop} {bc bs : Nat} {G : GH} (x : Nat) (p1 : Option Nat) (F : (∃ b1, okInst G p1 "CrewPairer$LegKey" b1 ∧ ((¬ b1 = 0 → (okCast G p1 "CrewPairer$LegKey" ∧ gC G x = kO 5 ∧ ∃ a5, p1 = some a5 ∧ gC G a5 = kO 5 ∧ ((¬ (gI G x 0) = (gI G a5 0) → (Q (some (.int 0)) G)) ∧ ((gI G x 0) = (gI G a5 0) → ((¬ (gI G x 1) = (gI G a5 1) → (Q (some (.int 0)) G)) ∧ ((gI G x 1) = (gI G a5 1) → ((¬ (gI G x 2) = (gI G a5 2) → (Q (some (.int 0)) G)) ∧ ((gI G x 2) = (gI G a5 2) → (Q (some (.int 1)) G))))))))) ∧ (b1 = 0 → (Q (some (.int 0)) G))))) : GW Γ l mX3_equals h MC MS Q 0 [(0, va_rf (some x)), (1, va_rf p1)] [] G bc bs := by
  refine g_aload_n dX3_equals_0 rfl 1 rfl ?_
  obtain ⟨b1, e2, F⟩ := F
  refine h_inst q967 e2 dX3_equals_1 ?_
  refine g_if_ne 9 dX3_equals_4 (by decide) (fun h11 => ?_) (fun h11 => ?_)
  · have F := F.1 h11
    refine g_aload_n dX3_equals_9 rfl 1 rfl ?_
    obtain ⟨k3, F⟩ := F
    refine h_castO q967 k3 dX3_equals_10 ?_
    refine s_astore_n (lv' := [(0, va_rf (some x)), (1, va_rf p1), (2, va_rf p1)]) (cat_R (cat_R cat_nil)) dX3_equals_13 rfl (by decide) rfl [1, 2, 0] rfl ?_
    refine g_aload_n dX3_equals_14 rfl 0 rfl ?_
    obtain ⟨c4, F⟩ := F
    refine h_get (v := .int (gI G x 0)) 5 0 (C := RX3) (T := TX3) (N := 3) rfl in_X3 (by decide) q563 (Or.inl rfl) rfl c4 rfl dX3_equals_15 ?_
    refine g_aload_n dX3_equals_18 rfl 2 rfl ?_
    obtain ⟨a5, e6, F⟩ := F
    obtain ⟨c7, F⟩ := F
    refine h_get (v := .int (gI G a5 0)) 5 0 (C := RX3) (T := TX3) (N := 3) rfl in_X3 (by decide) q563 (Or.inl rfl) e6 c7 rfl dX3_equals_19 ?_
    refine g_icmp_ne 51 dX3_equals_22 (by decide) (fun h10 => ?_) (fun h10 => ?_)
    · have F := F.1 h10
      refine g_iconst (v := 0) dX3_equals_51 (by decide) ?_
      exact g_zret rfl rfl dX3_equals_52 F
    · have F := F.2 h10
      refine g_aload_n dX3_equals_25 rfl 0 rfl ?_
      refine h_get (v := .int (gI G x 1)) 5 1 (C := RX3) (T := TX3) (N := 3) rfl in_X3 (by decide) q564 (Or.inl rfl) rfl c4 rfl dX3_equals_26 ?_
      refine g_aload_n dX3_equals_29 rfl 2 rfl ?_
      refine h_get (v := .int (gI G a5 1)) 5 1 (C := RX3) (T := TX3) (N := 3) rfl in_X3 (by decide) q564 (Or.inl rfl) e6 c7 rfl dX3_equals_30 ?_
      refine g_icmp_ne 51 dX3_equals_33 (by decide) (fun h9 => ?_) (fun h9 => ?_)
      · have F := F.1 h9
        refine g_iconst (v := 0) dX3_equals_51 (by decide) ?_
        exact g_zret rfl rfl dX3_equals_52 F
      · have F := F.2 h9
        refine g_aload_n dX3_equals_36 rfl 0 rfl ?_
        refine h_get (v := .int (gI G x 2)) 5 2 (C := RX3) (T := TX3) (N := 3) rfl in_X3 (by decide) q565 (Or.inl rfl) rfl c4 rfl dX3_equals_37 ?_
        refine g_aload_n dX3_equals_40 rfl 2 rfl ?_
        refine h_get (v := .int (gI G a5 2)) 5 2 (C := RX3) (T := TX3) (N := 3) rfl in_X3 (by decide) q565 (Or.inl rfl) e6 c7 rfl dX3_equals_41 ?_
        refine g_icmp_ne 51 dX3_equals_44 (by decide) (fun h8 => ?_) (fun h8 => ?_)
        · have F := F.1 h8
          refine g_iconst (v := 0) dX3_equals_51 (by decide) ?_
          exact g_zret rfl rfl dX3_equals_52 F
        · have F := F.2 h8
          refine g_iconst (v := 1) dX3_equals_47 (by decide) ?_
          refine g_goto 52 dX3_equals_48 (by decide) ?_
          exact g_zret rfl rfl dX3_equals_52 F
  · have F := F.2 h11
    refine g_iconst (v := 0) dX3_equals_7 (by decide) ?_
    exact g_zret rfl rfl dX3_equals_8 F
theorem rX4_copy_0 {Γ : GE} {l : Launch} {h MC MS : Nat} {Q : Option Value → GH → Prop} {bc bs : Nat} {G : GH} (x : Nat) (F : (1 ≤ bc ∧ 5 ≤ bs ∧ ∀ q1, gC G q1 = 0 → gA Γ q1 → gC (nO G q1 3) x = kO 3 ∧ cV Γ l h mX4_init [.ref q1, .int (gI (nO G q1 3) x 0), .int (gI (nO G q1 3) x 1), .int (gI (nO G q1 3) x 2), .int (gI (nO G q1 3) x 3)] (nO G q1 3) (bc - 1) (bs - 5) fun Gr7 br7 sr7 => gC Gr7 x = kO 3 ∧ gC Gr7 q1 = kO 3 ∧ gM Gr7 q1 = true ∧ (narrow .boolean (.int (gI Gr7 x 4)) = .int (gI Gr7 x 4) ∧ fits .boolean (.int (gI Gr7 x 4)) = true) ∧ Q (some (va_rf (some q1))) (sI Gr7 q1 4 (gI Gr7 x 4)))) : GW Γ l mX4_copy h MC MS Q 0 [(0, va_rf (some x))] [] G bc bs := by
  obtain ⟨k3, F⟩ := F
  obtain ⟨k4, F⟩ := F
  refine g_new (C := RX4) (T := TX4) (N := 5) 3 rfl in_X4 tyX4_ok nd_X4 q350 q351 q137 k3 k4 dX4_copy_0 (fun q1 z2 z2' => ?_)
  have F := F q1 z2 z2'
  refine g_dup dX4_copy_3 (va_rf_cat _) ?_
  refine g_aload_n dX4_copy_4 rfl 0 rfl ?_
  obtain ⟨c6, F⟩ := F
  refine h_get (v := .int (gI (nO G q1 3) x 0)) 3 0 (C := RX4) (T := TX4) (N := 5) rfl in_X4 (by decide) q356 (Or.inl rfl) rfl c6 rfl dX4_copy_5 ?_
  refine g_aload_n dX4_copy_8 rfl 0 rfl ?_
  refine h_get (v := .int (gI (nO G q1 3) x 1)) 3 1 (C := RX4) (T := TX4) (N := 5) rfl in_X4 (by decide) q358 (Or.inl rfl) rfl c6 rfl dX4_copy_9 ?_
  refine g_aload_n dX4_copy_12 rfl 0 rfl ?_
  refine h_get (v := .int (gI (nO G q1 3) x 2)) 3 2 (C := RX4) (T := TX4) (N := 5) rfl in_X4 (by decide) q360 (Or.inl rfl) rfl c6 rfl dX4_copy_13 ?_
  refine g_aload_n dX4_copy_16 rfl 0 rfl ?_
  refine h_get (v := .int (gI (nO G q1 3) x 3)) 3 3 (C := RX4) (T := TX4) (N := 5) rfl in_X4 (by decide) q362 (Or.inl rfl) rfl c6 rfl dX4_copy_17 ?_
  refine h_callIV (As := [.int (gI (nO G q1 3) x 0), .int (gI (nO G q1 3) x 1), .int (gI (nO G q1 3) x 2), .int (gI (nO G q1 3) x 3)]) (rest := [va_rf (some q1)]) F 4 rfl rfl (lw_meth q354) q137 q352 q353 rfl vm_X4_init.2 (by decide) rfl rfl (room_of (sc_R sc_nil) (Nat.le_of_ble_eq_true rfl)) dX4_copy_20 (fun Gr7 br7 sr7 F => ?_)
  refine s_astore_n (lv' := [(0, va_rf (some x)), (1, va_rf (some q1))]) (cat_R cat_nil) dX4_copy_23 rfl (by decide) rfl [1, 0] rfl ?_
  refine g_aload_n dX4_copy_24 rfl 1 rfl ?_
  refine g_aload_n dX4_copy_25 rfl 0 rfl ?_
  obtain ⟨c9, F⟩ := F
  refine h_get (v := .int (gI Gr7 x 4)) 3 4 (C := RX4) (T := TX4) (N := 5) rfl in_X4 (by decide) q364 (Or.inl rfl) rfl c9 rfl dX4_copy_26 ?_
  obtain ⟨c10, F⟩ := F
  obtain ⟨m11, F⟩ := F
  obtain ⟨k12, F⟩ := F
  refine h_putI (mi := mX4_copy) 3 4 (C := RX4) (T := TX4) (N := 5) rfl in_X4 tyX4_ok nmX4 (by decide) q364 (Or.inl rfl) (Or.inl rfl) rfl rfl c10 m11 k12.1 k12.2 dX4_copy_29 ?_
  refine g_aload_n dX4_copy_32 rfl 1 rfl ?_
  exact g_aret (r := (some q1)) rfl (Or.inl ⟨_, rfl⟩) dX4_copy_33 F
theorem rX4_init_0 {Γ : GE} {l : Launch} {h MC MS : Nat} {Q : Option Value → GH → Prop} {bc bs : Nat} {G : GH} (x : Nat) (p1 : Int32) (p2 : Int32) (p3 : Int32) (p4 : Int32) (F : (0 < h ∧ gC G x = kO 3 ∧ gM G x = true ∧ Q none (sI (sI (sI (sI G x 0 p1) x 1 p2) x 2 p3) x 3 p4))) : GW Γ l mX4_init h MC MS Q 0 [(0, va_rf (some x)), (1, .int p1), (2, .int p2), (3, .int p3), (4, .int p4)] [] G bc bs := by
  refine g_aload_n dX4_init_0 rfl 0 rfl ?_
  obtain ⟨k1, F⟩ := F
  refine h_objInit q355 q152 q153 rfl dX4_init_1 k1 (room_of sc_nil (Nat.le_of_ble_eq_true rfl)) ?_
  refine g_aload_n dX4_init_4 rfl 0 rfl ?_
  refine g_iload_n dX4_init_5 rfl 1 rfl ?_
  obtain ⟨c2, F⟩ := F
  obtain ⟨m3, F⟩ := F
  refine h_putI (mi := mX4_init) 3 0 (C := RX4) (T := TX4) (N := 5) rfl in_X4 tyX4_ok nmX4 (by decide) q356 (Or.inl rfl) (Or.inr ⟨rfl, rfl⟩) rfl rfl c2 m3 rfl rfl dX4_init_6 ?_
  refine g_aload_n dX4_init_9 rfl 0 rfl ?_
  refine g_iload_n dX4_init_10 rfl 2 rfl ?_
  refine h_putI (mi := mX4_init) 3 1 (C := RX4) (T := TX4) (N := 5) rfl in_X4 tyX4_ok nmX4 (by decide) q358 (Or.inl rfl) (Or.inr ⟨rfl, rfl⟩) rfl rfl c2 m3 rfl rfl dX4_init_11 ?_
  refine g_aload_n dX4_init_14 rfl 0 rfl ?_
  refine g_iload_n dX4_init_15 rfl 3 rfl ?_
  refine h_putI (mi := mX4_init) 3 2 (C := RX4) (T := TX4) (N := 5) rfl in_X4 tyX4_ok nmX4 (by decide) q360 (Or.inl rfl) (Or.inl rfl) rfl rfl c2 m3 rfl rfl dX4_init_16 ?_
  refine g_aload_n dX4_init_19 rfl 0 rfl ?_
  refine g_iload dX4_init_20 4 rfl ?_
  refine h_putI (mi := mX4_init) 3 3 (C := RX4) (T := TX4) (N := 5) rfl in_X4 tyX4_ok nmX4 (by decide) q362 (Or.inl rfl) (Or.inl rfl) rfl rfl c2 m3 rfl rfl dX4_init_22 ?_
  exact g_vret rfl dX4_init_25 F
theorem rX4_arrival_0 {Γ : GE} {l : Launch} {h MC MS : Nat} {Q : Option Value → GH → Prop} {bc bs : Nat} {G : GH} (x : Nat) (F : (gC G x = kO 3 ∧ Q (some (.int (gI G x 3))) G)) : GW Γ l mX4_arrival h MC MS Q 0 [(0, va_rf (some x))] [] G bc bs := by
  refine g_aload_n dX4_arrival_0 rfl 0 rfl ?_
  obtain ⟨c1, F⟩ := F
  refine h_get (v := .int (gI G x 3)) 3 3 (C := RX4) (T := TX4) (N := 5) rfl in_X4 (by decide) q362 (Or.inl rfl) rfl c1 rfl dX4_arrival_1 ?_
  exact g_iret rfl dX4_arrival_4 F
theorem rX4_departure_0 {Γ : GE} {l : Launch} {h MC MS : Nat} {Q : Option Value → GH → Prop} {bc bs : Nat} {G : GH} (x : Nat) (F : (gC G x = kO 3 ∧ Q (some (.int (gI G x 2))) G)) : GW Γ l mX4_departure h MC MS Q 0 [(0, va_rf (some x))] [] G bc bs := by
  refine g_aload_n dX4_departure_0 rfl 0 rfl ?_
  obtain ⟨c1, F⟩ := F
  refine h_get (v := .int (gI G x 2)) 3 2 (C := RX4) (T := TX4) (N := 5) rfl in_X4 (by decide) q360 (Or.inl rfl) rfl c1 rfl dX4_departure_1 ?_
  exact g_iret rfl dX4_departure_4 F
theorem rX4_way_0 {Γ : GE} {l : Launch} {h MC MS : Nat} {Q : Option Value → GH → Prop} {bc bs : Nat} {G : GH} (x : Nat) (F : (1 ≤ bc ∧ 4 ≤ bs ∧ ∀ q1, gC G q1 = 0 → gA Γ q1 → cV Γ l h mJ4_init [.ref q1] (nO G q1 14) (bc - 1) (bs - 4) fun Gr6 br6 sr6 => gC Gr6 x = kO 3 ∧ gC Gr6 q1 = kO 14 ∧ cR Γ l h mJ4_append [.ref q1, .int (gI Gr6 x 0)] Gr6 br6 sr6 fun r9 Gr9 br9 sr9 => ∃ a13, r9 = some a13 ∧ gC Gr9 a13 = kO 14 ∧ cR Γ l h mJ4_append_2 [.ref a13, va_rf (some (Γ.2.2.2 20))] Gr9 br9 sr9 fun r12 Gr12 br12 sr12 => gC Gr12 x = kO 3 ∧ ∃ a19, r12 = some a19 ∧ gC Gr12 a19 = kO 14 ∧ cR Γ l h mJ4_append [.ref a19, .int (gI Gr12 x 1)] Gr12 br12 sr12 fun r18 Gr18 br18 sr18 => ∃ a24, r18 = some a24 ∧ gC Gr18 a24 = kO 14 ∧ cR Γ l h mJ4_toString [.ref a24] Gr18 br18 sr18 fun r23 Gr23 br23 sr23 => Q (some (va_rf r23)) Gr23)) : GW Γ l mX4_way h MC MS Q 0 [(0, va_rf (some x))] [] G bc bs := by
  obtain ⟨k3, F⟩ := F
  obtain ⟨k4, F⟩ := F
  refine g_new (C := RJ4) (T := TJ4) (N := 4) 14 rfl in_J4 tyJ4_ok nd_J4 q1516 q202 q114 k3 k4 dX4_way_0 (fun q1 z2 z2' => ?_)
  have F := F q1 z2 z2'
  refine g_dup dX4_way_3 (va_rf_cat _) ?_
  refine h_callIV (As := []) (rest := [va_rf (some q1)]) F 0 rfl rfl (lw_meth q205) q114 q1517 q204 rfl vm_J4_init.2 (by decide) rfl rfl (room_of (sc_R sc_nil) (Nat.le_of_ble_eq_true rfl)) dX4_way_4 (fun Gr6 br6 sr6 F => ?_)
  refine g_aload_n dX4_way_7 rfl 0 rfl ?_
  obtain ⟨c8, F⟩ := F
  refine h_get (v := .int (gI Gr6 x 0)) 3 0 (C := RX4) (T := TX4) (N := 5) rfl in_X4 (by decide) q356 (Or.inl rfl) rfl c8 rfl dX4_way_8 ?_
  obtain ⟨c10, F⟩ := F
  refine h_callVR (ci := 14) (C := RJ4) (T := TJ4) (N := 4) (As := [.int (gI Gr6 x 0)]) (rest := []) F 1 rfl rfl (lw_V q1518 q1519 q1520 q114 q1521) vm_J4_append (by decide) rfl c10 rfl (room_of sc_nil (Nat.le_of_ble_eq_true rfl)) dX4_way_11 (fun r9 Gr9 br9 sr9 F => ?_)
  refine h_ldcS (tx := ">") 20 (by decide +kernel) dX4_way_14 ?_
  obtain ⟨a13, e14, F⟩ := F
  obtain ⟨c15, F⟩ := F
  refine h_callVR (ci := 14) (C := RJ4) (T := TJ4) (N := 4) (As := [va_rf (some (Γ.2.2.2 20))]) (rest := []) F 1 rfl rfl (lw_V q1573 q1574 q1575 q114 q1576) vm_J4_append_2 (by decide) e14 c15 rfl (room_of sc_nil (Nat.le_of_ble_eq_true rfl)) dX4_way_16 (fun r12 Gr12 br12 sr12 F => ?_)
  refine g_aload_n dX4_way_19 rfl 0 rfl ?_
  obtain ⟨c17, F⟩ := F
  refine h_get (v := .int (gI Gr12 x 1)) 3 1 (C := RX4) (T := TX4) (N := 5) rfl in_X4 (by decide) q358 (Or.inl rfl) rfl c17 rfl dX4_way_20 ?_
  obtain ⟨a19, e20, F⟩ := F
  obtain ⟨c21, F⟩ := F
  refine h_callVR (ci := 14) (C := RJ4) (T := TJ4) (N := 4) (As := [.int (gI Gr12 x 1)]) (rest := []) F 1 rfl rfl (lw_V q1518 q1519 q1520 q114 q1521) vm_J4_append (by decide) e20 c21 rfl (room_of sc_nil (Nat.le_of_ble_eq_true rfl)) dX4_way_23 (fun r18 Gr18 br18 sr18 F => ?_)
  obtain ⟨a24, e25, F⟩ := F
  obtain ⟨c26, F⟩ := F
  refine h_callVR (ci := 14) (C := RJ4) (T := TJ4) (N := 4) (As := []) (rest := []) F 0 rfl rfl (lw_V q1625 q1626 q1627 q114 q1628) vm_J4_toString (by decide) e25 c26 rfl (room_of sc_nil (Nat.le_of_ble_eq_true rfl)) dX4_way_26 (fun r23 Gr23 br23 sr23 F => ?_)
  exact g_aret (r := r23) rfl (Or.inl ⟨_, rfl⟩) dX4_way_29 F
theorem rX7_init_0 {Γ : GE} {l : Launch} {h MC MS : Nat} {Q : Option Value → GH → Prop} {bc bs : Nat} {G : GH} (x : Nat) (p1 : Int32) (p2 : Int32) (p3 : Int32) (p4 : Int32) (F : (0 < h ∧ gC G x = kO 6 ∧ gM G x = true ∧ Q none (sI (sI (sI (sI G x 0 p1) x 1 p2) x 2 p3) x 3 p4))) : GW Γ l mX7_init h MC MS Q 0 [(0, va_rf (some x)), (1, .int p1), (2, .int p2), (3, .int p3), (4, .int p4)] [] G bc bs := by
  refine g_aload_n dX7_init_0 rfl 0 rfl ?_
  obtain ⟨k1, F⟩ := F
  refine h_objInit q1373 q152 q153 rfl dX7_init_1 k1 (room_of sc_nil (Nat.le_of_ble_eq_true rfl)) ?_
  refine g_aload_n dX7_init_4 rfl 0 rfl ?_
  refine g_iload_n dX7_init_5 rfl 1 rfl ?_
  obtain ⟨c2, F⟩ := F
  obtain ⟨m3, F⟩ := F
  refine h_putI (mi := mX7_init) 6 0 (C := RX7) (T := TX7) (N := 4) rfl in_X7 tyX7_ok nmX7 (by decide) q1374 (Or.inl rfl) (Or.inr ⟨rfl, rfl⟩) rfl rfl c2 m3 rfl rfl dX7_init_6 ?_
  refine g_aload_n dX7_init_9 rfl 0 rfl ?_
  refine g_iload_n dX7_init_10 rfl 2 rfl ?_
  refine h_putI (mi := mX7_init) 6 1 (C := RX7) (T := TX7) (N := 4) rfl in_X7 tyX7_ok nmX7 (by decide) q1376 (Or.inl rfl) (Or.inr ⟨rfl, rfl⟩) rfl rfl c2 m3 rfl rfl dX7_init_11 ?_
  refine g_aload_n dX7_init_14 rfl 0 rfl ?_
  refine g_iload_n dX7_init_15 rfl 3 rfl ?_
  refine h_putI (mi := mX7_init) 6 2 (C := RX7) (T := TX7) (N := 4) rfl in_X7 tyX7_ok nmX7 (by decide) q1378 (Or.inl rfl) (Or.inr ⟨rfl, rfl⟩) rfl rfl c2 m3 rfl rfl dX7_init_16 ?_
  refine g_aload_n dX7_init_19 rfl 0 rfl ?_
  refine g_iload dX7_init_20 4 rfl ?_
  refine h_putI (mi := mX7_init) 6 3 (C := RX7) (T := TX7) (N := 4) rfl in_X7 tyX7_ok nmX7 (by decide) q1380 (Or.inl rfl) (Or.inr ⟨rfl, rfl⟩) rfl rfl c2 m3 rfl rfl dX7_init_22 ?_
  exact g_vret rfl dX7_init_25 F
theorem rX7_price_0 {Γ : GE} {l : Launch} {h MC MS : Nat} {Q : Option Value → GH → Prop} {bc bs : Nat} {G : GH} (x : Nat) (F : (gC G x = kO 6 ∧ Q (some (.int (gI G x 2))) G)) : GW Γ l mX7_price h MC MS Q 0 [(0, va_rf (some x))] [] G bc bs := by
  refine g_aload_n dX7_price_0 rfl 0 rfl ?_
  obtain ⟨c1, F⟩ := F
  refine h_get (v := .int (gI G x 2)) 6 2 (C := RX7) (T := TX7) (N := 4) rfl in_X7 (by decide) q1378 (Or.inl rfl) rfl c1 rfl dX7_price_1 ?_
  exact g_iret rfl dX7_price_4 F
theorem rX7_minutes_0 {Γ : GE} {l : Launch} {h MC MS : Nat} {Q : Option Value → GH → Prop} {bc bs : Nat} {G : GH} (x : Nat) (F : (gC G x = kO 6 ∧ Q (some (.int (gI G x 3))) G)) : GW Γ l mX7_minutes h MC MS Q 0 [(0, va_rf (some x))] [] G bc bs := by
  refine g_aload_n dX7_minutes_0 rfl 0 rfl ?_
  obtain ⟨c1, F⟩ := F
  refine h_get (v := .int (gI G x 3)) 6 3 (C := RX7) (T := TX7) (N := 4) rfl in_X7 (by decide) q1380 (Or.inl rfl) rfl c1 rfl dX7_minutes_1 ?_
  exact g_iret rfl dX7_minutes_4 F
theorem rX0_init_0 {Γ : GE} {l : Launch} {h MC MS : Nat} {Q : Option Value → GH → Prop} {bc bs : Nat} {G : GH} (x : Nat) (F : (0 < h ∧ 1 ≤ bc ∧ 3 ≤ bs ∧ ∀ q2, gC G q2 = 0 → gA Γ q2 → cV Γ l h mX1_init [.ref q2] (nO G q2 2) (bc - 1) (bs - 3) fun Gr7 br7 sr7 => gC Gr7 x = kO 0 ∧ gM Gr7 x = true ∧ 1 ≤ br7 ∧ 8 ≤ sr7 ∧ ∀ q11, gC (sR Gr7 x 0 (some q2)) q11 = 0 → gA Γ q11 → gC (nA (sR Gr7 x 0 (some q2)) q11 5 8) x = kO 0 ∧ gM (nA (sR Gr7 x 0 (some q2)) q11 5 8) x = true ∧ 1 ≤ (br7 - 1) ∧ 30 ≤ (sr7 - 8) ∧ ∀ q18, gC (sR (nA (sR Gr7 x 0 (some q2)) q11 5 8) x 2 (some q11)) q18 = 0 → gA Γ q18 → gC (nA (sR (nA (sR Gr7 x 0 (some q2)) q11 5 8) x 2 (some q11)) q18 0 30) x = kO 0 ∧ gM (nA (sR (nA (sR Gr7 x 0 (some q2)) q11 5 8) x 2 (some q11)) q18 0 30) x = true ∧ 1 ≤ ((br7 - 1) - 1) ∧ 30 ≤ ((sr7 - 8) - 30) ∧ ∀ q25, gC (sR (nA (sR (nA (sR Gr7 x 0 (some q2)) q11 5 8) x 2 (some q11)) q18 0 30) x 5 (some q18)) q25 = 0 → gA Γ q25 → gC (nA (sR (nA (sR (nA (sR Gr7 x 0 (some q2)) q11 5 8) x 2 (some q11)) q18 0 30) x 5 (some q18)) q25 0 30) x = kO 0 ∧ gM (nA (sR (nA (sR (nA (sR Gr7 x 0 (some q2)) q11 5 8) x 2 (some q11)) q18 0 30) x 5 (some q18)) q25 0 30) x = true ∧ 1 ≤ (((br7 - 1) - 1) - 1) ∧ 30 ≤ (((sr7 - 8) - 30) - 30) ∧ ∀ q32, gC (sR (nA (sR (nA (sR (nA (sR Gr7 x 0 (some q2)) q11 5 8) x 2 (some q11)) q18 0 30) x 5 (some q18)) q25 0 30) x 6 (some q25)) q32 = 0 → gA Γ q32 → gC (nA (sR (nA (sR (nA (sR (nA (sR Gr7 x 0 (some q2)) q11 5 8) x 2 (some q11)) q18 0 30) x 5 (some q18)) q25 0 30) x 6 (some q25)) q32 1 30) x = kO 0 ∧ gM (nA (sR (nA (sR (nA (sR (nA (sR Gr7 x 0 (some q2)) q11 5 8) x 2 (some q11)) q18 0 30) x 5 (some q18)) q25 0 30) x 6 (some q25)) q32 1 30) x = true ∧ 1 ≤ ((((br7 - 1) - 1) - 1) - 1) ∧ 24 ≤ ((((sr7 - 8) - 30) - 30) - 30) ∧ ∀ q39, gC (sR (nA (sR (nA (sR (nA (sR (nA (sR Gr7 x 0 (some q2)) q11 5 8) x 2 (some q11)) q18 0 30) x 5 (some q18)) q25 0 30) x 6 (some q25)) q32 1 30) x 7 (some q32)) q39 = 0 → gA Γ q39 → gC (nA (sR (nA (sR (nA (sR (nA (sR (nA (sR Gr7 x 0 (some q2)) q11 5 8) x 2 (some q11)) q18 0 30) x 5 (some q18)) q25 0 30) x 6 (some q25)) q32 1 30) x 7 (some q32)) q39 0 24) x = kO 0 ∧ gM (nA (sR (nA (sR (nA (sR (nA (sR (nA (sR Gr7 x 0 (some q2)) q11 5 8) x 2 (some q11)) q18 0 30) x 5 (some q18)) q25 0 30) x 6 (some q25)) q32 1 30) x 7 (some q32)) q39 0 24) x = true ∧ 1 ≤ (((((br7 - 1) - 1) - 1) - 1) - 1) ∧ 24 ≤ (((((sr7 - 8) - 30) - 30) - 30) - 24) ∧ ∀ q46, gC (sR (nA (sR (nA (sR (nA (sR (nA (sR (nA (sR Gr7 x 0 (some q2)) q11 5 8) x 2 (some q11)) q18 0 30) x 5 (some q18)) q25 0 30) x 6 (some q25)) q32 1 30) x 7 (some q32)) q39 0 24) x 13 (some q39)) q46 = 0 → gA Γ q46 → gC (nA (sR (nA (sR (nA (sR (nA (sR (nA (sR (nA (sR Gr7 x 0 (some q2)) q11 5 8) x 2 (some q11)) q18 0 30) x 5 (some q18)) q25 0 30) x 6 (some q25)) q32 1 30) x 7 (some q32)) q39 0 24) x 13 (some q39)) q46 0 24) x = kO 0 ∧ gM (nA (sR (nA (sR (nA (sR (nA (sR (nA (sR (nA (sR Gr7 x 0 (some q2)) q11 5 8) x 2 (some q11)) q18 0 30) x 5 (some q18)) q25 0 30) x 6 (some q25)) q32 1 30) x 7 (some q32)) q39 0 24) x 13 (some q39)) q46 0 24) x = true ∧ 1 ≤ ((((((br7 - 1) - 1) - 1) - 1) - 1) - 1) ∧ 576 ≤ ((((((sr7 - 8) - 30) - 30) - 30) - 24) - 24) ∧ ∀ q53, gC (sR (nA (sR (nA (sR (nA (sR (nA (sR (nA (sR (nA (sR Gr7 x 0 (some q2)) q11 5 8) x 2 (some q11)) q18 0 30) x 5 (some q18)) q25 0 30) x 6 (some q25)) q32 1 30) x 7 (some q32)) q39 0 24) x 13 (some q39)) q46 0 24) x 14 (some q46)) q53 = 0 → gA Γ q53 → gC (nA (sR (nA (sR (nA (sR (nA (sR (nA (sR (nA (sR (nA (sR Gr7 x 0 (some q2)) q11 5 8) x 2 (some q11)) q18 0 30) x 5 (some q18)) q25 0 30) x 6 (some q25)) q32 1 30) x 7 (some q32)) q39 0 24) x 13 (some q39)) q46 0 24) x 14 (some q46)) q53 0 576) x = kO 0 ∧ gM (nA (sR (nA (sR (nA (sR (nA (sR (nA (sR (nA (sR (nA (sR Gr7 x 0 (some q2)) q11 5 8) x 2 (some q11)) q18 0 30) x 5 (some q18)) q25 0 30) x 6 (some q25)) q32 1 30) x 7 (some q32)) q39 0 24) x 13 (some q39)) q46 0 24) x 14 (some q46)) q53 0 576) x = true ∧ 1 ≤ (((((((br7 - 1) - 1) - 1) - 1) - 1) - 1) - 1) ∧ 6 ≤ (((((((sr7 - 8) - 30) - 30) - 30) - 24) - 24) - 576) ∧ ∀ q60, gC (sR (nA (sR (nA (sR (nA (sR (nA (sR (nA (sR (nA (sR (nA (sR Gr7 x 0 (some q2)) q11 5 8) x 2 (some q11)) q18 0 30) x 5 (some q18)) q25 0 30) x 6 (some q25)) q32 1 30) x 7 (some q32)) q39 0 24) x 13 (some q39)) q46 0 24) x 14 (some q46)) q53 0 576) x 15 (some q53)) q60 = 0 → gA Γ q60 → gC (nA (sR (nA (sR (nA (sR (nA (sR (nA (sR (nA (sR (nA (sR (nA (sR Gr7 x 0 (some q2)) q11 5 8) x 2 (some q11)) q18 0 30) x 5 (some q18)) q25 0 30) x 6 (some q25)) q32 1 30) x 7 (some q32)) q39 0 24) x 13 (some q39)) q46 0 24) x 14 (some q46)) q53 0 576) x 15 (some q53)) q60 0 6) x = kO 0 ∧ gM (nA (sR (nA (sR (nA (sR (nA (sR (nA (sR (nA (sR (nA (sR (nA (sR Gr7 x 0 (some q2)) q11 5 8) x 2 (some q11)) q18 0 30) x 5 (some q18)) q25 0 30) x 6 (some q25)) q32 1 30) x 7 (some q32)) q39 0 24) x 13 (some q39)) q46 0 24) x 14 (some q46)) q53 0 576) x 15 (some q53)) q60 0 6) x = true ∧ 1 ≤ ((((((((br7 - 1) - 1) - 1) - 1) - 1) - 1) - 1) - 1) ∧ 6 ≤ ((((((((sr7 - 8) - 30) - 30) - 30) - 24) - 24) - 576) - 6) ∧ ∀ q67, gC (sR (nA (sR (nA (sR (nA (sR (nA (sR (nA (sR (nA (sR (nA (sR (nA (sR Gr7 x 0 (some q2)) q11 5 8) x 2 (some q11)) q18 0 30) x 5 (some q18)) q25 0 30) x 6 (some q25)) q32 1 30) x 7 (some q32)) q39 0 24) x 13 (some q39)) q46 0 24) x 14 (some q46)) q53 0 576) x 15 (some q53)) q60 0 6) x 17 (some q60)) q67 = 0 → gA Γ q67 → gC (nA (sR (nA (sR (nA (sR (nA (sR (nA (sR (nA (sR (nA (sR (nA (sR (nA (sR Gr7 x 0 (some q2)) q11 5 8) x 2 (some q11)) q18 0 30) x 5 (some q18)) q25 0 30) x 6 (some q25)) q32 1 30) x 7 (some q32)) q39 0 24) x 13 (some q39)) q46 0 24) x 14 (some q46)) q53 0 576) x 15 (some q53)) q60 0 6) x 17 (some q60)) q67 0 6) x = kO 0 ∧ gM (nA (sR (nA (sR (nA (sR (nA (sR (nA (sR (nA (sR (nA (sR (nA (sR (nA (sR Gr7 x 0 (some q2)) q11 5 8) x 2 (some q11)) q18 0 30) x 5 (some q18)) q25 0 30) x 6 (some q25)) q32 1 30) x 7 (some q32)) q39 0 24) x 13 (some q39)) q46 0 24) x 14 (some q46)) q53 0 576) x 15 (some q53)) q60 0 6) x 17 (some q60)) q67 0 6) x = true ∧ 1 ≤ (((((((((br7 - 1) - 1) - 1) - 1) - 1) - 1) - 1) - 1) - 1) ∧ 4 ≤ (((((((((sr7 - 8) - 30) - 30) - 30) - 24) - 24) - 576) - 6) - 6) ∧ ∀ q74, gC (sR (nA (sR (nA (sR (nA (sR (nA (sR (nA (sR (nA (sR (nA (sR (nA (sR (nA (sR Gr7 x 0 (some q2)) q11 5 8) x 2 (some q11)) q18 0 30) x 5 (some q18)) q25 0 30) x 6 (some q25)) q32 1 30) x 7 (some q32)) q39 0 24) x 13 (some q39)) q46 0 24) x 14 (some q46)) q53 0 576) x 15 (some q53)) q60 0 6) x 17 (some q60)) q67 0 6) x 18 (some q67)) q74 = 0 → gA Γ q74 → cV Γ l h mJ4_init [.ref q74] (nO (sR (nA (sR (nA (sR (nA (sR (nA (sR (nA (sR (nA (sR (nA (sR (nA (sR (nA (sR Gr7 x 0 (some q2)) q11 5 8) x 2 (some q11)) q18 0 30) x 5 (some q18)) q25 0 30) x 6 (some q25)) q32 1 30) x 7 (some q32)) q39 0 24) x 13 (some q39)) q46 0 24) x 14 (some q46)) q53 0 576) x 15 (some q53)) q60 0 6) x 17 (some q60)) q67 0 6) x 18 (some q67)) q74 14) ((((((((((br7 - 1) - 1) - 1) - 1) - 1) - 1) - 1) - 1) - 1) - 1) ((((((((((sr7 - 8) - 30) - 30) - 30) - 24) - 24) - 576) - 6) - 6) - 4) fun Gr79 br79 sr79 => gC Gr79 x = kO 0 ∧ gM Gr79 x = true ∧ 1 ≤ br79 ∧ 60 ≤ sr79 ∧ ∀ q83, gC (sR Gr79 x 21 (some q74)) q83 = 0 → gA Γ q83 → gC (nA (sR Gr79 x 21 (some q74)) q83 6 60) x = kO 0 ∧ gM (nA (sR Gr79 x 21 (some q74)) q83 6 60) x = true ∧ 1 ≤ (br79 - 1) ∧ 240 ≤ (sr79 - 60) ∧ ∀ q90, gC (sR (nA (sR Gr79 x 21 (some q74)) q83 6 60) x 23 (some q83)) q90 = 0 → gA Γ q90 → gC (nA (sR (nA (sR Gr79 x 21 (some q74)) q83 6 60) x 23 (some q83)) q90 0 240) x = kO 0 ∧ gM (nA (sR (nA (sR Gr79 x 21 (some q74)) q83 6 60) x 23 (some q83)) q90 0 240) x = true ∧ Q none (sR (nA (sR (nA (sR Gr79 x 21 (some q74)) q83 6 60) x 23 (some q83)) q90 0 240) x 24 (some q90)))) : GW Γ l mX0_init h MC MS Q 0 [(0, va_rf (some x))] [] G bc bs := by
  refine g_aload_n dX0_init_0 rfl 0 rfl ?_
  obtain ⟨k1, F⟩ := F
  refine h_objInit q151 q152 q153 rfl dX0_init_1 k1 (room_of sc_nil (Nat.le_of_ble_eq_true rfl)) ?_
  refine g_aload_n dX0_init_4 rfl 0 rfl ?_
  obtain ⟨k4, F⟩ := F
  obtain ⟨k5, F⟩ := F
  refine g_new (C := RX1) (T := TX1) (N := 3) 2 rfl in_X1 tyX1_ok nd_X1 q154 q155 q109 k4 k5 dX0_init_5 (fun q2 z3 z3' => ?_)
  have F := F q2 z3 z3'
  refine g_dup dX0_init_8 (va_rf_cat _) ?_
  refine h_callINV (host := "CrewPairer") (As := []) (rest := [va_rf (some q2), va_rf (some x)]) F 0 rfl rfl (lw_meth q158) q109 (by decide +kernel) q157 rfl vm_X1_init.2 (by decide) rfl rfl (room_of (sc_R (sc_R sc_nil)) (Nat.le_of_ble_eq_true rfl)) dX0_init_9 (fun Gr7 br7 sr7 F => ?_)
  obtain ⟨c9, F⟩ := F
  obtain ⟨m10, F⟩ := F
  refine h_putR (mi := mX0_init) 0 0 (C := RX0) (T := TX0) (N := 25) rfl in_X0 tyX0_ok nmX0 (by decide) q237 (Or.inl rfl) (Or.inl rfl) rfl rfl rfl c9 m10 dX0_init_12 ?_
  refine g_aload_n dX0_init_15 rfl 0 rfl ?_
  refine g_bipush (v := 8) dX0_init_16 (by decide) ?_
  obtain ⟨k12, F⟩ := F
  obtain ⟨k13, F⟩ := F
  refine h_newq 5 8 (by decide) (by decide) q154 (by decide +kernel) (by decide) (by decide) (Nat.le_of_ble_eq_true rfl) k12 k13 dX0_init_18 (fun q11 z14 z14' => ?_)
  have F := F q11 z14 z14'
  obtain ⟨c16, F⟩ := F
  obtain ⟨m17, F⟩ := F
  refine h_putR (mi := mX0_init) 0 2 (C := RX0) (T := TX0) (N := 25) rfl in_X0 tyX0_ok nmX0 (by decide) q239 (Or.inl rfl) (Or.inr ⟨rfl, rfl⟩) rfl rfl rfl c16 m17 dX0_init_21 ?_
  refine g_aload_n dX0_init_24 rfl 0 rfl ?_
  refine g_bipush (v := 30) dX0_init_25 (by decide) ?_
  obtain ⟨k19, F⟩ := F
  obtain ⟨k20, F⟩ := F
  refine g_newa (atype := .int) 0 30 (by decide) rfl q199 (by decide) (by decide) (Nat.le_of_ble_eq_true rfl) k19 k20 dX0_init_27 (fun q18 z21 z21' => ?_)
  have F := F q18 z21 z21'
  obtain ⟨c23, F⟩ := F
  obtain ⟨m24, F⟩ := F
  refine h_putR (mi := mX0_init) 0 5 (C := RX0) (T := TX0) (N := 25) rfl in_X0 tyX0_ok nmX0 (by decide) q242 (Or.inl rfl) (Or.inr ⟨rfl, rfl⟩) rfl rfl rfl c23 m24 dX0_init_29 ?_
  refine g_aload_n dX0_init_32 rfl 0 rfl ?_
  refine g_bipush (v := 30) dX0_init_33 (by decide) ?_
  obtain ⟨k26, F⟩ := F
  obtain ⟨k27, F⟩ := F
  refine g_newa (atype := .int) 0 30 (by decide) rfl q199 (by decide) (by decide) (Nat.le_of_ble_eq_true rfl) k26 k27 dX0_init_35 (fun q25 z28 z28' => ?_)
  have F := F q25 z28 z28'
  obtain ⟨c30, F⟩ := F
  obtain ⟨m31, F⟩ := F
  refine h_putR (mi := mX0_init) 0 6 (C := RX0) (T := TX0) (N := 25) rfl in_X0 tyX0_ok nmX0 (by decide) q243 (Or.inl rfl) (Or.inr ⟨rfl, rfl⟩) rfl rfl rfl c30 m31 dX0_init_37 ?_
  refine g_aload_n dX0_init_40 rfl 0 rfl ?_
  refine g_bipush (v := 30) dX0_init_41 (by decide) ?_
  obtain ⟨k33, F⟩ := F
  obtain ⟨k34, F⟩ := F
  refine g_newa (atype := .boolean) 1 30 (by decide) rfl q233 (by decide) (by decide) (Nat.le_of_ble_eq_true rfl) k33 k34 dX0_init_43 (fun q32 z35 z35' => ?_)
  have F := F q32 z35 z35'
  obtain ⟨c37, F⟩ := F
  obtain ⟨m38, F⟩ := F
  refine h_putR (mi := mX0_init) 0 7 (C := RX0) (T := TX0) (N := 25) rfl in_X0 tyX0_ok nmX0 (by decide) q244 (Or.inl rfl) (Or.inr ⟨rfl, rfl⟩) rfl rfl rfl c37 m38 dX0_init_45 ?_
  refine g_aload_n dX0_init_48 rfl 0 rfl ?_
  refine g_bipush (v := 24) dX0_init_49 (by decide) ?_
  obtain ⟨k40, F⟩ := F
  obtain ⟨k41, F⟩ := F
  refine g_newa (atype := .int) 0 24 (by decide) rfl q199 (by decide) (by decide) (Nat.le_of_ble_eq_true rfl) k40 k41 dX0_init_51 (fun q39 z42 z42' => ?_)
  have F := F q39 z42 z42'
  obtain ⟨c44, F⟩ := F
  obtain ⟨m45, F⟩ := F
  refine h_putR (mi := mX0_init) 0 13 (C := RX0) (T := TX0) (N := 25) rfl in_X0 tyX0_ok nmX0 (by decide) q250 (Or.inl rfl) (Or.inr ⟨rfl, rfl⟩) rfl rfl rfl c44 m45 dX0_init_53 ?_
  refine g_aload_n dX0_init_56 rfl 0 rfl ?_
  refine g_bipush (v := 24) dX0_init_57 (by decide) ?_
  obtain ⟨k47, F⟩ := F
  obtain ⟨k48, F⟩ := F
  refine g_newa (atype := .int) 0 24 (by decide) rfl q199 (by decide) (by decide) (Nat.le_of_ble_eq_true rfl) k47 k48 dX0_init_59 (fun q46 z49 z49' => ?_)
  have F := F q46 z49 z49'
  obtain ⟨c51, F⟩ := F
  obtain ⟨m52, F⟩ := F
  refine h_putR (mi := mX0_init) 0 14 (C := RX0) (T := TX0) (N := 25) rfl in_X0 tyX0_ok nmX0 (by decide) q251 (Or.inl rfl) (Or.inr ⟨rfl, rfl⟩) rfl rfl rfl c51 m52 dX0_init_61 ?_
  refine g_aload_n dX0_init_64 rfl 0 rfl ?_
  refine g_sipush (v := 576) dX0_init_65 (by decide) ?_
  obtain ⟨k54, F⟩ := F
  obtain ⟨k55, F⟩ := F
  refine g_newa (atype := .int) 0 576 (by decide) rfl q199 (by decide) (by decide) (Nat.le_of_ble_eq_true rfl) k54 k55 dX0_init_68 (fun q53 z56 z56' => ?_)
  have F := F q53 z56 z56'
  obtain ⟨c58, F⟩ := F
  obtain ⟨m59, F⟩ := F
  refine h_putR (mi := mX0_init) 0 15 (C := RX0) (T := TX0) (N := 25) rfl in_X0 tyX0_ok nmX0 (by decide) q252 (Or.inl rfl) (Or.inr ⟨rfl, rfl⟩) rfl rfl rfl c58 m59 dX0_init_70 ?_
  refine g_aload_n dX0_init_73 rfl 0 rfl ?_
  refine g_bipush (v := 6) dX0_init_74 (by decide) ?_
  obtain ⟨k61, F⟩ := F
  obtain ⟨k62, F⟩ := F
  refine g_newa (atype := .int) 0 6 (by decide) rfl q199 (by decide) (by decide) (Nat.le_of_ble_eq_true rfl) k61 k62 dX0_init_76 (fun q60 z63 z63' => ?_)
  have F := F q60 z63 z63'
  obtain ⟨c65, F⟩ := F
  obtain ⟨m66, F⟩ := F
  refine h_putR (mi := mX0_init) 0 17 (C := RX0) (T := TX0) (N := 25) rfl in_X0 tyX0_ok nmX0 (by decide) q254 (Or.inl rfl) (Or.inr ⟨rfl, rfl⟩) rfl rfl rfl c65 m66 dX0_init_78 ?_
  refine g_aload_n dX0_init_81 rfl 0 rfl ?_
  refine g_bipush (v := 6) dX0_init_82 (by decide) ?_
  obtain ⟨k68, F⟩ := F
  obtain ⟨k69, F⟩ := F
  refine g_newa (atype := .int) 0 6 (by decide) rfl q199 (by decide) (by decide) (Nat.le_of_ble_eq_true rfl) k68 k69 dX0_init_84 (fun q67 z70 z70' => ?_)
  have F := F q67 z70 z70'
  obtain ⟨c72, F⟩ := F
  obtain ⟨m73, F⟩ := F
  refine h_putR (mi := mX0_init) 0 18 (C := RX0) (T := TX0) (N := 25) rfl in_X0 tyX0_ok nmX0 (by decide) q255 (Or.inl rfl) (Or.inr ⟨rfl, rfl⟩) rfl rfl rfl c72 m73 dX0_init_86 ?_
  refine g_aload_n dX0_init_89 rfl 0 rfl ?_
  obtain ⟨k76, F⟩ := F
  obtain ⟨k77, F⟩ := F
  refine g_new (C := RJ4) (T := TJ4) (N := 4) 14 rfl in_J4 tyJ4_ok nd_J4 q201 q202 q114 k76 k77 dX0_init_90 (fun q74 z75 z75' => ?_)
  have F := F q74 z75 z75'
  refine g_dup dX0_init_93 (va_rf_cat _) ?_
  refine h_callIV (As := []) (rest := [va_rf (some q74), va_rf (some x)]) F 0 rfl rfl (lw_meth q205) q114 q203 q204 rfl vm_J4_init.2 (by decide) rfl rfl (room_of (sc_R (sc_R sc_nil)) (Nat.le_of_ble_eq_true rfl)) dX0_init_94 (fun Gr79 br79 sr79 F => ?_)
  obtain ⟨c81, F⟩ := F
  obtain ⟨m82, F⟩ := F
  refine h_putR (mi := mX0_init) 0 21 (C := RX0) (T := TX0) (N := 25) rfl in_X0 tyX0_ok nmX0 (by decide) q258 (Or.inl rfl) (Or.inr ⟨rfl, rfl⟩) rfl rfl rfl c81 m82 dX0_init_97 ?_
  refine g_aload_n dX0_init_100 rfl 0 rfl ?_
  refine g_bipush (v := 60) dX0_init_101 (by decide) ?_
  obtain ⟨k84, F⟩ := F
  obtain ⟨k85, F⟩ := F
  refine h_newq 6 60 (by decide) (by decide) q235 (by decide +kernel) (by decide) (by decide) (Nat.le_of_ble_eq_true rfl) k84 k85 dX0_init_103 (fun q83 z86 z86' => ?_)
  have F := F q83 z86 z86'
  obtain ⟨c88, F⟩ := F
  obtain ⟨m89, F⟩ := F
  refine h_putR (mi := mX0_init) 0 23 (C := RX0) (T := TX0) (N := 25) rfl in_X0 tyX0_ok nmX0 (by decide) q260 (Or.inl rfl) (Or.inr ⟨rfl, rfl⟩) rfl rfl rfl c88 m89 dX0_init_106 ?_
  refine g_aload_n dX0_init_109 rfl 0 rfl ?_
  refine g_sipush (v := 240) dX0_init_110 (by decide) ?_
  obtain ⟨k91, F⟩ := F
  obtain ⟨k92, F⟩ := F
  refine g_newa (atype := .int) 0 240 (by decide) rfl q199 (by decide) (by decide) (Nat.le_of_ble_eq_true rfl) k91 k92 dX0_init_113 (fun q90 z93 z93' => ?_)
  have F := F q90 z93 z93'
  obtain ⟨c95, F⟩ := F
  obtain ⟨m96, F⟩ := F
  refine h_putR (mi := mX0_init) 0 24 (C := RX0) (T := TX0) (N := 25) rfl in_X0 tyX0_ok nmX0 (by decide) q261 (Or.inl rfl) (Or.inr ⟨rfl, rfl⟩) rfl rfl rfl c95 m96 dX0_init_115 ?_
  exact g_vret rfl dX0_init_118 F
theorem rX0_undo_0 {Γ : GE} {l : Launch} {h MC MS : Nat} {Q : Option Value → GH → Prop} {bc bs : Nat} {G : GH} (x : Nat) (F : (gC G x = kO 0 ∧ ((¬ (gI G x 3) = 0 → (gM G x = true ∧ ∃ a3, (gR (sI G x 3 ((gI G x 3) - 1)) x 2) = some a3 ∧ gC (sI G x 3 ((gI G x 3) - 1)) a3 = kA 5 ∧ gM (sI G x 3 ((gI G x 3) - 1)) a3 = true ∧ vp_in (gI (sI G x 3 ((gI G x 3) - 1)) x 3) (gL (sI G x 3 ((gI G x 3) - 1)) a3) ∧ Q (some (.int (gI (sR (sI G x 3 ((gI G x 3) - 1)) x 0 (gR (sI G x 3 ((gI G x 3) - 1)) a3 (gI (sI G x 3 ((gI G x 3) - 1)) x 3).toNatClampNeg)) x 3))) (sR (sI G x 3 ((gI G x 3) - 1)) x 0 (gR (sI G x 3 ((gI G x 3) - 1)) a3 (gI (sI G x 3 ((gI G x 3) - 1)) x 3).toNatClampNeg)))) ∧ ((gI G x 3) = 0 → (Q (some (.int (-2))) G))))) : GW Γ l mX0_undo h MC MS Q 0 [(0, va_rf (some x))] [] G bc bs := by
  refine g_aload_n dX0_undo_0 rfl 0 rfl ?_
  obtain ⟨c1, F⟩ := F
  refine h_get (v := .int (gI G x 3)) 0 3 (C := RX0) (T := TX0) (N := 25) rfl in_X0 (by decide) q240 (Or.inl rfl) rfl c1 rfl dX0_undo_1 ?_
  refine g_if_ne 10 dX0_undo_4 (by decide) (fun h8 => ?_) (fun h8 => ?_)
  · have F := F.1 h8
    refine g_aload_n dX0_undo_10 rfl 0 rfl ?_
    refine g_dup dX0_undo_11 (va_rf_cat _) ?_
    refine h_get (v := .int (gI G x 3)) 0 3 (C := RX0) (T := TX0) (N := 25) rfl in_X0 (by decide) q240 (Or.inl rfl) rfl c1 rfl dX0_undo_12 ?_
    refine g_iconst (v := 1) dX0_undo_15 (by decide) ?_
    refine g_isub dX0_undo_16 ?_
    obtain ⟨m2, F⟩ := F
    refine h_putI (mi := mX0_undo) 0 3 (C := RX0) (T := TX0) (N := 25) rfl in_X0 tyX0_ok nmX0 (by decide) q240 (Or.inl rfl) (Or.inl rfl) rfl rfl c1 m2 rfl rfl dX0_undo_17 ?_
    refine g_aload_n dX0_undo_20 rfl 0 rfl ?_
    refine g_aload_n dX0_undo_21 rfl 0 rfl ?_
    refine h_get (v := va_rf (gR (sI G x 3 ((gI G x 3) - 1)) x 2)) 0 2 (C := RX0) (T := TX0) (N := 25) rfl in_X0 (by decide) q239 (Or.inl rfl) rfl c1 rfl dX0_undo_22 ?_
    refine g_aload_n dX0_undo_25 rfl 0 rfl ?_
    refine h_get (v := .int (gI (sI G x 3 ((gI G x 3) - 1)) x 3)) 0 3 (C := RX0) (T := TX0) (N := 25) rfl in_X0 (by decide) q240 (Or.inl rfl) rfl c1 rfl dX0_undo_26 ?_
    obtain ⟨a3, e4, F⟩ := F
    obtain ⟨c5, F⟩ := F
    obtain ⟨m6, F⟩ := F
    obtain ⟨k7, F⟩ := F
    refine h_aald 5 e4 c5 (by decide) (by decide) m6 k7 dX0_undo_29 ?_
    refine h_putR (mi := mX0_undo) 0 0 (C := RX0) (T := TX0) (N := 25) rfl in_X0 tyX0_ok nmX0 (by decide) q237 (Or.inl rfl) (Or.inl rfl) rfl rfl rfl c1 m2 dX0_undo_30 ?_
    refine g_aload_n dX0_undo_33 rfl 0 rfl ?_
    refine h_get (v := .int (gI (sR (sI G x 3 ((gI G x 3) - 1)) x 0 (gR (sI G x 3 ((gI G x 3) - 1)) a3 (gI (sI G x 3 ((gI G x 3) - 1)) x 3).toNatClampNeg)) x 3)) 0 3 (C := RX0) (T := TX0) (N := 25) rfl in_X0 (by decide) q240 (Or.inl rfl) rfl c1 rfl dX0_undo_34 ?_
    exact g_iret rfl dX0_undo_37 F
  · have F := F.2 h8
    refine g_bipush (v := (-2)) dX0_undo_7 (by decide) ?_
    exact g_iret rfl dX0_undo_9 F
theorem rX0_save_0 {Γ : GE} {l : Launch} {h MC MS : Nat} {Q : Option Value → GH → Prop} {bc bs : Nat} {G : GH} (x : Nat) (F : (gC G x = kO 0 ∧ ∃ a3, (gR G x 0) = some a3 ∧ gC G a3 = kO 2 ∧ cR Γ l h mX1_copy [.ref a3] G bc bs fun r2 Gr2 br2 sr2 => gC Gr2 x = kO 0 ∧ gM Gr2 x = true ∧ ∃ a9, (gR (sR Gr2 x 1 r2) x 0) = some a9 ∧ gC (sR Gr2 x 1 r2) a9 = kO 2 ∧ gM (sR Gr2 x 1 r2) a9 = true ∧ ∃ a14, (gR (sR Gr2 x 1 r2) a9 0) = some a14 ∧ gC (sR Gr2 x 1 r2) a14 = kO 9 ∧ cI Γ l h mJ2_size [.ref a14] (sR Gr2 x 1 r2) br2 sr2 fun r13 Gr13 br13 sr13 => Q (some (.int r13)) Gr13)) : GW Γ l mX0_save h MC MS Q 0 [(0, va_rf (some x))] [] G bc bs := by
  refine g_aload_n dX0_save_0 rfl 0 rfl ?_
  refine g_aload_n dX0_save_1 rfl 0 rfl ?_
  obtain ⟨c1, F⟩ := F
  refine h_get (v := va_rf (gR G x 0)) 0 0 (C := RX0) (T := TX0) (N := 25) rfl in_X0 (by decide) q237 (Or.inl rfl) rfl c1 rfl dX0_save_2 ?_
  obtain ⟨a3, e4, F⟩ := F
  obtain ⟨c5, F⟩ := F
  refine h_callVR (ci := 2) (C := RX1) (T := TX1) (N := 3) (As := []) (rest := [va_rf (some x)]) F 0 rfl rfl (lw_V q321 q322 q323 q109 q324) vm_X1_copy (by decide) e4 c5 rfl (room_of (sc_R sc_nil) (Nat.le_of_ble_eq_true rfl)) dX0_save_5 (fun r2 Gr2 br2 sr2 F => ?_)
  obtain ⟨c7, F⟩ := F
  obtain ⟨m8, F⟩ := F
  refine h_putR (mi := mX0_save) 0 1 (C := RX0) (T := TX0) (N := 25) rfl in_X0 tyX0_ok nmX0 (by decide) q238 (Or.inl rfl) (Or.inl rfl) rfl rfl rfl c7 m8 dX0_save_8 ?_
  refine g_aload_n dX0_save_11 rfl 0 rfl ?_
  refine h_get (v := va_rf (gR (sR Gr2 x 1 r2) x 0)) 0 0 (C := RX0) (T := TX0) (N := 25) rfl in_X0 (by decide) q237 (Or.inl rfl) rfl c7 rfl dX0_save_12 ?_
  obtain ⟨a9, e10, F⟩ := F
  obtain ⟨c11, F⟩ := F
  obtain ⟨m12, F⟩ := F
  refine h_getN (host := "CrewPairer") (v := va_rf (gR (sR Gr2 x 1 r2) a9 0)) 2 0 (C := RX1) (T := TX1) (N := 3) rfl in_X1 (by decide) (by decide +kernel) rfl e10 c11 m12 rfl dX0_save_15 ?_
  obtain ⟨a14, e15, F⟩ := F
  obtain ⟨c16, F⟩ := F
  refine h_callVI (ci := 9) (C := RJ2) (T := TJ2) (N := 3) (As := []) (rest := []) F 0 rfl rfl (lw_V q480 q328 q329 q112 q330) vm_J2_size (by decide) e15 c16 rfl (room_of sc_nil (Nat.le_of_ble_eq_true rfl)) dX0_save_18 (fun r13 Gr13 br13 sr13 F => ?_)
  exact g_iret rfl dX0_save_21 F
theorem rX0_restore_0 {Γ : GE} {l : Launch} {h MC MS : Nat} {Q : Option Value → GH → Prop} {bc bs : Nat} {G : GH} (x : Nat) (F : (gC G x = kO 0 ∧ ((∀ a2, (gR G x 1) = some a2 → (cV Γ l h mX0_beginChange [.ref x] G bc bs fun Gr4 br4 sr4 => gC Gr4 x = kO 0 ∧ ∃ a8, (gR Gr4 x 1) = some a8 ∧ gC Gr4 a8 = kO 2 ∧ cR Γ l h mX1_copy [.ref a8] Gr4 br4 sr4 fun r7 Gr7 br7 sr7 => gC Gr7 x = kO 0 ∧ gM Gr7 x = true ∧ ∃ a14, (gR (sR Gr7 x 0 r7) x 0) = some a14 ∧ gC (sR Gr7 x 0 r7) a14 = kO 2 ∧ gM (sR Gr7 x 0 r7) a14 = true ∧ ∃ a19, (gR (sR Gr7 x 0 r7) a14 0) = some a19 ∧ gC (sR Gr7 x 0 r7) a19 = kO 9 ∧ cI Γ l h mJ2_size [.ref a19] (sR Gr7 x 0 r7) br7 sr7 fun r18 Gr18 br18 sr18 => Q (some (.int r18)) Gr18)) ∧ ((gR G x 1) = none → (Q (some (.int (-2))) G))))) : GW Γ l mX0_restore h MC MS Q 0 [(0, va_rf (some x))] [] G bc bs := by
  refine g_aload_n dX0_restore_0 rfl 0 rfl ?_
  obtain ⟨c1, F⟩ := F
  refine h_get (v := va_rf (gR G x 1)) 0 1 (C := RX0) (T := TX0) (N := 25) rfl in_X0 (by decide) q238 (Or.inl rfl) rfl c1 rfl dX0_restore_1 ?_
  refine g_ifnonnull 10 dX0_restore_4 (by decide) (fun a2 e3 => ?_) (fun e3 => ?_)
  · have F := F.1 a2 e3
    refine g_aload_n dX0_restore_10 rfl 0 rfl ?_
    refine h_callVV (ci := 0) (C := RX0) (T := TX0) (N := 25) (As := []) (rest := []) F 0 rfl rfl (lw_V q485 q487 qs3 q108 q488) vm_X0_beginChange (by decide) rfl c1 rfl (room_of sc_nil (Nat.le_of_ble_eq_true rfl)) dX0_restore_11 (fun Gr4 br4 sr4 F => ?_)
    refine g_aload_n dX0_restore_14 rfl 0 rfl ?_
    refine g_aload_n dX0_restore_15 rfl 0 rfl ?_
    obtain ⟨c6, F⟩ := F
    refine h_get (v := va_rf (gR Gr4 x 1)) 0 1 (C := RX0) (T := TX0) (N := 25) rfl in_X0 (by decide) q238 (Or.inl rfl) rfl c6 rfl dX0_restore_16 ?_
    obtain ⟨a8, e9, F⟩ := F
    obtain ⟨c10, F⟩ := F
    refine h_callVR (ci := 2) (C := RX1) (T := TX1) (N := 3) (As := []) (rest := [va_rf (some x)]) F 0 rfl rfl (lw_V q321 q322 q323 q109 q324) vm_X1_copy (by decide) e9 c10 rfl (room_of (sc_R sc_nil) (Nat.le_of_ble_eq_true rfl)) dX0_restore_19 (fun r7 Gr7 br7 sr7 F => ?_)
    obtain ⟨c12, F⟩ := F
    obtain ⟨m13, F⟩ := F
    refine h_putR (mi := mX0_restore) 0 0 (C := RX0) (T := TX0) (N := 25) rfl in_X0 tyX0_ok nmX0 (by decide) q237 (Or.inl rfl) (Or.inl rfl) rfl rfl rfl c12 m13 dX0_restore_22 ?_
    refine g_aload_n dX0_restore_25 rfl 0 rfl ?_
    refine h_get (v := va_rf (gR (sR Gr7 x 0 r7) x 0)) 0 0 (C := RX0) (T := TX0) (N := 25) rfl in_X0 (by decide) q237 (Or.inl rfl) rfl c12 rfl dX0_restore_26 ?_
    obtain ⟨a14, e15, F⟩ := F
    obtain ⟨c16, F⟩ := F
    obtain ⟨m17, F⟩ := F
    refine h_getN (host := "CrewPairer") (v := va_rf (gR (sR Gr7 x 0 r7) a14 0)) 2 0 (C := RX1) (T := TX1) (N := 3) rfl in_X1 (by decide) (by decide +kernel) rfl e15 c16 m17 rfl dX0_restore_29 ?_
    obtain ⟨a19, e20, F⟩ := F
    obtain ⟨c21, F⟩ := F
    refine h_callVI (ci := 9) (C := RJ2) (T := TJ2) (N := 3) (As := []) (rest := []) F 0 rfl rfl (lw_V q480 q328 q329 q112 q330) vm_J2_size (by decide) e20 c21 rfl (room_of sc_nil (Nat.le_of_ble_eq_true rfl)) dX0_restore_32 (fun r18 Gr18 br18 sr18 F => ?_)
    exact g_iret rfl dX0_restore_35 F
  · have F := F.2 e3
    refine g_bipush (v := (-2)) dX0_restore_7 (by decide) ?_
    exact g_iret rfl dX0_restore_9 F
theorem rX0_beginChange_0 {Γ : GE} {l : Launch} {h MC MS : Nat} {Q : Option Value → GH → Prop} {bc bs : Nat} {G : GH} (x : Nat) (F : (gC G x = kO 0 ∧ ((¬ (gI G x 4) = 0 → (Q none G)) ∧ ((gI G x 4) = 0 → (∃ a3, (gR G x 0) = some a3 ∧ gC G a3 = kO 2 ∧ cR Γ l h mX1_copy [.ref a3] G bc bs fun r2 Gr2 br2 sr2 => gC Gr2 x = kO 0 ∧ cV Γ l h mX0_keep [.ref x, va_rf r2] Gr2 br2 sr2 fun Gr7 br7 sr7 => Q none Gr7))))) : GW Γ l mX0_beginChange h MC MS Q 0 [(0, va_rf (some x))] [] G bc bs := by
  refine g_aload_n dX0_beginChange_0 rfl 0 rfl ?_
  obtain ⟨c1, F⟩ := F
  refine h_get (v := .int (gI G x 4)) 0 4 (C := RX0) (T := TX0) (N := 25) rfl in_X0 (by decide) q241 (Or.inl rfl) rfl c1 rfl dX0_beginChange_1 ?_
  refine g_if_ne 18 dX0_beginChange_4 (by decide) (fun h10 => ?_) (fun h10 => ?_)
  · have F := F.1 h10
    exact g_vret rfl dX0_beginChange_18 F
  · have F := F.2 h10
    refine g_aload_n dX0_beginChange_7 rfl 0 rfl ?_
    refine g_aload_n dX0_beginChange_8 rfl 0 rfl ?_
    refine h_get (v := va_rf (gR G x 0)) 0 0 (C := RX0) (T := TX0) (N := 25) rfl in_X0 (by decide) q237 (Or.inl rfl) rfl c1 rfl dX0_beginChange_9 ?_
    obtain ⟨a3, e4, F⟩ := F
    obtain ⟨c5, F⟩ := F
    refine h_callVR (ci := 2) (C := RX1) (T := TX1) (N := 3) (As := []) (rest := [va_rf (some x)]) F 0 rfl rfl (lw_V q321 q322 q323 q109 q324) vm_X1_copy (by decide) e4 c5 rfl (room_of (sc_R sc_nil) (Nat.le_of_ble_eq_true rfl)) dX0_beginChange_12 (fun r2 Gr2 br2 sr2 F => ?_)
    obtain ⟨c8, F⟩ := F
    refine h_callVV (ci := 0) (C := RX0) (T := TX0) (N := 25) (As := [va_rf r2]) (rest := []) F 1 rfl rfl (lw_V q489 q491 qs4 q108 q492) vm_X0_keep (by decide) rfl c8 rfl (room_of sc_nil (Nat.le_of_ble_eq_true rfl)) dX0_beginChange_15 (fun Gr7 br7 sr7 F => ?_)
    exact g_vret rfl dX0_beginChange_18 F
theorem rX0_keep_0 {Γ : GE} {l : Launch} {h MC MS : Nat} {Q : Option Value → GH → Prop} {bc bs : Nat} {G : GH} (x : Nat) (p1 : Option Nat) (F : (gC G x = kO 0 ∧ ((¬ (gI G x 3) = 8 → (∃ a2, (gR G x 2) = some a2 ∧ gC G a2 = kA 5 ∧ gM G a2 = true ∧ vp_in (gI G x 3) (gL G a2) ∧ okS G 5 p1 ∧ gM (sR G a2 (gI G x 3).toNatClampNeg p1) x = true ∧ Q none (sI (sR G a2 (gI G x 3).toNatClampNeg p1) x 3 ((gI (sR G a2 (gI G x 3).toNatClampNeg p1) x 3) + 1)))) ∧ ((gI G x 3) = 8 → (∃ a9, (gR G x 2) = some a9 ∧ gC G a9 = kA 5 ∧ gM G a9 = true ∧ (1 : Int32).toNatClampNeg + (7 : Int32).toNatClampNeg ≤ gL G a9 ∧ (0 : Int32).toNatClampNeg + (7 : Int32).toNatClampNeg ≤ gL G a9 ∧ (∀ i, i < (7 : Int32).toNatClampNeg → okS G 5 (gR G a9 ((1 : Int32).toNatClampNeg + i))) ∧ 0 < h ∧ ∀ H17, H17 = (wR G a9 (va_cpy (gR G a9) (gR G a9) (1 : Int32).toNatClampNeg (0 : Int32).toNatClampNeg (7 : Int32).toNatClampNeg)) → gC H17 x = kO 0 ∧ gM H17 x = true ∧ ∃ a22, (gR (sI H17 x 3 ((gI H17 x 3) - 1)) x 2) = some a22 ∧ gC (sI H17 x 3 ((gI H17 x 3) - 1)) a22 = kA 5 ∧ gM (sI H17 x 3 ((gI H17 x 3) - 1)) a22 = true ∧ vp_in (gI (sI H17 x 3 ((gI H17 x 3) - 1)) x 3) (gL (sI H17 x 3 ((gI H17 x 3) - 1)) a22) ∧ okS (sI H17 x 3 ((gI H17 x 3) - 1)) 5 p1 ∧ Q none (sI (sR (sI H17 x 3 ((gI H17 x 3) - 1)) a22 (gI (sI H17 x 3 ((gI H17 x 3) - 1)) x 3).toNatClampNeg p1) x 3 ((gI (sR (sI H17 x 3 ((gI H17 x 3) - 1)) a22 (gI (sI H17 x 3 ((gI H17 x 3) - 1)) x 3).toNatClampNeg p1) x 3) + 1))))))) : GW Γ l mX0_keep h MC MS Q 0 [(0, va_rf (some x)), (1, va_rf p1)] [] G bc bs := by
  refine g_aload_n dX0_keep_0 rfl 0 rfl ?_
  obtain ⟨c1, F⟩ := F
  refine h_get (v := .int (gI G x 3)) 0 3 (C := RX0) (T := TX0) (N := 25) rfl in_X0 (by decide) q240 (Or.inl rfl) rfl c1 rfl dX0_keep_1 ?_
  refine g_bipush (v := 8) dX0_keep_4 (by decide) ?_
  refine g_icmp_ne 34 dX0_keep_6 (by decide) (fun h28 => ?_) (fun h28 => ?_)
  · have F := F.1 h28
    refine g_aload_n dX0_keep_34 rfl 0 rfl ?_
    refine h_get (v := va_rf (gR G x 2)) 0 2 (C := RX0) (T := TX0) (N := 25) rfl in_X0 (by decide) q239 (Or.inl rfl) rfl c1 rfl dX0_keep_35 ?_
    refine g_aload_n dX0_keep_38 rfl 0 rfl ?_
    refine h_get (v := .int (gI G x 3)) 0 3 (C := RX0) (T := TX0) (N := 25) rfl in_X0 (by decide) q240 (Or.inl rfl) rfl c1 rfl dX0_keep_39 ?_
    refine g_aload_n dX0_keep_42 rfl 1 rfl ?_
    obtain ⟨a2, e3, F⟩ := F
    obtain ⟨c4, F⟩ := F
    obtain ⟨m5, F⟩ := F
    obtain ⟨k6, F⟩ := F
    obtain ⟨k7, F⟩ := F
    refine h_aast 5 e3 c4 (by decide) (by decide) m5 k6 k7 dX0_keep_43 ?_
    refine g_aload_n dX0_keep_44 rfl 0 rfl ?_
    refine g_dup dX0_keep_45 (va_rf_cat _) ?_
    refine h_get (v := .int (gI (sR G a2 (gI G x 3).toNatClampNeg p1) x 3)) 0 3 (C := RX0) (T := TX0) (N := 25) rfl in_X0 (by decide) q240 (Or.inl rfl) rfl c1 rfl dX0_keep_46 ?_
    refine g_iconst (v := 1) dX0_keep_49 (by decide) ?_
    refine g_iadd dX0_keep_50 ?_
    obtain ⟨m8, F⟩ := F
    refine h_putI (mi := mX0_keep) 0 3 (C := RX0) (T := TX0) (N := 25) rfl in_X0 tyX0_ok nmX0 (by decide) q240 (Or.inl rfl) (Or.inl rfl) rfl rfl c1 m8 rfl rfl dX0_keep_51 ?_
    exact g_vret rfl dX0_keep_54 F
  · have F := F.2 h28
    refine g_aload_n dX0_keep_9 rfl 0 rfl ?_
    refine h_get (v := va_rf (gR G x 2)) 0 2 (C := RX0) (T := TX0) (N := 25) rfl in_X0 (by decide) q239 (Or.inl rfl) rfl c1 rfl dX0_keep_10 ?_
    refine g_iconst (v := 1) dX0_keep_13 (by decide) ?_
    refine g_aload_n dX0_keep_14 rfl 0 rfl ?_
    refine h_get (v := va_rf (gR G x 2)) 0 2 (C := RX0) (T := TX0) (N := 25) rfl in_X0 (by decide) q239 (Or.inl rfl) rfl c1 rfl dX0_keep_15 ?_
    refine g_iconst (v := 0) dX0_keep_18 (by decide) ?_
    refine g_bipush (v := 7) dX0_keep_19 (by decide) ?_
    obtain ⟨a9, e10, F⟩ := F
    obtain ⟨c11, F⟩ := F
    obtain ⟨m12, F⟩ := F
    obtain ⟨k13, F⟩ := F
    obtain ⟨k14, F⟩ := F
    obtain ⟨k15, F⟩ := F
    obtain ⟨k16, F⟩ := F
    refine h_copyq 5 (by decide) (by decide) q493 q439 q438 q118 e10 c11 m12 e10 c11 m12 (by decide) (by decide) (by decide) k13 k14 k15 k16 (room_of sc_nil (Nat.le_of_ble_eq_true rfl)) dX0_keep_21 ?_
    obtain ⟨H17, h18⟩ : ∃ g : GH, g = (wR G a9 (va_cpy (gR G a9) (gR G a9) (1 : Int32).toNatClampNeg (0 : Int32).toNatClampNeg (7 : Int32).toNatClampNeg)) := ⟨_, rfl⟩
    rw [← h18]
    have F := F H17 h18
    refine g_aload_n dX0_keep_24 rfl 0 rfl ?_
    refine g_dup dX0_keep_25 (va_rf_cat _) ?_
    obtain ⟨c20, F⟩ := F
    refine h_get (v := .int (gI H17 x 3)) 0 3 (C := RX0) (T := TX0) (N := 25) rfl in_X0 (by decide) q240 (Or.inl rfl) rfl c20 rfl dX0_keep_26 ?_
    refine g_iconst (v := 1) dX0_keep_29 (by decide) ?_
    refine g_isub dX0_keep_30 ?_
    obtain ⟨m21, F⟩ := F
    refine h_putI (mi := mX0_keep) 0 3 (C := RX0) (T := TX0) (N := 25) rfl in_X0 tyX0_ok nmX0 (by decide) q240 (Or.inl rfl) (Or.inl rfl) rfl rfl c20 m21 rfl rfl dX0_keep_31 ?_
    refine g_aload_n dX0_keep_34 rfl 0 rfl ?_
    refine h_get (v := va_rf (gR (sI H17 x 3 ((gI H17 x 3) - 1)) x 2)) 0 2 (C := RX0) (T := TX0) (N := 25) rfl in_X0 (by decide) q239 (Or.inl rfl) rfl c20 rfl dX0_keep_35 ?_
    refine g_aload_n dX0_keep_38 rfl 0 rfl ?_
    refine h_get (v := .int (gI (sI H17 x 3 ((gI H17 x 3) - 1)) x 3)) 0 3 (C := RX0) (T := TX0) (N := 25) rfl in_X0 (by decide) q240 (Or.inl rfl) rfl c20 rfl dX0_keep_39 ?_
    refine g_aload_n dX0_keep_42 rfl 1 rfl ?_
    obtain ⟨a22, e23, F⟩ := F
    obtain ⟨c24, F⟩ := F
    obtain ⟨m25, F⟩ := F
    obtain ⟨k26, F⟩ := F
    obtain ⟨k27, F⟩ := F
    refine h_aast 5 e23 c24 (by decide) (by decide) m25 k26 k27 dX0_keep_43 ?_
    refine g_aload_n dX0_keep_44 rfl 0 rfl ?_
    refine g_dup dX0_keep_45 (va_rf_cat _) ?_
    refine h_get (v := .int (gI (sR (sI H17 x 3 ((gI H17 x 3) - 1)) a22 (gI (sI H17 x 3 ((gI H17 x 3) - 1)) x 3).toNatClampNeg p1) x 3)) 0 3 (C := RX0) (T := TX0) (N := 25) rfl in_X0 (by decide) q240 (Or.inl rfl) rfl c20 rfl dX0_keep_46 ?_
    refine g_iconst (v := 1) dX0_keep_49 (by decide) ?_
    refine g_iadd dX0_keep_50 ?_
    refine h_putI (mi := mX0_keep) 0 3 (C := RX0) (T := TX0) (N := 25) rfl in_X0 tyX0_ok nmX0 (by decide) q240 (Or.inl rfl) (Or.inl rfl) rfl rfl c20 m21 rfl rfl dX0_keep_51 ?_
    exact g_vret rfl dX0_keep_54 F
theorem rX0_addLeg_0 {Γ : GE} {l : Launch} {h MC MS : Nat} {Q : Option Value → GH → Prop} {bc bs : Nat} {G : GH} (x : Nat) (p1 : Int32) (p2 : Int32) (p3 : Int32) (p4 : Int32) (F : (cI Γ l h mX0_isBetween [.int p1, .int 0, .int 5] G bc bs fun r1 Gr1 br1 sr1 => ((r1 = 0 → (GW Γ l mX0_addLeg h MC MS Q 39 [(0, va_rf (some x)), (1, .int p1), (2, .int p2), (3, .int p3), (4, .int p4)] [.int 0] Gr1 br1 sr1)) ∧ (¬ r1 = 0 → (cI Γ l h mX0_isBetween [.int p2, .int 0, .int 5] Gr1 br1 sr1 fun r3 Gr3 br3 sr3 => ((r3 = 0 → (GW Γ l mX0_addLeg h MC MS Q 39 [(0, va_rf (some x)), (1, .int p1), (2, .int p2), (3, .int p3), (4, .int p4)] [.int 0] Gr3 br3 sr3)) ∧ (¬ r3 = 0 → ((p1 = p2 → (GW Γ l mX0_addLeg h MC MS Q 39 [(0, va_rf (some x)), (1, .int p1), (2, .int p2), (3, .int p3), (4, .int p4)] [.int 0] Gr3 br3 sr3)) ∧ (¬ p1 = p2 → (cI Γ l h mX0_isBetween [.int p3, .int 0, .int 5999] Gr3 br3 sr3 fun r5 Gr5 br5 sr5 => ((r5 = 0 → (GW Γ l mX0_addLeg h MC MS Q 39 [(0, va_rf (some x)), (1, .int p1), (2, .int p2), (3, .int p3), (4, .int p4)] [.int 0] Gr5 br5 sr5)) ∧ (¬ r5 = 0 → (GW Γ l mX0_addLeg h MC MS Q 39 [(0, va_rf (some x)), (1, .int p1), (2, .int p2), (3, .int p3), (4, .int p4)] [.int 1] Gr5 br5 sr5))))))))))))) : GW Γ l mX0_addLeg h MC MS Q 0 [(0, va_rf (some x)), (1, .int p1), (2, .int p2), (3, .int p3), (4, .int p4)] [] G bc bs := by
  refine g_iload_n dX0_addLeg_0 rfl 1 rfl ?_
  refine g_iconst (v := 0) dX0_addLeg_1 (by decide) ?_
  refine g_iconst (v := 5) dX0_addLeg_2 (by decide) ?_
  refine h_callSI (As := [.int p1, .int 0, .int 5]) (rest := []) F 3 rfl (lw_S q498 q499 q108 q500) vm_X0_isBetween.2 (by decide) rfl (room_of sc_nil (Nat.le_of_ble_eq_true rfl)) dX0_addLeg_3 (fun r1 Gr1 br1 sr1 F => ?_)
  refine g_if_eq 38 dX0_addLeg_6 (by decide) (fun h10 => ?_) (fun h10 => ?_)
  · have F := F.1 h10
    refine g_iconst (v := 0) dX0_addLeg_38 (by decide) ?_
    exact F
  · have F := F.2 h10
    refine g_iload_n dX0_addLeg_9 rfl 2 rfl ?_
    refine g_iconst (v := 0) dX0_addLeg_10 (by decide) ?_
    refine g_iconst (v := 5) dX0_addLeg_11 (by decide) ?_
    refine h_callSI (As := [.int p2, .int 0, .int 5]) (rest := []) F 3 rfl (lw_S q498 q499 q108 q500) vm_X0_isBetween.2 (by decide) rfl (room_of sc_nil (Nat.le_of_ble_eq_true rfl)) dX0_addLeg_12 (fun r3 Gr3 br3 sr3 F => ?_)
    refine g_if_eq 38 dX0_addLeg_15 (by decide) (fun h9 => ?_) (fun h9 => ?_)
    · have F := F.1 h9
      refine g_iconst (v := 0) dX0_addLeg_38 (by decide) ?_
      exact F
    · have F := F.2 h9
      refine g_iload_n dX0_addLeg_18 rfl 1 rfl ?_
      refine g_iload_n dX0_addLeg_19 rfl 2 rfl ?_
      refine g_icmp_eq 38 dX0_addLeg_20 (by decide) (fun h8 => ?_) (fun h8 => ?_)
      · have F := F.1 h8
        refine g_iconst (v := 0) dX0_addLeg_38 (by decide) ?_
        exact F
      · have F := F.2 h8
        refine g_iload_n dX0_addLeg_23 rfl 3 rfl ?_
        refine g_iconst (v := 0) dX0_addLeg_24 (by decide) ?_
        refine g_sipush (v := 5999) dX0_addLeg_25 (by decide) ?_
        refine h_callSI (As := [.int p3, .int 0, .int 5999]) (rest := []) F 3 rfl (lw_S q498 q499 q108 q500) vm_X0_isBetween.2 (by decide) rfl (room_of sc_nil (Nat.le_of_ble_eq_true rfl)) dX0_addLeg_28 (fun r5 Gr5 br5 sr5 F => ?_)
        refine g_if_eq 38 dX0_addLeg_31 (by decide) (fun h7 => ?_) (fun h7 => ?_)
        · have F := F.1 h7
          refine g_iconst (v := 0) dX0_addLeg_38 (by decide) ?_
          exact F
        · have F := F.2 h7
          refine g_iconst (v := 1) dX0_addLeg_34 (by decide) ?_
          refine g_goto 39 dX0_addLeg_35 (by decide) ?_
          exact F
theorem rX0_addLeg_39 {Γ : GE} {l : Launch} {h MC MS : Nat} {Q : Option Value → GH → Prop} {bc bs : Nat} {G : GH} (x : Nat) (p1 : Int32) (p2 : Int32) (p3 : Int32) (p4 : Int32) (s0 : Int32) (F : ((s0 = 0 → (Q (some (.int (-1))) G)) ∧ (¬ s0 = 0 → (cI Γ l h mJ7_min [.int 5999, .int (p3 + 600)] G bc bs fun r1 Gr1 br1 sr1 => cI Γ l h mX0_isBetween [.int p4, .int (p3 + 1), .int r1] Gr1 br1 sr1 fun r3 Gr3 br3 sr3 => ((¬ r3 = 0 → (gC Gr3 x = kO 0 ∧ cR Γ l h mX0_keysWithout [.ref x, .int (-1)] Gr3 br3 sr3 fun r5 Gr5 br5 sr5 => 1 ≤ br5 ∧ 3 ≤ sr5 ∧ ∀ q8, gC Gr5 q8 = 0 → gA Γ q8 → cV Γ l h mX3_init [.ref q8, .int p1, .int p2, .int p3] (nO Gr5 q8 5) (br5 - 1) (sr5 - 3) fun Gr13 br13 sr13 => ∃ a16, r5 = some a16 ∧ gC Gr13 a16 = kO 10 ∧ cI Γ l h mJ9_contains [.ref a16, va_rf (some q8)] Gr13 br13 sr13 fun r15 Gr15 br15 sr15 => ((r15 = 0 → (gC Gr15 x = kO 0 ∧ ∃ a21, (gR Gr15 x 0) = some a21 ∧ gC Gr15 a21 = kO 2 ∧ gM Gr15 a21 = true ∧ ∃ a26, (gR Gr15 a21 0) = some a26 ∧ gC Gr15 a26 = kO 9 ∧ cI Γ l h mJ2_size [.ref a26] Gr15 br15 sr15 fun r25 Gr25 br25 sr25 => ((¬ r25 = 24 → (gC Gr25 x = kO 0 ∧ cV Γ l h mX0_beginChange [.ref x] Gr25 br25 sr25 fun Gr30 br30 sr30 => gC Gr30 x = kO 0 ∧ ∃ a34, (gR Gr30 x 0) = some a34 ∧ gC Gr30 a34 = kO 2 ∧ gM Gr30 a34 = true ∧ 1 ≤ br30 ∧ 5 ≤ sr30 ∧ ∀ q38, gC Gr30 q38 = 0 → gA Γ q38 → cV Γ l h mX4_init [.ref q38, .int p1, .int p2, .int p3, .int p4] (nO Gr30 q38 3) (br30 - 1) (sr30 - 5) fun Gr43 br43 sr43 => ∃ a46, (gR Gr30 a34 0) = some a46 ∧ gC Gr43 a46 = kO 9 ∧ cI Γ l h mJ2_add [.ref a46, va_rf (some q38)] Gr43 br43 sr43 fun r45 Gr45 br45 sr45 => gC Gr45 x = kO 0 ∧ ∃ a51, (gR Gr45 x 0) = some a51 ∧ gC Gr45 a51 = kO 2 ∧ gM Gr45 a51 = true ∧ ∃ a56, (gR Gr45 a51 0) = some a56 ∧ gC Gr45 a56 = kO 9 ∧ cI Γ l h mJ2_size [.ref a56] Gr45 br45 sr45 fun r55 Gr55 br55 sr55 => Q (some (.int (r55 - 1))) Gr55)) ∧ (r25 = 24 → (Q (some (.int (-3))) Gr25))))) ∧ (¬ r15 = 0 → (Q (some (.int (-4))) Gr15))))) ∧ (r3 = 0 → (Q (some (.int (-1))) Gr3))))))) : GW Γ l mX0_addLeg h MC MS Q 39 [(0, va_rf (some x)), (1, .int p1), (2, .int p2), (3, .int p3), (4, .int p4)] [.int s0] G bc bs := by
  refine s_istore (lv' := [(0, va_rf (some x)), (1, .int p1), (2, .int p2), (3, .int p3), (4, .int p4), (5, .int s0)]) (cat_R (cat_I (cat_I (cat_I (cat_I cat_nil))))) dX0_addLeg_39 (by decide) rfl [1, 2, 3, 4, 5, 0] rfl ?_
  refine g_iload dX0_addLeg_41 5 rfl ?_
  refine g_if_eq 68 dX0_addLeg_43 (by decide) (fun h63 => ?_) (fun h63 => ?_)
  · have F := F.1 h63
    refine g_iconst (v := (-1)) dX0_addLeg_68 (by decide) ?_
    exact g_iret rfl dX0_addLeg_69 F
  · have F := F.2 h63
    refine g_iload dX0_addLeg_46 4 rfl ?_
    refine g_iload_n dX0_addLeg_48 rfl 3 rfl ?_
    refine g_iconst (v := 1) dX0_addLeg_49 (by decide) ?_
    refine g_iadd dX0_addLeg_50 ?_
    refine g_sipush (v := 5999) dX0_addLeg_51 (by decide) ?_
    refine g_iload_n dX0_addLeg_54 rfl 3 rfl ?_
    refine g_sipush (v := 600) dX0_addLeg_55 (by decide) ?_
    refine g_iadd dX0_addLeg_58 ?_
    refine h_callSI (As := [.int 5999, .int (p3 + 600)]) (rest := [.int (p3 + 1), .int p4]) F 2 rfl (lw_S q501 q435 q119 q436) vm_J7_min.2 (by decide) rfl (room_of (sc_I (sc_I sc_nil)) (Nat.le_of_ble_eq_true rfl)) dX0_addLeg_59 (fun r1 Gr1 br1 sr1 F => ?_)
    refine h_callSI (As := [.int p4, .int (p3 + 1), .int r1]) (rest := []) F 3 rfl (lw_S q498 q499 q108 q500) vm_X0_isBetween.2 (by decide) rfl (room_of sc_nil (Nat.le_of_ble_eq_true rfl)) dX0_addLeg_62 (fun r3 Gr3 br3 sr3 F => ?_)
    refine g_if_ne 70 dX0_addLeg_65 (by decide) (fun h62 => ?_) (fun h62 => ?_)
    · have F := F.1 h62
      refine g_aload_n dX0_addLeg_70 rfl 0 rfl ?_
      refine g_iconst (v := (-1)) dX0_addLeg_71 (by decide) ?_
      obtain ⟨c6, F⟩ := F
      refine h_callVR (ci := 0) (C := RX0) (T := TX0) (N := 25) (As := [.int (-1)]) (rest := []) F 1 rfl rfl (lw_V q502 q504 qs5 q108 q505) vm_X0_keysWithout (by decide) rfl c6 rfl (room_of sc_nil (Nat.le_of_ble_eq_true rfl)) dX0_addLeg_72 (fun r5 Gr5 br5 sr5 F => ?_)
      obtain ⟨k10, F⟩ := F
      obtain ⟨k11, F⟩ := F
      refine g_new (C := RX3) (T := TX3) (N := 3) 5 rfl in_X3 tyX3_ok nd_X3 q557 q558 q126 k10 k11 dX0_addLeg_75 (fun q8 z9 z9' => ?_)
      have F := F q8 z9 z9'
      refine g_dup dX0_addLeg_78 (va_rf_cat _) ?_
      refine g_iload_n dX0_addLeg_79 rfl 1 rfl ?_
      refine g_iload_n dX0_addLeg_80 rfl 2 rfl ?_
      refine g_iload_n dX0_addLeg_81 rfl 3 rfl ?_
      refine h_callIV (As := [.int p1, .int p2, .int p3]) (rest := [va_rf (some q8), va_rf r5]) F 3 rfl rfl (lw_meth q561) q126 q559 q560 rfl vm_X3_init.2 (by decide) rfl rfl (room_of (sc_R (sc_R sc_nil)) (Nat.le_of_ble_eq_true rfl)) dX0_addLeg_82 (fun Gr13 br13 sr13 F => ?_)
      obtain ⟨a16, e17, F⟩ := F
      obtain ⟨c18, F⟩ := F
      refine h_callVI (ci := 10) (C := RJ9) (T := TJ9) (N := 1) (As := [va_rf (some q8)]) (rest := []) F 1 rfl rfl (lw_V q1048 q1049 q1050 q121 q1051) vm_J9_contains (by decide) e17 c18 rfl (room_of sc_nil (Nat.le_of_ble_eq_true rfl)) dX0_addLeg_85 (fun r15 Gr15 br15 sr15 F => ?_)
      refine g_if_eq 94 dX0_addLeg_88 (by decide) (fun h61 => ?_) (fun h61 => ?_)
      · have F := F.1 h61
        refine g_aload_n dX0_addLeg_94 rfl 0 rfl ?_
        obtain ⟨c20, F⟩ := F
        refine h_get (v := va_rf (gR Gr15 x 0)) 0 0 (C := RX0) (T := TX0) (N := 25) rfl in_X0 (by decide) q237 (Or.inl rfl) rfl c20 rfl dX0_addLeg_95 ?_
        obtain ⟨a21, e22, F⟩ := F
        obtain ⟨c23, F⟩ := F
        obtain ⟨m24, F⟩ := F
        refine h_getN (host := "CrewPairer") (v := va_rf (gR Gr15 a21 0)) 2 0 (C := RX1) (T := TX1) (N := 3) rfl in_X1 (by decide) (by decide +kernel) rfl e22 c23 m24 rfl dX0_addLeg_98 ?_
        obtain ⟨a26, e27, F⟩ := F
        obtain ⟨c28, F⟩ := F
        refine h_callVI (ci := 9) (C := RJ2) (T := TJ2) (N := 3) (As := []) (rest := []) F 0 rfl rfl (lw_V q480 q328 q329 q112 q330) vm_J2_size (by decide) e27 c28 rfl (room_of sc_nil (Nat.le_of_ble_eq_true rfl)) dX0_addLeg_101 (fun r25 Gr25 br25 sr25 F => ?_)
        refine g_bipush (v := 24) dX0_addLeg_104 (by decide) ?_
        refine g_icmp_ne 112 dX0_addLeg_106 (by decide) (fun h60 => ?_) (fun h60 => ?_)
        · have F := F.1 h60
          refine g_aload_n dX0_addLeg_112 rfl 0 rfl ?_
          obtain ⟨c31, F⟩ := F
          refine h_callVV (ci := 0) (C := RX0) (T := TX0) (N := 25) (As := []) (rest := []) F 0 rfl rfl (lw_V q485 q487 qs3 q108 q488) vm_X0_beginChange (by decide) rfl c31 rfl (room_of sc_nil (Nat.le_of_ble_eq_true rfl)) dX0_addLeg_113 (fun Gr30 br30 sr30 F => ?_)
          refine g_aload_n dX0_addLeg_116 rfl 0 rfl ?_
          obtain ⟨c33, F⟩ := F
          refine h_get (v := va_rf (gR Gr30 x 0)) 0 0 (C := RX0) (T := TX0) (N := 25) rfl in_X0 (by decide) q237 (Or.inl rfl) rfl c33 rfl dX0_addLeg_117 ?_
          obtain ⟨a34, e35, F⟩ := F
          obtain ⟨c36, F⟩ := F
          obtain ⟨m37, F⟩ := F
          refine h_getN (host := "CrewPairer") (v := va_rf (gR Gr30 a34 0)) 2 0 (C := RX1) (T := TX1) (N := 3) rfl in_X1 (by decide) (by decide +kernel) rfl e35 c36 m37 rfl dX0_addLeg_120 ?_
          obtain ⟨k40, F⟩ := F
          obtain ⟨k41, F⟩ := F
          refine g_new (C := RX4) (T := TX4) (N := 5) 3 rfl in_X4 tyX4_ok nd_X4 q556 q351 q137 k40 k41 dX0_addLeg_123 (fun q38 z39 z39' => ?_)
          have F := F q38 z39 z39'
          refine g_dup dX0_addLeg_126 (va_rf_cat _) ?_
          refine g_iload_n dX0_addLeg_127 rfl 1 rfl ?_
          refine g_iload_n dX0_addLeg_128 rfl 2 rfl ?_
          refine g_iload_n dX0_addLeg_129 rfl 3 rfl ?_
          refine g_iload dX0_addLeg_130 4 rfl ?_
          refine h_callIV (As := [.int p1, .int p2, .int p3, .int p4]) (rest := [va_rf (some q38), va_rf (gR Gr30 a34 0)]) F 4 rfl rfl (lw_meth q354) q137 q1064 q353 rfl vm_X4_init.2 (by decide) rfl rfl (room_of (sc_R (sc_R sc_nil)) (Nat.le_of_ble_eq_true rfl)) dX0_addLeg_132 (fun Gr43 br43 sr43 F => ?_)
          obtain ⟨a46, e47, F⟩ := F
          obtain ⟨c48, F⟩ := F
          refine h_callVI (ci := 9) (C := RJ2) (T := TJ2) (N := 3) (As := [va_rf (some q38)]) (rest := []) F 1 rfl rfl (lw_V q1065 q378 q379 q112 q380) vm_J2_add (by decide) e47 c48 rfl (room_of sc_nil (Nat.le_of_ble_eq_true rfl)) dX0_addLeg_135 (fun r45 Gr45 br45 sr45 F => ?_)
          refine g_pop dX0_addLeg_138 rfl ?_
          refine g_aload_n dX0_addLeg_139 rfl 0 rfl ?_
          obtain ⟨c50, F⟩ := F
          refine h_get (v := va_rf (gR Gr45 x 0)) 0 0 (C := RX0) (T := TX0) (N := 25) rfl in_X0 (by decide) q237 (Or.inl rfl) rfl c50 rfl dX0_addLeg_140 ?_
          obtain ⟨a51, e52, F⟩ := F
          obtain ⟨c53, F⟩ := F
          obtain ⟨m54, F⟩ := F
          refine h_getN (host := "CrewPairer") (v := va_rf (gR Gr45 a51 0)) 2 0 (C := RX1) (T := TX1) (N := 3) rfl in_X1 (by decide) (by decide +kernel) rfl e52 c53 m54 rfl dX0_addLeg_143 ?_
          obtain ⟨a56, e57, F⟩ := F
          obtain ⟨c58, F⟩ := F
          refine h_callVI (ci := 9) (C := RJ2) (T := TJ2) (N := 3) (As := []) (rest := []) F 0 rfl rfl (lw_V q480 q328 q329 q112 q330) vm_J2_size (by decide) e57 c58 rfl (room_of sc_nil (Nat.le_of_ble_eq_true rfl)) dX0_addLeg_146 (fun r55 Gr55 br55 sr55 F => ?_)
          refine g_iconst (v := 1) dX0_addLeg_149 (by decide) ?_
          refine g_isub dX0_addLeg_150 ?_
          exact g_iret rfl dX0_addLeg_151 F
        · have F := F.2 h60
          refine g_bipush (v := (-3)) dX0_addLeg_109 (by decide) ?_
          exact g_iret rfl dX0_addLeg_111 F
      · have F := F.2 h61
        refine g_bipush (v := (-4)) dX0_addLeg_91 (by decide) ?_
        exact g_iret rfl dX0_addLeg_93 F
    · have F := F.2 h62
      refine g_iconst (v := (-1)) dX0_addLeg_68 (by decide) ?_
      exact g_iret rfl dX0_addLeg_69 F
theorem rX0_isBetween_0 {Γ : GE} {l : Launch} {h MC MS : Nat} {Q : Option Value → GH → Prop} {bc bs : Nat} {G : GH} (p0 : Int32) (p1 : Int32) (p2 : Int32) (F : ((p0 < p1 → (Q (some (.int 0)) G)) ∧ (¬ p0 < p1 → ((p2 < p0 → (Q (some (.int 0)) G)) ∧ (¬ p2 < p0 → (Q (some (.int 1)) G)))))) : GW Γ l mX0_isBetween h MC MS Q 0 [(0, .int p0), (1, .int p1), (2, .int p2)] [] G bc bs := by
  refine g_iload_n dX0_isBetween_0 rfl 0 rfl ?_
  refine g_iload_n dX0_isBetween_1 rfl 1 rfl ?_
  refine g_icmp_lt 14 dX0_isBetween_2 (by decide) (fun h2 => ?_) (fun h2 => ?_)
  · have F := F.1 h2
    refine g_iconst (v := 0) dX0_isBetween_14 (by decide) ?_
    exact g_zret rfl rfl dX0_isBetween_15 F
  · have F := F.2 h2
    refine g_iload_n dX0_isBetween_5 rfl 0 rfl ?_
    refine g_iload_n dX0_isBetween_6 rfl 2 rfl ?_
    refine g_icmp_gt 14 dX0_isBetween_7 (by decide) (fun h1 => ?_) (fun h1 => ?_)
    · have F := F.1 h1
      refine g_iconst (v := 0) dX0_isBetween_14 (by decide) ?_
      exact g_zret rfl rfl dX0_isBetween_15 F
    · have F := F.2 h1
      refine g_iconst (v := 1) dX0_isBetween_10 (by decide) ?_
      refine g_goto 15 dX0_isBetween_11 (by decide) ?_
      exact g_zret rfl rfl dX0_isBetween_15 F
theorem rX0_keysWithout_0 {Γ : GE} {l : Launch} {h MC MS : Nat} {Q : Option Value → GH → Prop} {bc bs : Nat} {G : GH} (x : Nat) (p1 : Int32) (F : (1 ≤ bc ∧ 1 ≤ bs ∧ ∀ q1, gC G q1 = 0 → gA Γ q1 → cV Γ l h mJ9_init [.ref q1] (nO G q1 10) (bc - 1) (bs - 1) fun Gr6 br6 sr6 => GW Γ l mX0_keysWithout h MC MS Q 10 [(0, va_rf (some x)), (1, .int p1), (2, va_rf (some q1)), (3, .int 0)] [] Gr6 br6 sr6)) : GW Γ l mX0_keysWithout h MC MS Q 0 [(0, va_rf (some x)), (1, .int p1)] [] G bc bs := by
  obtain ⟨k3, F⟩ := F
  obtain ⟨k4, F⟩ := F
  refine g_new (C := RJ9) (T := TJ9) (N := 1) 10 rfl in_J9 tyJ9_ok nd_J9 q506 q507 q121 k3 k4 dX0_keysWithout_0 (fun q1 z2 z2' => ?_)
  have F := F q1 z2 z2'
  refine g_dup dX0_keysWithout_3 (va_rf_cat _) ?_
  refine h_callIV (As := []) (rest := [va_rf (some q1)]) F 0 rfl rfl (lw_meth q510) q121 q508 q509 rfl vm_J9_init.2 (by decide) rfl rfl (room_of (sc_R sc_nil) (Nat.le_of_ble_eq_true rfl)) dX0_keysWithout_4 (fun Gr6 br6 sr6 F => ?_)
  refine s_astore_n (lv' := [(0, va_rf (some x)), (1, .int p1), (2, va_rf (some q1))]) (cat_R (cat_I cat_nil)) dX0_keysWithout_7 rfl (by decide) rfl [1, 2, 0] rfl ?_
  refine g_iconst (v := 0) dX0_keysWithout_8 (by decide) ?_
  refine s_istore_n (lv' := [(0, va_rf (some x)), (1, .int p1), (2, va_rf (some q1)), (3, .int 0)]) (cat_R (cat_I (cat_R cat_nil))) dX0_keysWithout_9 rfl (by decide) rfl [1, 2, 3, 0] rfl ?_
  exact F
theorem rX0_keysWithout_10 {Γ : GE} {l : Launch} {h MC MS : Nat} {Q : Option Value → GH → Prop} {bc bs : Nat} {G : GH} (x : Nat) (p1 : Int32) (p2 : Option Nat) (p3 : Int32) (F : (gC G x = kO 0 ∧ ∃ a2, (gR G x 0) = some a2 ∧ gC G a2 = kO 2 ∧ gM G a2 = true ∧ ∃ a7, (gR G a2 0) = some a7 ∧ gC G a7 = kO 9 ∧ cI Γ l h mJ2_size [.ref a7] G bc bs fun r6 Gr6 br6 sr6 => ((r6 ≤ p3 → (Q (some (va_rf p2)) Gr6)) ∧ (¬ r6 ≤ p3 → (gC Gr6 x = kO 0 ∧ cR Γ l h mX0_legOf [.ref x, .int p3] Gr6 br6 sr6 fun r11 Gr11 br11 sr11 => ((p3 = p1 → (GW Γ l mX0_keysWithout h MC MS Q 10 [(0, va_rf (some x)), (1, .int p1), (2, va_rf p2), (3, .int (p3 + 1))] [] Gr11 br11 sr11)) ∧ (¬ p3 = p1 → (1 ≤ br11 ∧ 3 ≤ sr11 ∧ ∀ q14, gC Gr11 q14 = 0 → gA Γ q14 → ∃ a19, r11 = some a19 ∧ gC (nO Gr11 q14 5) a19 = kO 3 ∧ gM (nO Gr11 q14 5) a19 = true ∧ cV Γ l h mX3_init [.ref q14, .int (gI (nO Gr11 q14 5) a19 0), .int (gI (nO Gr11 q14 5) a19 1), .int (gI (nO Gr11 q14 5) a19 2)] (nO Gr11 q14 5) (br11 - 1) (sr11 - 3) fun Gr23 br23 sr23 => ∃ a26, p2 = some a26 ∧ gC Gr23 a26 = kO 10 ∧ cI Γ l h mJ9_add [.ref a26, va_rf (some q14)] Gr23 br23 sr23 fun r25 Gr25 br25 sr25 => GW Γ l mX0_keysWithout h MC MS Q 10 [(0, va_rf (some x)), (1, .int p1), (2, va_rf p2), (3, .int (p3 + 1))] [] Gr25 br25 sr25)))))))) : GW Γ l mX0_keysWithout h MC MS Q 10 [(0, va_rf (some x)), (1, .int p1), (2, va_rf p2), (3, .int p3)] [] G bc bs := by
  refine g_iload_n dX0_keysWithout_10 rfl 3 rfl ?_
  refine g_aload_n dX0_keysWithout_11 rfl 0 rfl ?_
  obtain ⟨c1, F⟩ := F
  refine h_get (v := va_rf (gR G x 0)) 0 0 (C := RX0) (T := TX0) (N := 25) rfl in_X0 (by decide) q237 (Or.inl rfl) rfl c1 rfl dX0_keysWithout_12 ?_
  obtain ⟨a2, e3, F⟩ := F
  obtain ⟨c4, F⟩ := F
  obtain ⟨m5, F⟩ := F
  refine h_getN (host := "CrewPairer") (v := va_rf (gR G a2 0)) 2 0 (C := RX1) (T := TX1) (N := 3) rfl in_X1 (by decide) (by decide +kernel) rfl e3 c4 m5 rfl dX0_keysWithout_15 ?_
  obtain ⟨a7, e8, F⟩ := F
  obtain ⟨c9, F⟩ := F
  refine h_callVI (ci := 9) (C := RJ2) (T := TJ2) (N := 3) (As := []) (rest := [.int p3]) F 0 rfl rfl (lw_V q480 q328 q329 q112 q330) vm_J2_size (by decide) e8 c9 rfl (room_of (sc_I sc_nil) (Nat.le_of_ble_eq_true rfl)) dX0_keysWithout_18 (fun r6 Gr6 br6 sr6 F => ?_)
  refine g_icmp_ge 69 dX0_keysWithout_21 (by decide) (fun h31 => ?_) (fun h31 => ?_)
  · have F := F.1 h31
    refine g_aload_n dX0_keysWithout_69 rfl 2 rfl ?_
    exact g_aret (r := p2) rfl (Or.inl ⟨_, rfl⟩) dX0_keysWithout_70 F
  · have F := F.2 h31
    refine g_aload_n dX0_keysWithout_24 rfl 0 rfl ?_
    refine g_iload_n dX0_keysWithout_25 rfl 3 rfl ?_
    obtain ⟨c12, F⟩ := F
    refine h_callVR (ci := 0) (C := RX0) (T := TX0) (N := 25) (As := [.int p3]) (rest := []) F 1 rfl rfl (lw_V q551 q553 qs6 q108 q554) vm_X0_legOf (by decide) rfl c12 rfl (room_of sc_nil (Nat.le_of_ble_eq_true rfl)) dX0_keysWithout_26 (fun r11 Gr11 br11 sr11 F => ?_)
    refine s_astore (lv' := [(0, va_rf (some x)), (1, .int p1), (2, va_rf p2), (3, .int p3), (4, va_rf r11)]) (cat_R (cat_I (cat_R (cat_I cat_nil)))) dX0_keysWithout_29 (by decide) rfl [1, 2, 3, 4, 0] rfl ?_
    refine g_iload_n dX0_keysWithout_31 rfl 3 rfl ?_
    refine g_iload_n dX0_keysWithout_32 rfl 1 rfl ?_
    refine g_icmp_eq 63 dX0_keysWithout_33 (by decide) (fun h30 => ?_) (fun h30 => ?_)
    · have F := F.1 h30
      refine s_iinc (v := (p3 + 1)) (lv' := [(0, va_rf (some x)), (1, .int p1), (2, va_rf p2), (3, .int (p3 + 1)), (4, va_rf r11)]) (cat_R (cat_I (cat_R (cat_I (cat_R cat_nil))))) dX0_keysWithout_63 (k0 := 3) rfl rfl (by decide) rfl [1, 2, 3, 0, 4] rfl ?_
      refine g_goto 10 dX0_keysWithout_66 (by decide) ?_
      refine GW.lsub (lv' := [(0, va_rf (some x)), (1, .int p1), (2, va_rf p2), (3, .int (p3 + 1))]) [0, 1, 2, 3] rfl ?_
      exact F
    · have F := F.2 h30
      refine g_aload_n dX0_keysWithout_36 rfl 2 rfl ?_
      obtain ⟨k16, F⟩ := F
      obtain ⟨k17, F⟩ := F
      refine g_new (C := RX3) (T := TX3) (N := 3) 5 rfl in_X3 tyX3_ok nd_X3 q557 q558 q126 k16 k17 dX0_keysWithout_37 (fun q14 z15 z15' => ?_)
      have F := F q14 z15 z15'
      refine g_dup dX0_keysWithout_40 (va_rf_cat _) ?_
      refine g_aload dX0_keysWithout_41 4 rfl ?_
      obtain ⟨a19, e20, F⟩ := F
      obtain ⟨c21, F⟩ := F
      obtain ⟨m22, F⟩ := F
      refine h_getN (host := "CrewPairer") (v := .int (gI (nO Gr11 q14 5) a19 0)) 3 0 (C := RX4) (T := TX4) (N := 5) rfl in_X4 (by decide) (by decide +kernel) rfl e20 c21 m22 rfl dX0_keysWithout_43 ?_
      refine g_aload dX0_keysWithout_46 4 rfl ?_
      refine h_getN (host := "CrewPairer") (v := .int (gI (nO Gr11 q14 5) a19 1)) 3 1 (C := RX4) (T := TX4) (N := 5) rfl in_X4 (by decide) (by decide +kernel) rfl e20 c21 m22 rfl dX0_keysWithout_48 ?_
      refine g_aload dX0_keysWithout_51 4 rfl ?_
      refine h_getN (host := "CrewPairer") (v := .int (gI (nO Gr11 q14 5) a19 2)) 3 2 (C := RX4) (T := TX4) (N := 5) rfl in_X4 (by decide) (by decide +kernel) rfl e20 c21 m22 rfl dX0_keysWithout_53 ?_
      refine h_callIV (As := [.int (gI (nO Gr11 q14 5) a19 0), .int (gI (nO Gr11 q14 5) a19 1), .int (gI (nO Gr11 q14 5) a19 2)]) (rest := [va_rf (some q14), va_rf p2]) F 3 rfl rfl (lw_meth q561) q126 q559 q560 rfl vm_X3_init.2 (by decide) rfl rfl (room_of (sc_R (sc_R sc_nil)) (Nat.le_of_ble_eq_true rfl)) dX0_keysWithout_56 (fun Gr23 br23 sr23 F => ?_)
      obtain ⟨a26, e27, F⟩ := F
      obtain ⟨c28, F⟩ := F
      refine h_callVI (ci := 10) (C := RJ9) (T := TJ9) (N := 1) (As := [va_rf (some q14)]) (rest := []) F 1 rfl rfl (lw_V q573 q574 q575 q121 q576) vm_J9_add (by decide) e27 c28 rfl (room_of sc_nil (Nat.le_of_ble_eq_true rfl)) dX0_keysWithout_59 (fun r25 Gr25 br25 sr25 F => ?_)
      refine g_pop dX0_keysWithout_62 rfl ?_
      refine s_iinc (v := (p3 + 1)) (lv' := [(0, va_rf (some x)), (1, .int p1), (2, va_rf p2), (3, .int (p3 + 1)), (4, va_rf r11)]) (cat_R (cat_I (cat_R (cat_I (cat_R cat_nil))))) dX0_keysWithout_63 (k0 := 3) rfl rfl (by decide) rfl [1, 2, 3, 0, 4] rfl ?_
      refine g_goto 10 dX0_keysWithout_66 (by decide) ?_
      refine GW.lsub (lv' := [(0, va_rf (some x)), (1, .int p1), (2, va_rf p2), (3, .int (p3 + 1))]) [0, 1, 2, 3] rfl ?_
      exact F
theorem rX0_legOf_0 {Γ : GE} {l : Launch} {h MC MS : Nat} {Q : Option Value → GH → Prop} {bc bs : Nat} {G : GH} (x : Nat) (p1 : Int32) (F : (gC G x = kO 0 ∧ ∃ a2, (gR G x 0) = some a2 ∧ gC G a2 = kO 2 ∧ gM G a2 = true ∧ ∃ a7, (gR G a2 0) = some a7 ∧ gC G a7 = kO 9 ∧ cR Γ l h mJ2_get [.ref a7, .int p1] G bc bs fun r6 Gr6 br6 sr6 => okCast Gr6 r6 "CrewPairer$Leg" ∧ Q (some (va_rf r6)) Gr6)) : GW Γ l mX0_legOf h MC MS Q 0 [(0, va_rf (some x)), (1, .int p1)] [] G bc bs := by
  refine g_aload_n dX0_legOf_0 rfl 0 rfl ?_
  obtain ⟨c1, F⟩ := F
  refine h_get (v := va_rf (gR G x 0)) 0 0 (C := RX0) (T := TX0) (N := 25) rfl in_X0 (by decide) q237 (Or.inl rfl) rfl c1 rfl dX0_legOf_1 ?_
  obtain ⟨a2, e3, F⟩ := F
  obtain ⟨c4, F⟩ := F
  obtain ⟨m5, F⟩ := F
  refine h_getN (host := "CrewPairer") (v := va_rf (gR G a2 0)) 2 0 (C := RX1) (T := TX1) (N := 3) rfl in_X1 (by decide) (by decide +kernel) rfl e3 c4 m5 rfl dX0_legOf_4 ?_
  refine g_iload_n dX0_legOf_7 rfl 1 rfl ?_
  obtain ⟨a7, e8, F⟩ := F
  obtain ⟨c9, F⟩ := F
  refine h_callVR (ci := 9) (C := RJ2) (T := TJ2) (N := 3) (As := [.int p1]) (rest := []) F 1 rfl rfl (lw_V q555 q332 q333 q112 q334) vm_J2_get (by decide) e8 c9 rfl (room_of sc_nil (Nat.le_of_ble_eq_true rfl)) dX0_legOf_8 (fun r6 Gr6 br6 sr6 F => ?_)
  obtain ⟨k11, F⟩ := F
  refine h_castO q556 k11 dX0_legOf_11 ?_
  exact g_aret (r := r6) rfl (Or.inl ⟨_, rfl⟩) dX0_legOf_14 F
theorem rX0_addCrew_0 {Γ : GE} {l : Launch} {h MC MS : Nat} {Q : Option Value → GH → Prop} {bc bs : Nat} {G : GH} (x : Nat) (p1 : Int32) (F : (cI Γ l h mX0_isBetween [.int p1, .int 0, .int 5] G bc bs fun r1 Gr1 br1 sr1 => ((¬ r1 = 0 → (gC Gr1 x = kO 0 ∧ ∃ a4, (gR Gr1 x 0) = some a4 ∧ gC Gr1 a4 = kO 2 ∧ gM Gr1 a4 = true ∧ ∃ a9, (gR Gr1 a4 1) = some a9 ∧ gC Gr1 a9 = kO 9 ∧ cI Γ l h mJ2_size [.ref a9] Gr1 br1 sr1 fun r8 Gr8 br8 sr8 => ((¬ r8 = 6 → (gC Gr8 x = kO 0 ∧ cV Γ l h mX0_beginChange [.ref x] Gr8 br8 sr8 fun Gr13 br13 sr13 => gC Gr13 x = kO 0 ∧ ∃ a17, (gR Gr13 x 0) = some a17 ∧ gC Gr13 a17 = kO 2 ∧ gM Gr13 a17 = true ∧ 1 ≤ br13 ∧ 6 ≤ sr13 ∧ ∀ q21, gC Gr13 q21 = 0 → gA Γ q21 → cV Γ l h mX5_init [.ref q21, .int p1] (nO Gr13 q21 4) (br13 - 1) (sr13 - 6) fun Gr26 br26 sr26 => ∃ a29, (gR Gr13 a17 1) = some a29 ∧ gC Gr26 a29 = kO 9 ∧ cI Γ l h mJ2_add [.ref a29, va_rf (some q21)] Gr26 br26 sr26 fun r28 Gr28 br28 sr28 => gC Gr28 x = kO 0 ∧ ∃ a34, (gR Gr28 x 0) = some a34 ∧ gC Gr28 a34 = kO 2 ∧ gM Gr28 a34 = true ∧ ∃ a39, (gR Gr28 a34 1) = some a39 ∧ gC Gr28 a39 = kO 9 ∧ cI Γ l h mJ2_size [.ref a39] Gr28 br28 sr28 fun r38 Gr38 br38 sr38 => Q (some (.int (r38 - 1))) Gr38)) ∧ (r8 = 6 → (Q (some (.int (-3))) Gr8))))) ∧ (r1 = 0 → (Q (some (.int (-1))) Gr1))))) : GW Γ l mX0_addCrew h MC MS Q 0 [(0, va_rf (some x)), (1, .int p1)] [] G bc bs := by
  refine g_iload_n dX0_addCrew_0 rfl 1 rfl ?_
  refine g_iconst (v := 0) dX0_addCrew_1 (by decide) ?_
  refine g_iconst (v := 5) dX0_addCrew_2 (by decide) ?_
  refine h_callSI (As := [.int p1, .int 0, .int 5]) (rest := []) F 3 rfl (lw_S q498 q499 q108 q500) vm_X0_isBetween.2 (by decide) rfl (room_of sc_nil (Nat.le_of_ble_eq_true rfl)) dX0_addCrew_3 (fun r1 Gr1 br1 sr1 F => ?_)
  refine g_if_ne 11 dX0_addCrew_6 (by decide) (fun h44 => ?_) (fun h44 => ?_)
  · have F := F.1 h44
    refine g_aload_n dX0_addCrew_11 rfl 0 rfl ?_
    obtain ⟨c3, F⟩ := F
    refine h_get (v := va_rf (gR Gr1 x 0)) 0 0 (C := RX0) (T := TX0) (N := 25) rfl in_X0 (by decide) q237 (Or.inl rfl) rfl c3 rfl dX0_addCrew_12 ?_
    obtain ⟨a4, e5, F⟩ := F
    obtain ⟨c6, F⟩ := F
    obtain ⟨m7, F⟩ := F
    refine h_getN (host := "CrewPairer") (v := va_rf (gR Gr1 a4 1)) 2 1 (C := RX1) (T := TX1) (N := 3) rfl in_X1 (by decide) (by decide +kernel) rfl e5 c6 m7 rfl dX0_addCrew_15 ?_
    obtain ⟨a9, e10, F⟩ := F
    obtain ⟨c11, F⟩ := F
    refine h_callVI (ci := 9) (C := RJ2) (T := TJ2) (N := 3) (As := []) (rest := []) F 0 rfl rfl (lw_V q480 q328 q329 q112 q330) vm_J2_size (by decide) e10 c11 rfl (room_of sc_nil (Nat.le_of_ble_eq_true rfl)) dX0_addCrew_18 (fun r8 Gr8 br8 sr8 F => ?_)
    refine g_bipush (v := 6) dX0_addCrew_21 (by decide) ?_
    refine g_icmp_ne 29 dX0_addCrew_23 (by decide) (fun h43 => ?_) (fun h43 => ?_)
    · have F := F.1 h43
      refine g_aload_n dX0_addCrew_29 rfl 0 rfl ?_
      obtain ⟨c14, F⟩ := F
      refine h_callVV (ci := 0) (C := RX0) (T := TX0) (N := 25) (As := []) (rest := []) F 0 rfl rfl (lw_V q485 q487 qs3 q108 q488) vm_X0_beginChange (by decide) rfl c14 rfl (room_of sc_nil (Nat.le_of_ble_eq_true rfl)) dX0_addCrew_30 (fun Gr13 br13 sr13 F => ?_)
      refine g_aload_n dX0_addCrew_33 rfl 0 rfl ?_
      obtain ⟨c16, F⟩ := F
      refine h_get (v := va_rf (gR Gr13 x 0)) 0 0 (C := RX0) (T := TX0) (N := 25) rfl in_X0 (by decide) q237 (Or.inl rfl) rfl c16 rfl dX0_addCrew_34 ?_
      obtain ⟨a17, e18, F⟩ := F
      obtain ⟨c19, F⟩ := F
      obtain ⟨m20, F⟩ := F
      refine h_getN (host := "CrewPairer") (v := va_rf (gR Gr13 a17 1)) 2 1 (C := RX1) (T := TX1) (N := 3) rfl in_X1 (by decide) (by decide +kernel) rfl e18 c19 m20 rfl dX0_addCrew_37 ?_
      obtain ⟨k23, F⟩ := F
      obtain ⟨k24, F⟩ := F
      refine g_new (C := RX5) (T := TX5) (N := 6) 4 rfl in_X5 tyX5_ok nd_X5 q1070 q448 q139 k23 k24 dX0_addCrew_40 (fun q21 z22 z22' => ?_)
      have F := F q21 z22 z22'
      refine g_dup dX0_addCrew_43 (va_rf_cat _) ?_
      refine g_iload_n dX0_addCrew_44 rfl 1 rfl ?_
      refine h_callIV (As := [.int p1]) (rest := [va_rf (some q21), va_rf (gR Gr13 a17 1)]) F 1 rfl rfl (lw_meth q451) q139 q1071 q450 rfl vm_X5_init.2 (by decide) rfl rfl (room_of (sc_R (sc_R sc_nil)) (Nat.le_of_ble_eq_true rfl)) dX0_addCrew_45 (fun Gr26 br26 sr26 F => ?_)
      obtain ⟨a29, e30, F⟩ := F
      obtain ⟨c31, F⟩ := F
      refine h_callVI (ci := 9) (C := RJ2) (T := TJ2) (N := 3) (As := [va_rf (some q21)]) (rest := []) F 1 rfl rfl (lw_V q1065 q378 q379 q112 q380) vm_J2_add (by decide) e30 c31 rfl (room_of sc_nil (Nat.le_of_ble_eq_true rfl)) dX0_addCrew_48 (fun r28 Gr28 br28 sr28 F => ?_)
      refine g_pop dX0_addCrew_51 rfl ?_
      refine g_aload_n dX0_addCrew_52 rfl 0 rfl ?_
      obtain ⟨c33, F⟩ := F
      refine h_get (v := va_rf (gR Gr28 x 0)) 0 0 (C := RX0) (T := TX0) (N := 25) rfl in_X0 (by decide) q237 (Or.inl rfl) rfl c33 rfl dX0_addCrew_53 ?_
      obtain ⟨a34, e35, F⟩ := F
      obtain ⟨c36, F⟩ := F
      obtain ⟨m37, F⟩ := F
      refine h_getN (host := "CrewPairer") (v := va_rf (gR Gr28 a34 1)) 2 1 (C := RX1) (T := TX1) (N := 3) rfl in_X1 (by decide) (by decide +kernel) rfl e35 c36 m37 rfl dX0_addCrew_56 ?_
      obtain ⟨a39, e40, F⟩ := F
      obtain ⟨c41, F⟩ := F
      refine h_callVI (ci := 9) (C := RJ2) (T := TJ2) (N := 3) (As := []) (rest := []) F 0 rfl rfl (lw_V q480 q328 q329 q112 q330) vm_J2_size (by decide) e40 c41 rfl (room_of sc_nil (Nat.le_of_ble_eq_true rfl)) dX0_addCrew_59 (fun r38 Gr38 br38 sr38 F => ?_)
      refine g_iconst (v := 1) dX0_addCrew_62 (by decide) ?_
      refine g_isub dX0_addCrew_63 ?_
      exact g_iret rfl dX0_addCrew_64 F
    · have F := F.2 h43
      refine g_bipush (v := (-3)) dX0_addCrew_26 (by decide) ?_
      exact g_iret rfl dX0_addCrew_28 F
  · have F := F.2 h44
    refine g_iconst (v := (-1)) dX0_addCrew_9 (by decide) ?_
    exact g_iret rfl dX0_addCrew_10 F
theorem rX0_legCount_0 {Γ : GE} {l : Launch} {h MC MS : Nat} {Q : Option Value → GH → Prop} {bc bs : Nat} {G : GH} (x : Nat) (F : (gC G x = kO 0 ∧ ∃ a2, (gR G x 0) = some a2 ∧ gC G a2 = kO 2 ∧ gM G a2 = true ∧ ∃ a7, (gR G a2 0) = some a7 ∧ gC G a7 = kO 9 ∧ cI Γ l h mJ2_size [.ref a7] G bc bs fun r6 Gr6 br6 sr6 => Q (some (.int r6)) Gr6)) : GW Γ l mX0_legCount h MC MS Q 0 [(0, va_rf (some x))] [] G bc bs := by
  refine g_aload_n dX0_legCount_0 rfl 0 rfl ?_
  obtain ⟨c1, F⟩ := F
  refine h_get (v := va_rf (gR G x 0)) 0 0 (C := RX0) (T := TX0) (N := 25) rfl in_X0 (by decide) q237 (Or.inl rfl) rfl c1 rfl dX0_legCount_1 ?_
  obtain ⟨a2, e3, F⟩ := F
  obtain ⟨c4, F⟩ := F
  obtain ⟨m5, F⟩ := F
  refine h_getN (host := "CrewPairer") (v := va_rf (gR G a2 0)) 2 0 (C := RX1) (T := TX1) (N := 3) rfl in_X1 (by decide) (by decide +kernel) rfl e3 c4 m5 rfl dX0_legCount_4 ?_
  obtain ⟨a7, e8, F⟩ := F
  obtain ⟨c9, F⟩ := F
  refine h_callVI (ci := 9) (C := RJ2) (T := TJ2) (N := 3) (As := []) (rest := []) F 0 rfl rfl (lw_V q480 q328 q329 q112 q330) vm_J2_size (by decide) e8 c9 rfl (room_of sc_nil (Nat.le_of_ble_eq_true rfl)) dX0_legCount_7 (fun r6 Gr6 br6 sr6 F => ?_)
  exact g_iret rfl dX0_legCount_10 F
theorem rX0_crewCount_0 {Γ : GE} {l : Launch} {h MC MS : Nat} {Q : Option Value → GH → Prop} {bc bs : Nat} {G : GH} (x : Nat) (F : (gC G x = kO 0 ∧ ∃ a2, (gR G x 0) = some a2 ∧ gC G a2 = kO 2 ∧ gM G a2 = true ∧ ∃ a7, (gR G a2 1) = some a7 ∧ gC G a7 = kO 9 ∧ cI Γ l h mJ2_size [.ref a7] G bc bs fun r6 Gr6 br6 sr6 => Q (some (.int r6)) Gr6)) : GW Γ l mX0_crewCount h MC MS Q 0 [(0, va_rf (some x))] [] G bc bs := by
  refine g_aload_n dX0_crewCount_0 rfl 0 rfl ?_
  obtain ⟨c1, F⟩ := F
  refine h_get (v := va_rf (gR G x 0)) 0 0 (C := RX0) (T := TX0) (N := 25) rfl in_X0 (by decide) q237 (Or.inl rfl) rfl c1 rfl dX0_crewCount_1 ?_
  obtain ⟨a2, e3, F⟩ := F
  obtain ⟨c4, F⟩ := F
  obtain ⟨m5, F⟩ := F
  refine h_getN (host := "CrewPairer") (v := va_rf (gR G a2 1)) 2 1 (C := RX1) (T := TX1) (N := 3) rfl in_X1 (by decide) (by decide +kernel) rfl e3 c4 m5 rfl dX0_crewCount_4 ?_
  obtain ⟨a7, e8, F⟩ := F
  obtain ⟨c9, F⟩ := F
  refine h_callVI (ci := 9) (C := RJ2) (T := TJ2) (N := 3) (As := []) (rest := []) F 0 rfl rfl (lw_V q480 q328 q329 q112 q330) vm_J2_size (by decide) e8 c9 rfl (room_of sc_nil (Nat.le_of_ble_eq_true rfl)) dX0_crewCount_7 (fun r6 Gr6 br6 sr6 F => ?_)
  exact g_iret rfl dX0_crewCount_10 F
theorem rX0_leg_0 {Γ : GE} {l : Launch} {h MC MS : Nat} {Q : Option Value → GH → Prop} {bc bs : Nat} {G : GH} (x : Nat) (p1 : Int32) (p2 : Int32) (F : (gC G x = kO 0 ∧ cI Γ l h mX0_isLeg [.ref x, .int p1] G bc bs fun r1 Gr1 br1 sr1 => ((¬ r1 = 0 → (gC Gr1 x = kO 0 ∧ cR Γ l h mX0_legOf [.ref x, .int p1] Gr1 br1 sr1 fun r4 Gr4 br4 sr4 => ((p2 = 0 → (∃ a8, r4 = some a8 ∧ gC Gr4 a8 = kO 3 ∧ gM Gr4 a8 = true ∧ Q (some (.int (gI Gr4 a8 0))) Gr4)) ∧ (p2 = 1 → (∃ a12, r4 = some a12 ∧ gC Gr4 a12 = kO 3 ∧ gM Gr4 a12 = true ∧ Q (some (.int (gI Gr4 a12 1))) Gr4)) ∧ (p2 = 2 → (∃ a16, r4 = some a16 ∧ gC Gr4 a16 = kO 3 ∧ gM Gr4 a16 = true ∧ Q (some (.int (gI Gr4 a16 2))) Gr4)) ∧ (p2 = 3 → (∃ a20, r4 = some a20 ∧ gC Gr4 a20 = kO 3 ∧ gM Gr4 a20 = true ∧ Q (some (.int (gI Gr4 a20 3))) Gr4)) ∧ (p2 = 4 → (∃ a24, r4 = some a24 ∧ gC Gr4 a24 = kO 3 ∧ gM Gr4 a24 = true ∧ (((gI Gr4 a24 4) = 0 → (Q (some (.int 0)) Gr4)) ∧ (¬ (gI Gr4 a24 4) = 0 → (Q (some (.int 1)) Gr4))))) ∧ (p2 = 5 → (gC Gr4 x = kO 0 ∧ cI Γ l h mX0_flownBy [.ref x, .int p1] Gr4 br4 sr4 fun r29 Gr29 br29 sr29 => Q (some (.int r29)) Gr29)) ∧ ((p2.toInt < 0 ∨ 5 < p2.toInt) → (Q (some (.int (-1))) Gr4))))) ∧ (r1 = 0 → (Q (some (.int (-1))) Gr1))))) : GW Γ l mX0_leg h MC MS Q 0 [(0, va_rf (some x)), (1, .int p1), (2, .int p2)] [] G bc bs := by
  refine g_aload_n dX0_leg_0 rfl 0 rfl ?_
  refine g_iload_n dX0_leg_1 rfl 1 rfl ?_
  obtain ⟨c2, F⟩ := F
  refine h_callVI (ci := 0) (C := RX0) (T := TX0) (N := 25) (As := [.int p1]) (rest := []) F 1 rfl rfl (lw_V q1084 q1086 qs7 q108 q1087) vm_X0_isLeg (by decide) rfl c2 rfl (room_of sc_nil (Nat.le_of_ble_eq_true rfl)) dX0_leg_2 (fun r1 Gr1 br1 sr1 F => ?_)
  refine g_if_ne 10 dX0_leg_5 (by decide) (fun h32 => ?_) (fun h32 => ?_)
  · have F := F.1 h32
    refine g_aload_n dX0_leg_10 rfl 0 rfl ?_
    refine g_iload_n dX0_leg_11 rfl 1 rfl ?_
    obtain ⟨c5, F⟩ := F
    refine h_callVR (ci := 0) (C := RX0) (T := TX0) (N := 25) (As := [.int p1]) (rest := []) F 1 rfl rfl (lw_V q551 q553 qs6 q108 q554) vm_X0_legOf (by decide) rfl c5 rfl (room_of sc_nil (Nat.le_of_ble_eq_true rfl)) dX0_leg_12 (fun r4 Gr4 br4 sr4 F => ?_)
    refine s_astore_n (lv' := [(0, va_rf (some x)), (1, .int p1), (2, .int p2), (3, va_rf r4)]) (cat_R (cat_I (cat_I cat_nil))) dX0_leg_15 rfl (by decide) rfl [1, 2, 3, 0] rfl ?_
    refine g_iload_n dX0_leg_16 rfl 2 rfl ?_
    by_cases h7 : (p2.toInt < 0 ∨ 5 < p2.toInt)
    · have F := F.2.2.2.2.2.2 h7
      refine h_tout 95 dX0_leg_17 h7 (by decide) ?_
      refine g_iconst (v := (-1)) dX0_leg_95 (by decide) ?_
      exact g_iret rfl dX0_leg_96 F
    · have zh7 : p2.toInt = 0 ∨ p2.toInt = 1 ∨ p2.toInt = 2 ∨ p2.toInt = 3 ∨ p2.toInt = 4 ∨ p2.toInt = 5 := by omega
      rcases zh7 with zh7 | zh7 | zh7 | zh7 | zh7 | zh7
      · have F := F.1 (tsw_eq zh7 (by decide))
        refine h_tin 56 dX0_leg_17 zh7 (by decide) (by decide) rfl (by decide) ?_
        refine g_aload_n dX0_leg_56 rfl 3 rfl ?_
        obtain ⟨a8, e9, F⟩ := F
        obtain ⟨c10, F⟩ := F
        obtain ⟨m11, F⟩ := F
        refine h_getN (host := "CrewPairer") (v := .int (gI Gr4 a8 0)) 3 0 (C := RX4) (T := TX4) (N := 5) rfl in_X4 (by decide) (by decide +kernel) rfl e9 c10 m11 rfl dX0_leg_57 ?_
        exact g_iret rfl dX0_leg_60 F
      · have F := F.2.1 (tsw_eq zh7 (by decide))
        refine h_tin 61 dX0_leg_17 zh7 (by decide) (by decide) rfl (by decide) ?_
        refine g_aload_n dX0_leg_61 rfl 3 rfl ?_
        obtain ⟨a12, e13, F⟩ := F
        obtain ⟨c14, F⟩ := F
        obtain ⟨m15, F⟩ := F
        refine h_getN (host := "CrewPairer") (v := .int (gI Gr4 a12 1)) 3 1 (C := RX4) (T := TX4) (N := 5) rfl in_X4 (by decide) (by decide +kernel) rfl e13 c14 m15 rfl dX0_leg_62 ?_
        exact g_iret rfl dX0_leg_65 F
      · have F := F.2.2.1 (tsw_eq zh7 (by decide))
        refine h_tin 66 dX0_leg_17 zh7 (by decide) (by decide) rfl (by decide) ?_
        refine g_aload_n dX0_leg_66 rfl 3 rfl ?_
        obtain ⟨a16, e17, F⟩ := F
        obtain ⟨c18, F⟩ := F
        obtain ⟨m19, F⟩ := F
        refine h_getN (host := "CrewPairer") (v := .int (gI Gr4 a16 2)) 3 2 (C := RX4) (T := TX4) (N := 5) rfl in_X4 (by decide) (by decide +kernel) rfl e17 c18 m19 rfl dX0_leg_67 ?_
        exact g_iret rfl dX0_leg_70 F
      · have F := F.2.2.2.1 (tsw_eq zh7 (by decide))
        refine h_tin 71 dX0_leg_17 zh7 (by decide) (by decide) rfl (by decide) ?_
        refine g_aload_n dX0_leg_71 rfl 3 rfl ?_
        obtain ⟨a20, e21, F⟩ := F
        obtain ⟨c22, F⟩ := F
        obtain ⟨m23, F⟩ := F
        refine h_getN (host := "CrewPairer") (v := .int (gI Gr4 a20 3)) 3 3 (C := RX4) (T := TX4) (N := 5) rfl in_X4 (by decide) (by decide +kernel) rfl e21 c22 m23 rfl dX0_leg_72 ?_
        exact g_iret rfl dX0_leg_75 F
      · have F := F.2.2.2.2.1 (tsw_eq zh7 (by decide))
        refine h_tin 76 dX0_leg_17 zh7 (by decide) (by decide) rfl (by decide) ?_
        refine g_aload_n dX0_leg_76 rfl 3 rfl ?_
        obtain ⟨a24, e25, F⟩ := F
        obtain ⟨c26, F⟩ := F
        obtain ⟨m27, F⟩ := F
        refine h_getN (host := "CrewPairer") (v := .int (gI Gr4 a24 4)) 3 4 (C := RX4) (T := TX4) (N := 5) rfl in_X4 (by decide) (by decide +kernel) rfl e25 c26 m27 rfl dX0_leg_77 ?_
        refine g_if_eq 87 dX0_leg_80 (by decide) (fun h28 => ?_) (fun h28 => ?_)
        · have F := F.1 h28
          refine g_iconst (v := 0) dX0_leg_87 (by decide) ?_
          exact g_iret rfl dX0_leg_88 F
        · have F := F.2 h28
          refine g_iconst (v := 1) dX0_leg_83 (by decide) ?_
          refine g_goto 88 dX0_leg_84 (by decide) ?_
          exact g_iret rfl dX0_leg_88 F
      · have F := F.2.2.2.2.2.1 (tsw_eq zh7 (by decide))
        refine h_tin 89 dX0_leg_17 zh7 (by decide) (by decide) rfl (by decide) ?_
        refine g_aload_n dX0_leg_89 rfl 0 rfl ?_
        refine g_iload_n dX0_leg_90 rfl 1 rfl ?_
        obtain ⟨c30, F⟩ := F
        refine h_callVI (ci := 0) (C := RX0) (T := TX0) (N := 25) (As := [.int p1]) (rest := []) F 1 rfl rfl (lw_V q1088 q1090 qs8 q108 q1091) vm_X0_flownBy (by decide) rfl c30 rfl (room_of sc_nil (Nat.le_of_ble_eq_true rfl)) dX0_leg_91 (fun r29 Gr29 br29 sr29 F => ?_)
        exact g_iret rfl dX0_leg_94 F
  · have F := F.2 h32
    refine g_iconst (v := (-1)) dX0_leg_8 (by decide) ?_
    exact g_iret rfl dX0_leg_9 F
theorem rX0_isLeg_0 {Γ : GE} {l : Launch} {h MC MS : Nat} {Q : Option Value → GH → Prop} {bc bs : Nat} {G : GH} (x : Nat) (p1 : Int32) (F : (gC G x = kO 0 ∧ ∃ a2, (gR G x 0) = some a2 ∧ gC G a2 = kO 2 ∧ gM G a2 = true ∧ ∃ a7, (gR G a2 0) = some a7 ∧ gC G a7 = kO 9 ∧ cI Γ l h mJ2_size [.ref a7] G bc bs fun r6 Gr6 br6 sr6 => cI Γ l h mX0_isBetween [.int p1, .int 0, .int (r6 - 1)] Gr6 br6 sr6 fun r11 Gr11 br11 sr11 => narrow .boolean (.int r11) = .int r11 ∧ Q (some (.int r11)) Gr11)) : GW Γ l mX0_isLeg h MC MS Q 0 [(0, va_rf (some x)), (1, .int p1)] [] G bc bs := by
  refine g_iload_n dX0_isLeg_0 rfl 1 rfl ?_
  refine g_iconst (v := 0) dX0_isLeg_1 (by decide) ?_
  refine g_aload_n dX0_isLeg_2 rfl 0 rfl ?_
  obtain ⟨c1, F⟩ := F
  refine h_get (v := va_rf (gR G x 0)) 0 0 (C := RX0) (T := TX0) (N := 25) rfl in_X0 (by decide) q237 (Or.inl rfl) rfl c1 rfl dX0_isLeg_3 ?_
  obtain ⟨a2, e3, F⟩ := F
  obtain ⟨c4, F⟩ := F
  obtain ⟨m5, F⟩ := F
  refine h_getN (host := "CrewPairer") (v := va_rf (gR G a2 0)) 2 0 (C := RX1) (T := TX1) (N := 3) rfl in_X1 (by decide) (by decide +kernel) rfl e3 c4 m5 rfl dX0_isLeg_6 ?_
  obtain ⟨a7, e8, F⟩ := F
  obtain ⟨c9, F⟩ := F
  refine h_callVI (ci := 9) (C := RJ2) (T := TJ2) (N := 3) (As := []) (rest := [.int 0, .int p1]) F 0 rfl rfl (lw_V q480 q328 q329 q112 q330) vm_J2_size (by decide) e8 c9 rfl (room_of (sc_I (sc_I sc_nil)) (Nat.le_of_ble_eq_true rfl)) dX0_isLeg_9 (fun r6 Gr6 br6 sr6 F => ?_)
  refine g_iconst (v := 1) dX0_isLeg_12 (by decide) ?_
  refine g_isub dX0_isLeg_13 ?_
  refine h_callSI (As := [.int p1, .int 0, .int (r6 - 1)]) (rest := []) F 3 rfl (lw_S q498 q499 q108 q500) vm_X0_isBetween.2 (by decide) rfl (room_of sc_nil (Nat.le_of_ble_eq_true rfl)) dX0_isLeg_14 (fun r11 Gr11 br11 sr11 F => ?_)
  obtain ⟨k13, F⟩ := F
  exact g_zret rfl k13 dX0_isLeg_17 F
theorem rX0_flownBy_0 {Γ : GE} {l : Launch} {h MC MS : Nat} {Q : Option Value → GH → Prop} {bc bs : Nat} {G : GH} (x : Nat) (p1 : Int32) (F : (GW Γ l mX0_flownBy h MC MS Q 2 [(0, va_rf (some x)), (1, .int p1), (2, .int 0)] [] G bc bs)) : GW Γ l mX0_flownBy h MC MS Q 0 [(0, va_rf (some x)), (1, .int p1)] [] G bc bs := by
  refine g_iconst (v := 0) dX0_flownBy_0 (by decide) ?_
  refine s_istore_n (lv' := [(0, va_rf (some x)), (1, .int p1), (2, .int 0)]) (cat_R (cat_I cat_nil)) dX0_flownBy_1 rfl (by decide) rfl [1, 2, 0] rfl ?_
  exact F
theorem rX0_flownBy_2 {Γ : GE} {l : Launch} {h MC MS : Nat} {Q : Option Value → GH → Prop} {bc bs : Nat} {G : GH} (x : Nat) (p1 : Int32) (p2 : Int32) (F : (gC G x = kO 0 ∧ ∃ a2, (gR G x 0) = some a2 ∧ gC G a2 = kO 2 ∧ gM G a2 = true ∧ ∃ a7, (gR G a2 1) = some a7 ∧ gC G a7 = kO 9 ∧ cI Γ l h mJ2_size [.ref a7] G bc bs fun r6 Gr6 br6 sr6 => ((r6 ≤ p2 → (Q (some (.int (-2))) Gr6)) ∧ (¬ r6 ≤ p2 → (gC Gr6 x = kO 0 ∧ cR Γ l h mX0_crewOf [.ref x, .int p2] Gr6 br6 sr6 fun r11 Gr11 br11 sr11 => ∃ a15, r11 = some a15 ∧ gC Gr11 a15 = kO 4 ∧ cI Γ l h mX5_find [.ref a15, .int p1] Gr11 br11 sr11 fun r14 Gr14 br14 sr14 => ((r14 < 0 → (GW Γ l mX0_flownBy h MC MS Q 2 [(0, va_rf (some x)), (1, .int p1), (2, .int (p2 + 1))] [] Gr14 br14 sr14)) ∧ (¬ r14 < 0 → (gC Gr14 x = kO 0 ∧ cR Γ l h mX0_crewOf [.ref x, .int p2] Gr14 br14 sr14 fun r19 Gr19 br19 sr19 => ∃ a22, r19 = some a22 ∧ gC Gr19 a22 = kO 4 ∧ gM Gr19 a22 = true ∧ ∃ a26, (gR Gr19 a22 2) = some a26 ∧ gC Gr19 a26 = kA 1 ∧ vp_in r14 (gL Gr19 a26) ∧ (((gI Gr19 a26 r14.toNatClampNeg) = 0 → (GW Γ l mX0_flownBy h MC MS Q 2 [(0, va_rf (some x)), (1, .int p1), (2, .int (p2 + 1))] [] Gr19 br19 sr19)) ∧ (¬ (gI Gr19 a26 r14.toNatClampNeg) = 0 → (Q (some (.int p2)) Gr19))))))))))) : GW Γ l mX0_flownBy h MC MS Q 2 [(0, va_rf (some x)), (1, .int p1), (2, .int p2)] [] G bc bs := by
  refine g_iload_n dX0_flownBy_2 rfl 2 rfl ?_
  refine g_aload_n dX0_flownBy_3 rfl 0 rfl ?_
  obtain ⟨c1, F⟩ := F
  refine h_get (v := va_rf (gR G x 0)) 0 0 (C := RX0) (T := TX0) (N := 25) rfl in_X0 (by decide) q237 (Or.inl rfl) rfl c1 rfl dX0_flownBy_4 ?_
  obtain ⟨a2, e3, F⟩ := F
  obtain ⟨c4, F⟩ := F
  obtain ⟨m5, F⟩ := F
  refine h_getN (host := "CrewPairer") (v := va_rf (gR G a2 1)) 2 1 (C := RX1) (T := TX1) (N := 3) rfl in_X1 (by decide) (by decide +kernel) rfl e3 c4 m5 rfl dX0_flownBy_7 ?_
  obtain ⟨a7, e8, F⟩ := F
  obtain ⟨c9, F⟩ := F
  refine h_callVI (ci := 9) (C := RJ2) (T := TJ2) (N := 3) (As := []) (rest := [.int p2]) F 0 rfl rfl (lw_V q480 q328 q329 q112 q330) vm_J2_size (by decide) e8 c9 rfl (room_of (sc_I sc_nil) (Nat.le_of_ble_eq_true rfl)) dX0_flownBy_10 (fun r6 Gr6 br6 sr6 F => ?_)
  refine g_icmp_ge 51 dX0_flownBy_13 (by decide) (fun h32 => ?_) (fun h32 => ?_)
  · have F := F.1 h32
    refine g_bipush (v := (-2)) dX0_flownBy_51 (by decide) ?_
    exact g_iret rfl dX0_flownBy_53 F
  · have F := F.2 h32
    refine g_aload_n dX0_flownBy_16 rfl 0 rfl ?_
    refine g_iload_n dX0_flownBy_17 rfl 2 rfl ?_
    obtain ⟨c12, F⟩ := F
    refine h_callVR (ci := 0) (C := RX0) (T := TX0) (N := 25) (As := [.int p2]) (rest := []) F 1 rfl rfl (lw_V q1092 q1094 qs9 q108 q1095) vm_X0_crewOf (by decide) rfl c12 rfl (room_of sc_nil (Nat.le_of_ble_eq_true rfl)) dX0_flownBy_18 (fun r11 Gr11 br11 sr11 F => ?_)
    refine g_iload_n dX0_flownBy_21 rfl 1 rfl ?_
    obtain ⟨a15, e16, F⟩ := F
    obtain ⟨c17, F⟩ := F
    refine h_callVI (ci := 4) (C := RX5) (T := TX5) (N := 6) (As := [.int p1]) (rest := []) F 1 rfl rfl (lw_V q1096 q1097 q1098 q139 q1099) vm_X5_find (by decide) e16 c17 rfl (room_of sc_nil (Nat.le_of_ble_eq_true rfl)) dX0_flownBy_22 (fun r14 Gr14 br14 sr14 F => ?_)
    refine s_istore_n (lv' := [(0, va_rf (some x)), (1, .int p1), (2, .int p2), (3, .int r14)]) (cat_R (cat_I (cat_I cat_nil))) dX0_flownBy_25 rfl (by decide) rfl [1, 2, 3, 0] rfl ?_
    refine g_iload_n dX0_flownBy_26 rfl 3 rfl ?_
    refine g_if_lt 45 dX0_flownBy_27 (by decide) (fun h31 => ?_) (fun h31 => ?_)
    · have F := F.1 h31
      refine s_iinc (v := (p2 + 1)) (lv' := [(0, va_rf (some x)), (1, .int p1), (2, .int (p2 + 1)), (3, .int r14)]) (cat_R (cat_I (cat_I (cat_I cat_nil)))) dX0_flownBy_45 (k0 := 2) rfl rfl (by decide) rfl [1, 2, 0, 3] rfl ?_
      refine g_goto 2 dX0_flownBy_48 (by decide) ?_
      refine GW.lsub (lv' := [(0, va_rf (some x)), (1, .int p1), (2, .int (p2 + 1))]) [0, 1, 2] rfl ?_
      exact F
    · have F := F.2 h31
      refine g_aload_n dX0_flownBy_30 rfl 0 rfl ?_
      refine g_iload_n dX0_flownBy_31 rfl 2 rfl ?_
      obtain ⟨c20, F⟩ := F
      refine h_callVR (ci := 0) (C := RX0) (T := TX0) (N := 25) (As := [.int p2]) (rest := []) F 1 rfl rfl (lw_V q1092 q1094 qs9 q108 q1095) vm_X0_crewOf (by decide) rfl c20 rfl (room_of sc_nil (Nat.le_of_ble_eq_true rfl)) dX0_flownBy_32 (fun r19 Gr19 br19 sr19 F => ?_)
      obtain ⟨a22, e23, F⟩ := F
      obtain ⟨c24, F⟩ := F
      obtain ⟨m25, F⟩ := F
      refine h_getN (host := "CrewPairer") (v := va_rf (gR Gr19 a22 2)) 4 2 (C := RX5) (T := TX5) (N := 6) rfl in_X5 (by decide) (by decide +kernel) rfl e23 c24 m25 rfl dX0_flownBy_35 ?_
      refine g_iload_n dX0_flownBy_38 rfl 3 rfl ?_
      obtain ⟨a26, e27, F⟩ := F
      obtain ⟨c28, F⟩ := F
      obtain ⟨k29, F⟩ := F
      refine h_zald e27 c28 k29 dX0_flownBy_39 ?_
      refine g_if_eq 45 dX0_flownBy_40 (by decide) (fun h30 => ?_) (fun h30 => ?_)
      · have F := F.1 h30
        refine s_iinc (v := (p2 + 1)) (lv' := [(0, va_rf (some x)), (1, .int p1), (2, .int (p2 + 1)), (3, .int r14)]) (cat_R (cat_I (cat_I (cat_I cat_nil)))) dX0_flownBy_45 (k0 := 2) rfl rfl (by decide) rfl [1, 2, 0, 3] rfl ?_
        refine g_goto 2 dX0_flownBy_48 (by decide) ?_
        refine GW.lsub (lv' := [(0, va_rf (some x)), (1, .int p1), (2, .int (p2 + 1))]) [0, 1, 2] rfl ?_
        exact F
      · have F := F.2 h30
        refine g_iload_n dX0_flownBy_43 rfl 2 rfl ?_
        exact g_iret rfl dX0_flownBy_44 F
theorem rX0_crewOf_0 {Γ : GE} {l : Launch} {h MC MS : Nat} {Q : Option Value → GH → Prop} {bc bs : Nat} {G : GH} (x : Nat) (p1 : Int32) (F : (gC G x = kO 0 ∧ ∃ a2, (gR G x 0) = some a2 ∧ gC G a2 = kO 2 ∧ gM G a2 = true ∧ ∃ a7, (gR G a2 1) = some a7 ∧ gC G a7 = kO 9 ∧ cR Γ l h mJ2_get [.ref a7, .int p1] G bc bs fun r6 Gr6 br6 sr6 => okCast Gr6 r6 "CrewPairer$Crew" ∧ Q (some (va_rf r6)) Gr6)) : GW Γ l mX0_crewOf h MC MS Q 0 [(0, va_rf (some x)), (1, .int p1)] [] G bc bs := by
  refine g_aload_n dX0_crewOf_0 rfl 0 rfl ?_
  obtain ⟨c1, F⟩ := F
  refine h_get (v := va_rf (gR G x 0)) 0 0 (C := RX0) (T := TX0) (N := 25) rfl in_X0 (by decide) q237 (Or.inl rfl) rfl c1 rfl dX0_crewOf_1 ?_
  obtain ⟨a2, e3, F⟩ := F
  obtain ⟨c4, F⟩ := F
  obtain ⟨m5, F⟩ := F
  refine h_getN (host := "CrewPairer") (v := va_rf (gR G a2 1)) 2 1 (C := RX1) (T := TX1) (N := 3) rfl in_X1 (by decide) (by decide +kernel) rfl e3 c4 m5 rfl dX0_crewOf_4 ?_
  refine g_iload_n dX0_crewOf_7 rfl 1 rfl ?_
  obtain ⟨a7, e8, F⟩ := F
  obtain ⟨c9, F⟩ := F
  refine h_callVR (ci := 9) (C := RJ2) (T := TJ2) (N := 3) (As := [.int p1]) (rest := []) F 1 rfl rfl (lw_V q555 q332 q333 q112 q334) vm_J2_get (by decide) e8 c9 rfl (room_of sc_nil (Nat.le_of_ble_eq_true rfl)) dX0_crewOf_8 (fun r6 Gr6 br6 sr6 F => ?_)
  obtain ⟨k11, F⟩ := F
  refine h_castO q1070 k11 dX0_crewOf_11 ?_
  exact g_aret (r := r6) rfl (Or.inl ⟨_, rfl⟩) dX0_crewOf_14 F
theorem rX0_setRule_0 {Γ : GE} {l : Launch} {h MC MS : Nat} {Q : Option Value → GH → Prop} {bc bs : Nat} {G : GH} (x : Nat) (p1 : Int32) (p2 : Int32) (F : (cI Γ l h mX0_isBetween [.int p1, .int 0, .int 7] G bc bs fun r1 Gr1 br1 sr1 => ((r1 = 0 → (Q (some (.int (-1))) Gr1)) ∧ (¬ r1 = 0 → (cI Γ l h mX0_least [.int p1] Gr1 br1 sr1 fun r3 Gr3 br3 sr3 => cI Γ l h mX0_most [.int p1] Gr3 br3 sr3 fun r5 Gr5 br5 sr5 => cI Γ l h mX0_isBetween [.int p2, .int r3, .int r5] Gr5 br5 sr5 fun r7 Gr7 br7 sr7 => ((¬ r7 = 0 → (gC Gr7 x = kO 0 ∧ cV Γ l h mX0_beginChange [.ref x] Gr7 br7 sr7 fun Gr9 br9 sr9 => gC Gr9 x = kO 0 ∧ ∃ a13, (gR Gr9 x 0) = some a13 ∧ gC Gr9 a13 = kO 2 ∧ gM Gr9 a13 = true ∧ ∃ a17, (gR Gr9 a13 2) = some a17 ∧ gC Gr9 a17 = kA 0 ∧ vp_in p1 (gL Gr9 a17) ∧ gM Gr9 a17 = true ∧ vp_in p1 (gL Gr9 a17) ∧ Q (some (.int (gI Gr9 a17 p1.toNatClampNeg))) (sI Gr9 a17 p1.toNatClampNeg p2))) ∧ (r7 = 0 → (Q (some (.int (-1))) Gr7)))))))) : GW Γ l mX0_setRule h MC MS Q 0 [(0, va_rf (some x)), (1, .int p1), (2, .int p2)] [] G bc bs := by
  refine g_iload_n dX0_setRule_0 rfl 1 rfl ?_
  refine g_iconst (v := 0) dX0_setRule_1 (by decide) ?_
  refine g_bipush (v := 7) dX0_setRule_2 (by decide) ?_
  refine h_callSI (As := [.int p1, .int 0, .int 7]) (rest := []) F 3 rfl (lw_S q498 q499 q108 q500) vm_X0_isBetween.2 (by decide) rfl (room_of sc_nil (Nat.le_of_ble_eq_true rfl)) dX0_setRule_4 (fun r1 Gr1 br1 sr1 F => ?_)
  refine g_if_eq 25 dX0_setRule_7 (by decide) (fun h24 => ?_) (fun h24 => ?_)
  · have F := F.1 h24
    refine g_iconst (v := (-1)) dX0_setRule_25 (by decide) ?_
    exact g_iret rfl dX0_setRule_26 F
  · have F := F.2 h24
    refine g_iload_n dX0_setRule_10 rfl 2 rfl ?_
    refine g_iload_n dX0_setRule_11 rfl 1 rfl ?_
    refine h_callSI (As := [.int p1]) (rest := [.int p2]) F 1 rfl (lw_S q1104 q1105 q108 q1106) vm_X0_least.2 (by decide) rfl (room_of (sc_I sc_nil) (Nat.le_of_ble_eq_true rfl)) dX0_setRule_12 (fun r3 Gr3 br3 sr3 F => ?_)
    refine g_iload_n dX0_setRule_15 rfl 1 rfl ?_
    refine h_callSI (As := [.int p1]) (rest := [.int r3, .int p2]) F 1 rfl (lw_S q1107 q1108 q108 q1109) vm_X0_most.2 (by decide) rfl (room_of (sc_I (sc_I sc_nil)) (Nat.le_of_ble_eq_true rfl)) dX0_setRule_16 (fun r5 Gr5 br5 sr5 F => ?_)
    refine h_callSI (As := [.int p2, .int r3, .int r5]) (rest := []) F 3 rfl (lw_S q498 q499 q108 q500) vm_X0_isBetween.2 (by decide) rfl (room_of sc_nil (Nat.le_of_ble_eq_true rfl)) dX0_setRule_19 (fun r7 Gr7 br7 sr7 F => ?_)
    refine g_if_ne 27 dX0_setRule_22 (by decide) (fun h23 => ?_) (fun h23 => ?_)
    · have F := F.1 h23
      refine g_aload_n dX0_setRule_27 rfl 0 rfl ?_
      obtain ⟨c10, F⟩ := F
      refine h_callVV (ci := 0) (C := RX0) (T := TX0) (N := 25) (As := []) (rest := []) F 0 rfl rfl (lw_V q485 q487 qs3 q108 q488) vm_X0_beginChange (by decide) rfl c10 rfl (room_of sc_nil (Nat.le_of_ble_eq_true rfl)) dX0_setRule_28 (fun Gr9 br9 sr9 F => ?_)
      refine g_aload_n dX0_setRule_31 rfl 0 rfl ?_
      obtain ⟨c12, F⟩ := F
      refine h_get (v := va_rf (gR Gr9 x 0)) 0 0 (C := RX0) (T := TX0) (N := 25) rfl in_X0 (by decide) q237 (Or.inl rfl) rfl c12 rfl dX0_setRule_32 ?_
      obtain ⟨a13, e14, F⟩ := F
      obtain ⟨c15, F⟩ := F
      obtain ⟨m16, F⟩ := F
      refine h_getN (host := "CrewPairer") (v := va_rf (gR Gr9 a13 2)) 2 2 (C := RX1) (T := TX1) (N := 3) rfl in_X1 (by decide) (by decide +kernel) rfl e14 c15 m16 rfl dX0_setRule_35 ?_
      refine g_iload_n dX0_setRule_38 rfl 1 rfl ?_
      obtain ⟨a17, e18, F⟩ := F
      obtain ⟨c19, F⟩ := F
      obtain ⟨k20, F⟩ := F
      refine h_iald e18 c19 k20 dX0_setRule_39 ?_
      refine s_istore_n (lv' := [(0, va_rf (some x)), (1, .int p1), (2, .int p2), (3, .int (gI Gr9 a17 p1.toNatClampNeg))]) (cat_R (cat_I (cat_I cat_nil))) dX0_setRule_40 rfl (by decide) rfl [1, 2, 3, 0] rfl ?_
      refine g_aload_n dX0_setRule_41 rfl 0 rfl ?_
      refine h_get (v := va_rf (gR Gr9 x 0)) 0 0 (C := RX0) (T := TX0) (N := 25) rfl in_X0 (by decide) q237 (Or.inl rfl) rfl c12 rfl dX0_setRule_42 ?_
      refine h_getN (host := "CrewPairer") (v := va_rf (gR Gr9 a13 2)) 2 2 (C := RX1) (T := TX1) (N := 3) rfl in_X1 (by decide) (by decide +kernel) rfl e14 c15 m16 rfl dX0_setRule_45 ?_
      refine g_iload_n dX0_setRule_48 rfl 1 rfl ?_
      refine g_iload_n dX0_setRule_49 rfl 2 rfl ?_
      obtain ⟨m21, F⟩ := F
      obtain ⟨k22, F⟩ := F
      refine h_iast e18 c19 m21 k22 dX0_setRule_50 ?_
      refine g_iload_n dX0_setRule_51 rfl 3 rfl ?_
      exact g_iret rfl dX0_setRule_52 F
    · have F := F.2 h23
      refine g_iconst (v := (-1)) dX0_setRule_25 (by decide) ?_
      exact g_iret rfl dX0_setRule_26 F
theorem rX0_least_0 {Γ : GE} {l : Launch} {h MC MS : Nat} {Q : Option Value → GH → Prop} {bc bs : Nat} {G : GH} (p0 : Int32) (F : ((p0 = 0 → (Q (some (.int 10)) G)) ∧ (p0 = 1 → (Q (some (.int 300)) G)) ∧ (p0 = 2 → (Q (some (.int 300)) G)) ∧ (p0 = 3 → (Q (some (.int 120)) G)) ∧ (p0 = 4 → (Q (some (.int 1)) G)) ∧ (p0 = 5 → (Q (some (.int 120)) G)) ∧ ((p0.toInt < 0 ∨ 5 < p0.toInt) → (Q (some (.int 0)) G)))) : GW Γ l mX0_least h MC MS Q 0 [(0, .int p0)] [] G bc bs := by
  refine g_iload_n dX0_least_0 rfl 0 rfl ?_
  by_cases h1 : (p0.toInt < 0 ∨ 5 < p0.toInt)
  · have F := F.2.2.2.2.2.2 h1
    refine h_tout 60 dX0_least_1 h1 (by decide) ?_
    refine g_iconst (v := 0) dX0_least_60 (by decide) ?_
    exact g_iret rfl dX0_least_61 F
  · have zh1 : p0.toInt = 0 ∨ p0.toInt = 1 ∨ p0.toInt = 2 ∨ p0.toInt = 3 ∨ p0.toInt = 4 ∨ p0.toInt = 5 := by omega
    rcases zh1 with zh1 | zh1 | zh1 | zh1 | zh1 | zh1
    · have F := F.1 (tsw_eq zh1 (by decide))
      refine h_tin 40 dX0_least_1 zh1 (by decide) (by decide) rfl (by decide) ?_
      refine g_bipush (v := 10) dX0_least_40 (by decide) ?_
      refine g_goto 61 dX0_least_42 (by decide) ?_
      exact g_iret rfl dX0_least_61 F
    · have F := F.2.1 (tsw_eq zh1 (by decide))
      refine h_tin 45 dX0_least_1 zh1 (by decide) (by decide) rfl (by decide) ?_
      refine g_sipush (v := 300) dX0_least_45 (by decide) ?_
      refine g_goto 61 dX0_least_48 (by decide) ?_
      exact g_iret rfl dX0_least_61 F
    · have F := F.2.2.1 (tsw_eq zh1 (by decide))
      refine h_tin 45 dX0_least_1 zh1 (by decide) (by decide) rfl (by decide) ?_
      refine g_sipush (v := 300) dX0_least_45 (by decide) ?_
      refine g_goto 61 dX0_least_48 (by decide) ?_
      exact g_iret rfl dX0_least_61 F
    · have F := F.2.2.2.1 (tsw_eq zh1 (by decide))
      refine h_tin 51 dX0_least_1 zh1 (by decide) (by decide) rfl (by decide) ?_
      refine g_bipush (v := 120) dX0_least_51 (by decide) ?_
      refine g_goto 61 dX0_least_53 (by decide) ?_
      exact g_iret rfl dX0_least_61 F
    · have F := F.2.2.2.2.1 (tsw_eq zh1 (by decide))
      refine h_tin 56 dX0_least_1 zh1 (by decide) (by decide) rfl (by decide) ?_
      refine g_iconst (v := 1) dX0_least_56 (by decide) ?_
      refine g_goto 61 dX0_least_57 (by decide) ?_
      exact g_iret rfl dX0_least_61 F
    · have F := F.2.2.2.2.2.1 (tsw_eq zh1 (by decide))
      refine h_tin 51 dX0_least_1 zh1 (by decide) (by decide) rfl (by decide) ?_
      refine g_bipush (v := 120) dX0_least_51 (by decide) ?_
      refine g_goto 61 dX0_least_53 (by decide) ?_
      exact g_iret rfl dX0_least_61 F
theorem rX0_most_0 {Γ : GE} {l : Launch} {h MC MS : Nat} {Q : Option Value → GH → Prop} {bc bs : Nat} {G : GH} (p0 : Int32) (F : ((p0 = 0 → (Q (some (.int 120)) G)) ∧ (p0 = 1 → (Q (some (.int 900)) G)) ∧ (p0 = 2 → (Q (some (.int 960)) G)) ∧ (p0 = 3 → (Q (some (.int 720)) G)) ∧ (p0 = 4 → (Q (some (.int 8)) G)) ∧ (p0 = 5 → (Q (some (.int 1200)) G)) ∧ (p0 = 6 → (Q (some (.int 99)) G)) ∧ ((p0.toInt < 0 ∨ 6 < p0.toInt) → (Q (some (.int 9999)) G)))) : GW Γ l mX0_most h MC MS Q 0 [(0, .int p0)] [] G bc bs := by
  refine g_iload_n dX0_most_0 rfl 0 rfl ?_
  by_cases h1 : (p0.toInt < 0 ∨ 6 < p0.toInt)
  · have F := F.2.2.2.2.2.2.2 h1
    refine h_tout 83 dX0_most_1 h1 (by decide) ?_
    refine g_sipush (v := 9999) dX0_most_83 (by decide) ?_
    exact g_iret rfl dX0_most_86 F
  · have zh1 : p0.toInt = 0 ∨ p0.toInt = 1 ∨ p0.toInt = 2 ∨ p0.toInt = 3 ∨ p0.toInt = 4 ∨ p0.toInt = 5 ∨ p0.toInt = 6 := by omega
    rcases zh1 with zh1 | zh1 | zh1 | zh1 | zh1 | zh1 | zh1
    · have F := F.1 (tsw_eq zh1 (by decide))
      refine h_tin 44 dX0_most_1 zh1 (by decide) (by decide) rfl (by decide) ?_
      refine g_bipush (v := 120) dX0_most_44 (by decide) ?_
      refine g_goto 86 dX0_most_46 (by decide) ?_
      exact g_iret rfl dX0_most_86 F
    · have F := F.2.1 (tsw_eq zh1 (by decide))
      refine h_tin 49 dX0_most_1 zh1 (by decide) (by decide) rfl (by decide) ?_
      refine g_sipush (v := 900) dX0_most_49 (by decide) ?_
      refine g_goto 86 dX0_most_52 (by decide) ?_
      exact g_iret rfl dX0_most_86 F
    · have F := F.2.2.1 (tsw_eq zh1 (by decide))
      refine h_tin 55 dX0_most_1 zh1 (by decide) (by decide) rfl (by decide) ?_
      refine g_sipush (v := 960) dX0_most_55 (by decide) ?_
      refine g_goto 86 dX0_most_58 (by decide) ?_
      exact g_iret rfl dX0_most_86 F
    · have F := F.2.2.2.1 (tsw_eq zh1 (by decide))
      refine h_tin 61 dX0_most_1 zh1 (by decide) (by decide) rfl (by decide) ?_
      refine g_sipush (v := 720) dX0_most_61 (by decide) ?_
      refine g_goto 86 dX0_most_64 (by decide) ?_
      exact g_iret rfl dX0_most_86 F
    · have F := F.2.2.2.2.1 (tsw_eq zh1 (by decide))
      refine h_tin 67 dX0_most_1 zh1 (by decide) (by decide) rfl (by decide) ?_
      refine g_bipush (v := 8) dX0_most_67 (by decide) ?_
      refine g_goto 86 dX0_most_69 (by decide) ?_
      exact g_iret rfl dX0_most_86 F
    · have F := F.2.2.2.2.2.1 (tsw_eq zh1 (by decide))
      refine h_tin 72 dX0_most_1 zh1 (by decide) (by decide) rfl (by decide) ?_
      refine g_sipush (v := 1200) dX0_most_72 (by decide) ?_
      refine g_goto 86 dX0_most_75 (by decide) ?_
      exact g_iret rfl dX0_most_86 F
    · have F := F.2.2.2.2.2.2.1 (tsw_eq zh1 (by decide))
      refine h_tin 78 dX0_most_1 zh1 (by decide) (by decide) rfl (by decide) ?_
      refine g_bipush (v := 99) dX0_most_78 (by decide) ?_
      refine g_goto 86 dX0_most_80 (by decide) ?_
      exact g_iret rfl dX0_most_86 F
theorem rX0_rule_0 {Γ : GE} {l : Launch} {h MC MS : Nat} {Q : Option Value → GH → Prop} {bc bs : Nat} {G : GH} (x : Nat) (p1 : Int32) (F : (cI Γ l h mX0_isBetween [.int p1, .int 0, .int 7] G bc bs fun r1 Gr1 br1 sr1 => ((r1 = 0 → (Q (some (.int (-1))) Gr1)) ∧ (¬ r1 = 0 → (gC Gr1 x = kO 0 ∧ ∃ a4, (gR Gr1 x 0) = some a4 ∧ gC Gr1 a4 = kO 2 ∧ gM Gr1 a4 = true ∧ ∃ a8, (gR Gr1 a4 2) = some a8 ∧ gC Gr1 a8 = kA 0 ∧ vp_in p1 (gL Gr1 a8) ∧ Q (some (.int (gI Gr1 a8 p1.toNatClampNeg))) Gr1))))) : GW Γ l mX0_rule h MC MS Q 0 [(0, va_rf (some x)), (1, .int p1)] [] G bc bs := by
  refine g_iload_n dX0_rule_0 rfl 1 rfl ?_
  refine g_iconst (v := 0) dX0_rule_1 (by decide) ?_
  refine g_bipush (v := 7) dX0_rule_2 (by decide) ?_
  refine h_callSI (As := [.int p1, .int 0, .int 7]) (rest := []) F 3 rfl (lw_S q498 q499 q108 q500) vm_X0_isBetween.2 (by decide) rfl (room_of sc_nil (Nat.le_of_ble_eq_true rfl)) dX0_rule_4 (fun r1 Gr1 br1 sr1 F => ?_)
  refine g_if_eq 22 dX0_rule_7 (by decide) (fun h12 => ?_) (fun h12 => ?_)
  · have F := F.1 h12
    refine g_iconst (v := (-1)) dX0_rule_22 (by decide) ?_
    exact g_iret rfl dX0_rule_23 F
  · have F := F.2 h12
    refine g_aload_n dX0_rule_10 rfl 0 rfl ?_
    obtain ⟨c3, F⟩ := F
    refine h_get (v := va_rf (gR Gr1 x 0)) 0 0 (C := RX0) (T := TX0) (N := 25) rfl in_X0 (by decide) q237 (Or.inl rfl) rfl c3 rfl dX0_rule_11 ?_
    obtain ⟨a4, e5, F⟩ := F
    obtain ⟨c6, F⟩ := F
    obtain ⟨m7, F⟩ := F
    refine h_getN (host := "CrewPairer") (v := va_rf (gR Gr1 a4 2)) 2 2 (C := RX1) (T := TX1) (N := 3) rfl in_X1 (by decide) (by decide +kernel) rfl e5 c6 m7 rfl dX0_rule_14 ?_
    refine g_iload_n dX0_rule_17 rfl 1 rfl ?_
    obtain ⟨a8, e9, F⟩ := F
    obtain ⟨c10, F⟩ := F
    obtain ⟨k11, F⟩ := F
    refine h_iald e9 c10 k11 dX0_rule_18 ?_
    refine g_goto 23 dX0_rule_19 (by decide) ?_
    exact g_iret rfl dX0_rule_23 F
theorem rX0_fly_0 {Γ : GE} {l : Launch} {h MC MS : Nat} {Q : Option Value → GH → Prop} {bc bs : Nat} {G : GH} (x : Nat) (p1 : Int32) (p2 : Int32) (F : (gC G x = kO 0 ∧ cI Γ l h mX0_take [.ref x, .int p1, .int p2, .int 1] G bc bs fun r1 Gr1 br1 sr1 => Q (some (.int r1)) Gr1)) : GW Γ l mX0_fly h MC MS Q 0 [(0, va_rf (some x)), (1, .int p1), (2, .int p2)] [] G bc bs := by
  refine g_aload_n dX0_fly_0 rfl 0 rfl ?_
  refine g_iload_n dX0_fly_1 rfl 1 rfl ?_
  refine g_iload_n dX0_fly_2 rfl 2 rfl ?_
  refine g_iconst (v := 1) dX0_fly_3 (by decide) ?_
  obtain ⟨c2, F⟩ := F
  refine h_callVI (ci := 0) (C := RX0) (T := TX0) (N := 25) (As := [.int p1, .int p2, .int 1]) (rest := []) F 3 rfl rfl (lw_V q1118 q1120 qs10 q108 q1121) vm_X0_take (by decide) rfl c2 rfl (room_of sc_nil (Nat.le_of_ble_eq_true rfl)) dX0_fly_4 (fun r1 Gr1 br1 sr1 F => ?_)
  exact g_iret rfl dX0_fly_7 F
theorem rX0_take_0 {Γ : GE} {l : Launch} {h MC MS : Nat} {Q : Option Value → GH → Prop} {bc bs : Nat} {G : GH} (x : Nat) (p1 : Int32) (p2 : Int32) (p3 : Int32) (F : (gC G x = kO 0 ∧ cI Γ l h mX0_isCrew [.ref x, .int p1] G bc bs fun r1 Gr1 br1 sr1 => ((r1 = 0 → (Q (some (.int (-1))) Gr1)) ∧ (¬ r1 = 0 → (gC Gr1 x = kO 0 ∧ cI Γ l h mX0_isLeg [.ref x, .int p2] Gr1 br1 sr1 fun r4 Gr4 br4 sr4 => ((¬ r4 = 0 → (gC Gr4 x = kO 0 ∧ cI Γ l h mX0_reasonOf [.ref x, .int p1, .int p2, .int p3] Gr4 br4 sr4 fun r7 Gr7 br7 sr7 => ((r7 ≤ 0 → (gC Gr7 x = kO 0 ∧ cV Γ l h mX0_beginChange [.ref x] Gr7 br7 sr7 fun Gr10 br10 sr10 => gC Gr10 x = kO 0 ∧ cV Γ l h mX0_storeRow [.ref x, .int p1] Gr10 br10 sr10 fun Gr13 br13 sr13 => gC Gr13 x = kO 0 ∧ cR Γ l h mX0_crewOf [.ref x, .int p1] Gr13 br13 sr13 fun r16 Gr16 br16 sr16 => ∃ a20, r16 = some a20 ∧ gC Gr16 a20 = kO 4 ∧ cI Γ l h mX5_find [.ref a20, .int p2] Gr16 br16 sr16 fun r19 Gr19 br19 sr19 => Q (some (.int r19)) Gr19)) ∧ (¬ r7 ≤ 0 → (Q (some (.int ((-100) - r7))) Gr7))))) ∧ (r4 = 0 → (Q (some (.int (-1))) Gr4)))))))) : GW Γ l mX0_take h MC MS Q 0 [(0, va_rf (some x)), (1, .int p1), (2, .int p2), (3, .int p3)] [] G bc bs := by
  refine g_aload_n dX0_take_0 rfl 0 rfl ?_
  refine g_iload_n dX0_take_1 rfl 1 rfl ?_
  obtain ⟨c2, F⟩ := F
  refine h_callVI (ci := 0) (C := RX0) (T := TX0) (N := 25) (As := [.int p1]) (rest := []) F 1 rfl rfl (lw_V q1122 q1124 qs11 q108 q1125) vm_X0_isCrew (by decide) rfl c2 rfl (room_of sc_nil (Nat.le_of_ble_eq_true rfl)) dX0_take_2 (fun r1 Gr1 br1 sr1 F => ?_)
  refine g_if_eq 16 dX0_take_5 (by decide) (fun h26 => ?_) (fun h26 => ?_)
  · have F := F.1 h26
    refine g_iconst (v := (-1)) dX0_take_16 (by decide) ?_
    exact g_iret rfl dX0_take_17 F
  · have F := F.2 h26
    refine g_aload_n dX0_take_8 rfl 0 rfl ?_
    refine g_iload_n dX0_take_9 rfl 2 rfl ?_
    obtain ⟨c5, F⟩ := F
    refine h_callVI (ci := 0) (C := RX0) (T := TX0) (N := 25) (As := [.int p2]) (rest := []) F 1 rfl rfl (lw_V q1084 q1086 qs7 q108 q1087) vm_X0_isLeg (by decide) rfl c5 rfl (room_of sc_nil (Nat.le_of_ble_eq_true rfl)) dX0_take_10 (fun r4 Gr4 br4 sr4 F => ?_)
    refine g_if_ne 18 dX0_take_13 (by decide) (fun h25 => ?_) (fun h25 => ?_)
    · have F := F.1 h25
      refine g_aload_n dX0_take_18 rfl 0 rfl ?_
      refine g_iload_n dX0_take_19 rfl 1 rfl ?_
      refine g_iload_n dX0_take_20 rfl 2 rfl ?_
      refine g_iload_n dX0_take_21 rfl 3 rfl ?_
      obtain ⟨c8, F⟩ := F
      refine h_callVI (ci := 0) (C := RX0) (T := TX0) (N := 25) (As := [.int p1, .int p2, .int p3]) (rest := []) F 3 rfl rfl (lw_V q1126 q1128 qs12 q108 q1129) vm_X0_reasonOf (by decide) rfl c8 rfl (room_of sc_nil (Nat.le_of_ble_eq_true rfl)) dX0_take_22 (fun r7 Gr7 br7 sr7 F => ?_)
      refine s_istore (lv' := [(0, va_rf (some x)), (1, .int p1), (2, .int p2), (3, .int p3), (4, .int r7)]) (cat_R (cat_I (cat_I (cat_I cat_nil)))) dX0_take_25 (by decide) rfl [1, 2, 3, 4, 0] rfl ?_
      refine g_iload dX0_take_27 4 rfl ?_
      refine g_if_le 38 dX0_take_29 (by decide) (fun h24 => ?_) (fun h24 => ?_)
      · have F := F.1 h24
        refine g_aload_n dX0_take_38 rfl 0 rfl ?_
        obtain ⟨c11, F⟩ := F
        refine h_callVV (ci := 0) (C := RX0) (T := TX0) (N := 25) (As := []) (rest := []) F 0 rfl rfl (lw_V q485 q487 qs3 q108 q488) vm_X0_beginChange (by decide) rfl c11 rfl (room_of sc_nil (Nat.le_of_ble_eq_true rfl)) dX0_take_39 (fun Gr10 br10 sr10 F => ?_)
        refine g_aload_n dX0_take_42 rfl 0 rfl ?_
        refine g_iload_n dX0_take_43 rfl 1 rfl ?_
        obtain ⟨c14, F⟩ := F
        refine h_callVV (ci := 0) (C := RX0) (T := TX0) (N := 25) (As := [.int p1]) (rest := []) F 1 rfl rfl (lw_V q1221 q1223 qs28 q108 q1224) vm_X0_storeRow (by decide) rfl c14 rfl (room_of sc_nil (Nat.le_of_ble_eq_true rfl)) dX0_take_44 (fun Gr13 br13 sr13 F => ?_)
        refine g_aload_n dX0_take_47 rfl 0 rfl ?_
        refine g_iload_n dX0_take_48 rfl 1 rfl ?_
        obtain ⟨c17, F⟩ := F
        refine h_callVR (ci := 0) (C := RX0) (T := TX0) (N := 25) (As := [.int p1]) (rest := []) F 1 rfl rfl (lw_V q1092 q1094 qs9 q108 q1095) vm_X0_crewOf (by decide) rfl c17 rfl (room_of sc_nil (Nat.le_of_ble_eq_true rfl)) dX0_take_49 (fun r16 Gr16 br16 sr16 F => ?_)
        refine g_iload_n dX0_take_52 rfl 2 rfl ?_
        obtain ⟨a20, e21, F⟩ := F
        obtain ⟨c22, F⟩ := F
        refine h_callVI (ci := 4) (C := RX5) (T := TX5) (N := 6) (As := [.int p2]) (rest := []) F 1 rfl rfl (lw_V q1096 q1097 q1098 q139 q1099) vm_X5_find (by decide) e21 c22 rfl (room_of sc_nil (Nat.le_of_ble_eq_true rfl)) dX0_take_53 (fun r19 Gr19 br19 sr19 F => ?_)
        exact g_iret rfl dX0_take_56 F
      · have F := F.2 h24
        refine g_bipush (v := (-100)) dX0_take_32 (by decide) ?_
        refine g_iload dX0_take_34 4 rfl ?_
        refine g_isub dX0_take_36 ?_
        exact g_iret rfl dX0_take_37 F
    · have F := F.2 h25
      refine g_iconst (v := (-1)) dX0_take_16 (by decide) ?_
      exact g_iret rfl dX0_take_17 F
theorem rX0_isCrew_0 {Γ : GE} {l : Launch} {h MC MS : Nat} {Q : Option Value → GH → Prop} {bc bs : Nat} {G : GH} (x : Nat) (p1 : Int32) (F : (gC G x = kO 0 ∧ ∃ a2, (gR G x 0) = some a2 ∧ gC G a2 = kO 2 ∧ gM G a2 = true ∧ ∃ a7, (gR G a2 1) = some a7 ∧ gC G a7 = kO 9 ∧ cI Γ l h mJ2_size [.ref a7] G bc bs fun r6 Gr6 br6 sr6 => cI Γ l h mX0_isBetween [.int p1, .int 0, .int (r6 - 1)] Gr6 br6 sr6 fun r11 Gr11 br11 sr11 => narrow .boolean (.int r11) = .int r11 ∧ Q (some (.int r11)) Gr11)) : GW Γ l mX0_isCrew h MC MS Q 0 [(0, va_rf (some x)), (1, .int p1)] [] G bc bs := by
  refine g_iload_n dX0_isCrew_0 rfl 1 rfl ?_
  refine g_iconst (v := 0) dX0_isCrew_1 (by decide) ?_
  refine g_aload_n dX0_isCrew_2 rfl 0 rfl ?_
  obtain ⟨c1, F⟩ := F
  refine h_get (v := va_rf (gR G x 0)) 0 0 (C := RX0) (T := TX0) (N := 25) rfl in_X0 (by decide) q237 (Or.inl rfl) rfl c1 rfl dX0_isCrew_3 ?_
  obtain ⟨a2, e3, F⟩ := F
  obtain ⟨c4, F⟩ := F
  obtain ⟨m5, F⟩ := F
  refine h_getN (host := "CrewPairer") (v := va_rf (gR G a2 1)) 2 1 (C := RX1) (T := TX1) (N := 3) rfl in_X1 (by decide) (by decide +kernel) rfl e3 c4 m5 rfl dX0_isCrew_6 ?_
  obtain ⟨a7, e8, F⟩ := F
  obtain ⟨c9, F⟩ := F
  refine h_callVI (ci := 9) (C := RJ2) (T := TJ2) (N := 3) (As := []) (rest := [.int 0, .int p1]) F 0 rfl rfl (lw_V q480 q328 q329 q112 q330) vm_J2_size (by decide) e8 c9 rfl (room_of (sc_I (sc_I sc_nil)) (Nat.le_of_ble_eq_true rfl)) dX0_isCrew_9 (fun r6 Gr6 br6 sr6 F => ?_)
  refine g_iconst (v := 1) dX0_isCrew_12 (by decide) ?_
  refine g_isub dX0_isCrew_13 ?_
  refine h_callSI (As := [.int p1, .int 0, .int (r6 - 1)]) (rest := []) F 3 rfl (lw_S q498 q499 q108 q500) vm_X0_isBetween.2 (by decide) rfl (room_of sc_nil (Nat.le_of_ble_eq_true rfl)) dX0_isCrew_14 (fun r11 Gr11 br11 sr11 F => ?_)
  obtain ⟨k13, F⟩ := F
  exact g_zret rfl k13 dX0_isCrew_17 F
theorem rX0_reasonOf_0 {Γ : GE} {l : Launch} {h MC MS : Nat} {Q : Option Value → GH → Prop} {bc bs : Nat} {G : GH} (x : Nat) (p1 : Int32) (p2 : Int32) (p3 : Int32) (F : (gC G x = kO 0 ∧ cV Γ l h mX0_loadRow [.ref x, .int p1] G bc bs fun Gr1 br1 sr1 => gC Gr1 x = kO 0 ∧ cI Γ l h mX0_reasonHere [.ref x, .int p2, .int p3] Gr1 br1 sr1 fun r4 Gr4 br4 sr4 => Q (some (.int r4)) Gr4)) : GW Γ l mX0_reasonOf h MC MS Q 0 [(0, va_rf (some x)), (1, .int p1), (2, .int p2), (3, .int p3)] [] G bc bs := by
  refine g_aload_n dX0_reasonOf_0 rfl 0 rfl ?_
  refine g_iload_n dX0_reasonOf_1 rfl 1 rfl ?_
  obtain ⟨c2, F⟩ := F
  refine h_callVV (ci := 0) (C := RX0) (T := TX0) (N := 25) (As := [.int p1]) (rest := []) F 1 rfl rfl (lw_V q1130 q1132 qs13 q108 q1133) vm_X0_loadRow (by decide) rfl c2 rfl (room_of sc_nil (Nat.le_of_ble_eq_true rfl)) dX0_reasonOf_2 (fun Gr1 br1 sr1 F => ?_)
  refine g_aload_n dX0_reasonOf_5 rfl 0 rfl ?_
  refine g_iload_n dX0_reasonOf_6 rfl 2 rfl ?_
  refine g_iload_n dX0_reasonOf_7 rfl 3 rfl ?_
  obtain ⟨c5, F⟩ := F
  refine h_callVI (ci := 0) (C := RX0) (T := TX0) (N := 25) (As := [.int p2, .int p3]) (rest := []) F 2 rfl rfl (lw_V q1134 q1136 qs14 q108 q1137) vm_X0_reasonHere (by decide) rfl c5 rfl (room_of sc_nil (Nat.le_of_ble_eq_true rfl)) dX0_reasonOf_8 (fun r4 Gr4 br4 sr4 F => ?_)
  exact g_iret rfl dX0_reasonOf_11 F
theorem rX0_loadRow_0 {Γ : GE} {l : Launch} {h MC MS : Nat} {Q : Option Value → GH → Prop} {bc bs : Nat} {G : GH} (x : Nat) (p1 : Int32) (F : (gC G x = kO 0 ∧ cR Γ l h mX0_crewOf [.ref x, .int p1] G bc bs fun r1 Gr1 br1 sr1 => ∃ a4, r1 = some a4 ∧ gC Gr1 a4 = kO 4 ∧ gM Gr1 a4 = true ∧ gC Gr1 x = kO 0 ∧ gM Gr1 x = true ∧ ∃ a10, (gR (sI (sI Gr1 x 9 (gI Gr1 a4 0)) x 8 (gI (sI Gr1 x 9 (gI Gr1 a4 0)) a4 3)) a4 1) = some a10 ∧ gC (sI (sI Gr1 x 9 (gI Gr1 a4 0)) x 8 (gI (sI Gr1 x 9 (gI Gr1 a4 0)) a4 3)) a10 = kA 0 ∧ gM (sI (sI Gr1 x 9 (gI Gr1 a4 0)) x 8 (gI (sI Gr1 x 9 (gI Gr1 a4 0)) a4 3)) a10 = true ∧ ∃ a14, (gR (sI (sI Gr1 x 9 (gI Gr1 a4 0)) x 8 (gI (sI Gr1 x 9 (gI Gr1 a4 0)) a4 3)) x 5) = some a14 ∧ gC (sI (sI Gr1 x 9 (gI Gr1 a4 0)) x 8 (gI (sI Gr1 x 9 (gI Gr1 a4 0)) a4 3)) a14 = kA 0 ∧ gM (sI (sI Gr1 x 9 (gI Gr1 a4 0)) x 8 (gI (sI Gr1 x 9 (gI Gr1 a4 0)) a4 3)) a14 = true ∧ ¬ (gI (sI (sI Gr1 x 9 (gI Gr1 a4 0)) x 8 (gI (sI Gr1 x 9 (gI Gr1 a4 0)) a4 3)) x 8) < 0 ∧ (0 : Int32).toNatClampNeg + (gI (sI (sI Gr1 x 9 (gI Gr1 a4 0)) x 8 (gI (sI Gr1 x 9 (gI Gr1 a4 0)) a4 3)) x 8).toNatClampNeg ≤ gL (sI (sI Gr1 x 9 (gI Gr1 a4 0)) x 8 (gI (sI Gr1 x 9 (gI Gr1 a4 0)) a4 3)) a10 ∧ (0 : Int32).toNatClampNeg + (gI (sI (sI Gr1 x 9 (gI Gr1 a4 0)) x 8 (gI (sI Gr1 x 9 (gI Gr1 a4 0)) a4 3)) x 8).toNatClampNeg ≤ gL (sI (sI Gr1 x 9 (gI Gr1 a4 0)) x 8 (gI (sI Gr1 x 9 (gI Gr1 a4 0)) a4 3)) a14 ∧ 0 < h ∧ ∀ H22, H22 = (wI (sI (sI Gr1 x 9 (gI Gr1 a4 0)) x 8 (gI (sI Gr1 x 9 (gI Gr1 a4 0)) a4 3)) a14 (va_cpy (gI (sI (sI Gr1 x 9 (gI Gr1 a4 0)) x 8 (gI (sI Gr1 x 9 (gI Gr1 a4 0)) a4 3)) a10) (gI (sI (sI Gr1 x 9 (gI Gr1 a4 0)) x 8 (gI (sI Gr1 x 9 (gI Gr1 a4 0)) a4 3)) a14) (0 : Int32).toNatClampNeg (0 : Int32).toNatClampNeg (gI (sI (sI Gr1 x 9 (gI Gr1 a4 0)) x 8 (gI (sI Gr1 x 9 (gI Gr1 a4 0)) a4 3)) x 8).toNatClampNeg)) → gC H22 a4 = kO 4 ∧ gM H22 a4 = true ∧ gC H22 x = kO 0 ∧ ∃ a28, (gR H22 a4 2) = some a28 ∧ gC H22 a28 = kA 1 ∧ gM H22 a28 = true ∧ ∃ a32, (gR H22 x 7) = some a32 ∧ gC H22 a32 = kA 1 ∧ gM H22 a32 = true ∧ ¬ (gI H22 x 8) < 0 ∧ (0 : Int32).toNatClampNeg + (gI H22 x 8).toNatClampNeg ≤ gL H22 a28 ∧ (0 : Int32).toNatClampNeg + (gI H22 x 8).toNatClampNeg ≤ gL H22 a32 ∧ (∀ i, i < (gI H22 x 8).toNatClampNeg → fits (gtyq 1) (.int (gI H22 a28 ((0 : Int32).toNatClampNeg + i))) = true) ∧ 0 < h ∧ ∀ H41, H41 = (wI H22 a32 (va_cpy (gI H22 a28) (gI H22 a32) (0 : Int32).toNatClampNeg (0 : Int32).toNatClampNeg (gI H22 x 8).toNatClampNeg)) → Q none H41)) : GW Γ l mX0_loadRow h MC MS Q 0 [(0, va_rf (some x)), (1, .int p1)] [] G bc bs := by
  refine g_aload_n dX0_loadRow_0 rfl 0 rfl ?_
  refine g_iload_n dX0_loadRow_1 rfl 1 rfl ?_
  obtain ⟨c2, F⟩ := F
  refine h_callVR (ci := 0) (C := RX0) (T := TX0) (N := 25) (As := [.int p1]) (rest := []) F 1 rfl rfl (lw_V q1092 q1094 qs9 q108 q1095) vm_X0_crewOf (by decide) rfl c2 rfl (room_of sc_nil (Nat.le_of_ble_eq_true rfl)) dX0_loadRow_2 (fun r1 Gr1 br1 sr1 F => ?_)
  refine s_astore_n (lv' := [(0, va_rf (some x)), (1, .int p1), (2, va_rf r1)]) (cat_R (cat_I cat_nil)) dX0_loadRow_5 rfl (by decide) rfl [1, 2, 0] rfl ?_
  refine g_aload_n dX0_loadRow_6 rfl 0 rfl ?_
  refine g_aload_n dX0_loadRow_7 rfl 2 rfl ?_
  obtain ⟨a4, e5, F⟩ := F
  obtain ⟨c6, F⟩ := F
  obtain ⟨m7, F⟩ := F
  refine h_getN (host := "CrewPairer") (v := .int (gI Gr1 a4 0)) 4 0 (C := RX5) (T := TX5) (N := 6) rfl in_X5 (by decide) (by decide +kernel) rfl e5 c6 m7 rfl dX0_loadRow_8 ?_
  obtain ⟨c8, F⟩ := F
  obtain ⟨m9, F⟩ := F
  refine h_putI (mi := mX0_loadRow) 0 9 (C := RX0) (T := TX0) (N := 25) rfl in_X0 tyX0_ok nmX0 (by decide) q246 (Or.inl rfl) (Or.inl rfl) rfl rfl c8 m9 rfl rfl dX0_loadRow_11 ?_
  refine g_aload_n dX0_loadRow_14 rfl 0 rfl ?_
  refine g_aload_n dX0_loadRow_15 rfl 2 rfl ?_
  refine h_getN (host := "CrewPairer") (v := .int (gI (sI Gr1 x 9 (gI Gr1 a4 0)) a4 3)) 4 3 (C := RX5) (T := TX5) (N := 6) rfl in_X5 (by decide) (by decide +kernel) rfl e5 c6 m7 rfl dX0_loadRow_16 ?_
  refine h_putI (mi := mX0_loadRow) 0 8 (C := RX0) (T := TX0) (N := 25) rfl in_X0 tyX0_ok nmX0 (by decide) q245 (Or.inl rfl) (Or.inl rfl) rfl rfl c8 m9 rfl rfl dX0_loadRow_19 ?_
  refine g_aload_n dX0_loadRow_22 rfl 2 rfl ?_
  refine h_getN (host := "CrewPairer") (v := va_rf (gR (sI (sI Gr1 x 9 (gI Gr1 a4 0)) x 8 (gI (sI Gr1 x 9 (gI Gr1 a4 0)) a4 3)) a4 1)) 4 1 (C := RX5) (T := TX5) (N := 6) rfl in_X5 (by decide) (by decide +kernel) rfl e5 c6 m7 rfl dX0_loadRow_23 ?_
  refine g_iconst (v := 0) dX0_loadRow_26 (by decide) ?_
  refine g_aload_n dX0_loadRow_27 rfl 0 rfl ?_
  refine h_get (v := va_rf (gR (sI (sI Gr1 x 9 (gI Gr1 a4 0)) x 8 (gI (sI Gr1 x 9 (gI Gr1 a4 0)) a4 3)) x 5)) 0 5 (C := RX0) (T := TX0) (N := 25) rfl in_X0 (by decide) q242 (Or.inl rfl) rfl c8 rfl dX0_loadRow_28 ?_
  refine g_iconst (v := 0) dX0_loadRow_31 (by decide) ?_
  refine g_aload_n dX0_loadRow_32 rfl 0 rfl ?_
  refine h_get (v := .int (gI (sI (sI Gr1 x 9 (gI Gr1 a4 0)) x 8 (gI (sI Gr1 x 9 (gI Gr1 a4 0)) a4 3)) x 8)) 0 8 (C := RX0) (T := TX0) (N := 25) rfl in_X0 (by decide) q245 (Or.inl rfl) rfl c8 rfl dX0_loadRow_33 ?_
  obtain ⟨a10, e11, F⟩ := F
  obtain ⟨c12, F⟩ := F
  obtain ⟨m13, F⟩ := F
  obtain ⟨a14, e15, F⟩ := F
  obtain ⟨c16, F⟩ := F
  obtain ⟨m17, F⟩ := F
  obtain ⟨k18, F⟩ := F
  obtain ⟨k19, F⟩ := F
  obtain ⟨k20, F⟩ := F
  obtain ⟨k21, F⟩ := F
  refine h_copyi 0 (by decide) q493 q439 q438 q118 e11 c12 m13 e15 c16 m17 (by decide) (by decide) k18 k19 k20 (fun _ _ => rfl) k21 (room_of sc_nil (Nat.le_of_ble_eq_true rfl)) dX0_loadRow_36 ?_
  obtain ⟨H22, h23⟩ : ∃ g : GH, g = (wI (sI (sI Gr1 x 9 (gI Gr1 a4 0)) x 8 (gI (sI Gr1 x 9 (gI Gr1 a4 0)) a4 3)) a14 (va_cpy (gI (sI (sI Gr1 x 9 (gI Gr1 a4 0)) x 8 (gI (sI Gr1 x 9 (gI Gr1 a4 0)) a4 3)) a10) (gI (sI (sI Gr1 x 9 (gI Gr1 a4 0)) x 8 (gI (sI Gr1 x 9 (gI Gr1 a4 0)) a4 3)) a14) (0 : Int32).toNatClampNeg (0 : Int32).toNatClampNeg (gI (sI (sI Gr1 x 9 (gI Gr1 a4 0)) x 8 (gI (sI Gr1 x 9 (gI Gr1 a4 0)) a4 3)) x 8).toNatClampNeg)) := ⟨_, rfl⟩
  rw [← h23]
  have F := F H22 h23
  refine g_aload_n dX0_loadRow_39 rfl 2 rfl ?_
  obtain ⟨c25, F⟩ := F
  obtain ⟨m26, F⟩ := F
  refine h_getN (host := "CrewPairer") (v := va_rf (gR H22 a4 2)) 4 2 (C := RX5) (T := TX5) (N := 6) rfl in_X5 (by decide) (by decide +kernel) rfl e5 c25 m26 rfl dX0_loadRow_40 ?_
  refine g_iconst (v := 0) dX0_loadRow_43 (by decide) ?_
  refine g_aload_n dX0_loadRow_44 rfl 0 rfl ?_
  obtain ⟨c27, F⟩ := F
  refine h_get (v := va_rf (gR H22 x 7)) 0 7 (C := RX0) (T := TX0) (N := 25) rfl in_X0 (by decide) q244 (Or.inl rfl) rfl c27 rfl dX0_loadRow_45 ?_
  refine g_iconst (v := 0) dX0_loadRow_48 (by decide) ?_
  refine g_aload_n dX0_loadRow_49 rfl 0 rfl ?_
  refine h_get (v := .int (gI H22 x 8)) 0 8 (C := RX0) (T := TX0) (N := 25) rfl in_X0 (by decide) q245 (Or.inl rfl) rfl c27 rfl dX0_loadRow_50 ?_
  obtain ⟨a28, e29, F⟩ := F
  obtain ⟨c30, F⟩ := F
  obtain ⟨m31, F⟩ := F
  obtain ⟨a32, e33, F⟩ := F
  obtain ⟨c34, F⟩ := F
  obtain ⟨m35, F⟩ := F
  obtain ⟨k36, F⟩ := F
  obtain ⟨k37, F⟩ := F
  obtain ⟨k38, F⟩ := F
  obtain ⟨k39, F⟩ := F
  obtain ⟨k40, F⟩ := F
  refine h_copyi 1 (by decide) q493 q439 q438 q118 e29 c30 m31 e33 c34 m35 (by decide) (by decide) k36 k37 k38 k39 k40 (room_of sc_nil (Nat.le_of_ble_eq_true rfl)) dX0_loadRow_53 ?_
  obtain ⟨H41, h42⟩ : ∃ g : GH, g = (wI H22 a32 (va_cpy (gI H22 a28) (gI H22 a32) (0 : Int32).toNatClampNeg (0 : Int32).toNatClampNeg (gI H22 x 8).toNatClampNeg)) := ⟨_, rfl⟩
  rw [← h42]
  have F := F H41 h42
  exact g_vret rfl dX0_loadRow_56 F
theorem rX0_reasonHere_0 {Γ : GE} {l : Launch} {h MC MS : Nat} {Q : Option Value → GH → Prop} {bc bs : Nat} {G : GH} (x : Nat) (p1 : Int32) (p2 : Int32) (F : (gC G x = kO 0 ∧ cR Γ l h mX0_legOf [.ref x, .int p1] G bc bs fun r1 Gr1 br1 sr1 => ∃ a4, r1 = some a4 ∧ gC Gr1 a4 = kO 3 ∧ gM Gr1 a4 = true ∧ (((gI Gr1 a4 4) = 0 → (GW Γ l mX0_reasonHere h MC MS Q 16 [(0, va_rf (some x)), (1, .int p1), (2, .int p2), (3, .int 0)] [] Gr1 br1 sr1)) ∧ (¬ (gI Gr1 a4 4) = 0 → (Q (some (.int 10)) Gr1))))) : GW Γ l mX0_reasonHere h MC MS Q 0 [(0, va_rf (some x)), (1, .int p1), (2, .int p2)] [] G bc bs := by
  refine g_aload_n dX0_reasonHere_0 rfl 0 rfl ?_
  refine g_iload_n dX0_reasonHere_1 rfl 1 rfl ?_
  obtain ⟨c2, F⟩ := F
  refine h_callVR (ci := 0) (C := RX0) (T := TX0) (N := 25) (As := [.int p1]) (rest := []) F 1 rfl rfl (lw_V q551 q553 qs6 q108 q554) vm_X0_legOf (by decide) rfl c2 rfl (room_of sc_nil (Nat.le_of_ble_eq_true rfl)) dX0_reasonHere_2 (fun r1 Gr1 br1 sr1 F => ?_)
  obtain ⟨a4, e5, F⟩ := F
  obtain ⟨c6, F⟩ := F
  obtain ⟨m7, F⟩ := F
  refine h_getN (host := "CrewPairer") (v := .int (gI Gr1 a4 4)) 3 4 (C := RX4) (T := TX4) (N := 5) rfl in_X4 (by decide) (by decide +kernel) rfl e5 c6 m7 rfl dX0_reasonHere_5 ?_
  refine g_if_eq 14 dX0_reasonHere_8 (by decide) (fun h8 => ?_) (fun h8 => ?_)
  · have F := F.1 h8
    refine g_iconst (v := 0) dX0_reasonHere_14 (by decide) ?_
    refine s_istore_n (lv' := [(0, va_rf (some x)), (1, .int p1), (2, .int p2), (3, .int 0)]) (cat_R (cat_I (cat_I cat_nil))) dX0_reasonHere_15 rfl (by decide) rfl [1, 2, 3, 0] rfl ?_
    exact F
  · have F := F.2 h8
    refine g_bipush (v := 10) dX0_reasonHere_11 (by decide) ?_
    exact g_iret rfl dX0_reasonHere_13 F
theorem rX0_reasonHere_16 {Γ : GE} {l : Launch} {h MC MS : Nat} {Q : Option Value → GH → Prop} {bc bs : Nat} {G : GH} (x : Nat) (p1 : Int32) (p2 : Int32) (p3 : Int32) (F : (gC G x = kO 0 ∧ (((gI G x 8) ≤ p3 → ((p2 = 0 → (cI Γ l h mX0_insert [.ref x, .int p1, .int p2] G bc bs fun r2 Gr2 br2 sr2 => gC Gr2 x = kO 0 ∧ cI Γ l h mX0_isLegal [.ref x] Gr2 br2 sr2 fun r4 Gr4 br4 sr4 => ((r4 = 0 → (gC Gr4 x = kO 0 ∧ Q (some (.int (gI Gr4 x 11))) Gr4)) ∧ (¬ r4 = 0 → (Q (some (.int 0)) Gr4))))) ∧ (¬ p2 = 0 → (cI Γ l h mX0_flownBy [.ref x, .int p1] G bc bs fun r9 Gr9 br9 sr9 => ((r9 < 0 → (gC Gr9 x = kO 0 ∧ cI Γ l h mX0_insert [.ref x, .int p1, .int p2] Gr9 br9 sr9 fun r11 Gr11 br11 sr11 => gC Gr11 x = kO 0 ∧ cI Γ l h mX0_isLegal [.ref x] Gr11 br11 sr11 fun r14 Gr14 br14 sr14 => ((r14 = 0 → (gC Gr14 x = kO 0 ∧ Q (some (.int (gI Gr14 x 11))) Gr14)) ∧ (¬ r14 = 0 → (Q (some (.int 0)) Gr14))))) ∧ (¬ r9 < 0 → (Q (some (.int 8)) Gr9))))))) ∧ (¬ (gI G x 8) ≤ p3 → (∃ a21, (gR G x 5) = some a21 ∧ gC G a21 = kA 0 ∧ vp_in p3 (gL G a21) ∧ ((¬ (gI G a21 p3.toNatClampNeg) = p1 → (GW Γ l mX0_reasonHere h MC MS Q 16 [(0, va_rf (some x)), (1, .int p1), (2, .int p2), (3, .int (p3 + 1))] [] G bc bs)) ∧ ((gI G a21 p3.toNatClampNeg) = p1 → (Q (some (.int 9)) G)))))))) : GW Γ l mX0_reasonHere h MC MS Q 16 [(0, va_rf (some x)), (1, .int p1), (2, .int p2), (3, .int p3)] [] G bc bs := by
  refine g_iload_n dX0_reasonHere_16 rfl 3 rfl ?_
  refine g_aload_n dX0_reasonHere_17 rfl 0 rfl ?_
  obtain ⟨c1, F⟩ := F
  refine h_get (v := .int (gI G x 8)) 0 8 (C := RX0) (T := TX0) (N := 25) rfl in_X0 (by decide) q245 (Or.inl rfl) rfl c1 rfl dX0_reasonHere_18 ?_
  refine g_icmp_ge 43 dX0_reasonHere_21 (by decide) (fun h26 => ?_) (fun h26 => ?_)
  · have F := F.1 h26
    refine g_iload_n dX0_reasonHere_43 rfl 2 rfl ?_
    refine g_if_eq 58 dX0_reasonHere_44 (by decide) (fun h20 => ?_) (fun h20 => ?_)
    · have F := F.1 h20
      refine g_aload_n dX0_reasonHere_58 rfl 0 rfl ?_
      refine g_iload_n dX0_reasonHere_59 rfl 1 rfl ?_
      refine g_iload_n dX0_reasonHere_60 rfl 2 rfl ?_
      refine h_callVI (ci := 0) (C := RX0) (T := TX0) (N := 25) (As := [.int p1, .int p2]) (rest := []) F 2 rfl rfl (lw_V q1138 q1140 qs15 q108 q1141) vm_X0_insert (by decide) rfl c1 rfl (room_of sc_nil (Nat.le_of_ble_eq_true rfl)) dX0_reasonHere_61 (fun r2 Gr2 br2 sr2 F => ?_)
      refine g_pop dX0_reasonHere_64 rfl ?_
      refine g_aload_n dX0_reasonHere_65 rfl 0 rfl ?_
      obtain ⟨c5, F⟩ := F
      refine h_callVI (ci := 0) (C := RX0) (T := TX0) (N := 25) (As := []) (rest := []) F 0 rfl rfl (lw_V q1146 q1148 qs17 q108 q1149) vm_X0_isLegal (by decide) rfl c5 rfl (room_of sc_nil (Nat.le_of_ble_eq_true rfl)) dX0_reasonHere_66 (fun r4 Gr4 br4 sr4 F => ?_)
      refine g_if_eq 76 dX0_reasonHere_69 (by decide) (fun h8 => ?_) (fun h8 => ?_)
      · have F := F.1 h8
        refine g_aload_n dX0_reasonHere_76 rfl 0 rfl ?_
        obtain ⟨c7, F⟩ := F
        refine h_get (v := .int (gI Gr4 x 11)) 0 11 (C := RX0) (T := TX0) (N := 25) rfl in_X0 (by decide) q248 (Or.inl rfl) rfl c7 rfl dX0_reasonHere_77 ?_
        exact g_iret rfl dX0_reasonHere_80 F
      · have F := F.2 h8
        refine g_iconst (v := 0) dX0_reasonHere_72 (by decide) ?_
        refine g_goto 80 dX0_reasonHere_73 (by decide) ?_
        exact g_iret rfl dX0_reasonHere_80 F
    · have F := F.2 h20
      refine g_aload_n dX0_reasonHere_47 rfl 0 rfl ?_
      refine g_iload_n dX0_reasonHere_48 rfl 1 rfl ?_
      refine h_callVI (ci := 0) (C := RX0) (T := TX0) (N := 25) (As := [.int p1]) (rest := []) F 1 rfl rfl (lw_V q1088 q1090 qs8 q108 q1091) vm_X0_flownBy (by decide) rfl c1 rfl (room_of sc_nil (Nat.le_of_ble_eq_true rfl)) dX0_reasonHere_49 (fun r9 Gr9 br9 sr9 F => ?_)
      refine g_if_lt 58 dX0_reasonHere_52 (by decide) (fun h19 => ?_) (fun h19 => ?_)
      · have F := F.1 h19
        refine g_aload_n dX0_reasonHere_58 rfl 0 rfl ?_
        refine g_iload_n dX0_reasonHere_59 rfl 1 rfl ?_
        refine g_iload_n dX0_reasonHere_60 rfl 2 rfl ?_
        obtain ⟨c12, F⟩ := F
        refine h_callVI (ci := 0) (C := RX0) (T := TX0) (N := 25) (As := [.int p1, .int p2]) (rest := []) F 2 rfl rfl (lw_V q1138 q1140 qs15 q108 q1141) vm_X0_insert (by decide) rfl c12 rfl (room_of sc_nil (Nat.le_of_ble_eq_true rfl)) dX0_reasonHere_61 (fun r11 Gr11 br11 sr11 F => ?_)
        refine g_pop dX0_reasonHere_64 rfl ?_
        refine g_aload_n dX0_reasonHere_65 rfl 0 rfl ?_
        obtain ⟨c15, F⟩ := F
        refine h_callVI (ci := 0) (C := RX0) (T := TX0) (N := 25) (As := []) (rest := []) F 0 rfl rfl (lw_V q1146 q1148 qs17 q108 q1149) vm_X0_isLegal (by decide) rfl c15 rfl (room_of sc_nil (Nat.le_of_ble_eq_true rfl)) dX0_reasonHere_66 (fun r14 Gr14 br14 sr14 F => ?_)
        refine g_if_eq 76 dX0_reasonHere_69 (by decide) (fun h18 => ?_) (fun h18 => ?_)
        · have F := F.1 h18
          refine g_aload_n dX0_reasonHere_76 rfl 0 rfl ?_
          obtain ⟨c17, F⟩ := F
          refine h_get (v := .int (gI Gr14 x 11)) 0 11 (C := RX0) (T := TX0) (N := 25) rfl in_X0 (by decide) q248 (Or.inl rfl) rfl c17 rfl dX0_reasonHere_77 ?_
          exact g_iret rfl dX0_reasonHere_80 F
        · have F := F.2 h18
          refine g_iconst (v := 0) dX0_reasonHere_72 (by decide) ?_
          refine g_goto 80 dX0_reasonHere_73 (by decide) ?_
          exact g_iret rfl dX0_reasonHere_80 F
      · have F := F.2 h19
        refine g_bipush (v := 8) dX0_reasonHere_55 (by decide) ?_
        exact g_iret rfl dX0_reasonHere_57 F
  · have F := F.2 h26
    refine g_aload_n dX0_reasonHere_24 rfl 0 rfl ?_
    refine h_get (v := va_rf (gR G x 5)) 0 5 (C := RX0) (T := TX0) (N := 25) rfl in_X0 (by decide) q242 (Or.inl rfl) rfl c1 rfl dX0_reasonHere_25 ?_
    refine g_iload_n dX0_reasonHere_28 rfl 3 rfl ?_
    obtain ⟨a21, e22, F⟩ := F
    obtain ⟨c23, F⟩ := F
    obtain ⟨k24, F⟩ := F
    refine h_iald e22 c23 k24 dX0_reasonHere_29 ?_
    refine g_iload_n dX0_reasonHere_30 rfl 1 rfl ?_
    refine g_icmp_ne 37 dX0_reasonHere_31 (by decide) (fun h25 => ?_) (fun h25 => ?_)
    · have F := F.1 h25
      refine s_iinc (v := (p3 + 1)) (lv' := [(0, va_rf (some x)), (1, .int p1), (2, .int p2), (3, .int (p3 + 1))]) (cat_R (cat_I (cat_I (cat_I cat_nil)))) dX0_reasonHere_37 (k0 := 3) rfl rfl (by decide) rfl [1, 2, 3, 0] rfl ?_
      refine g_goto 16 dX0_reasonHere_40 (by decide) ?_
      exact F
    · have F := F.2 h25
      refine g_bipush (v := 9) dX0_reasonHere_34 (by decide) ?_
      exact g_iret rfl dX0_reasonHere_36 F
theorem rX0_insert_0 {Γ : GE} {l : Launch} {h MC MS : Nat} {Q : Option Value → GH → Prop} {bc bs : Nat} {G : GH} (x : Nat) (p1 : Int32) (p2 : Int32) (F : (gC G x = kO 0 ∧ GW Γ l mX0_insert h MC MS Q 5 [(0, va_rf (some x)), (1, .int p1), (2, .int p2), (3, .int (gI G x 8))] [] G bc bs)) : GW Γ l mX0_insert h MC MS Q 0 [(0, va_rf (some x)), (1, .int p1), (2, .int p2)] [] G bc bs := by
  refine g_aload_n dX0_insert_0 rfl 0 rfl ?_
  obtain ⟨c1, F⟩ := F
  refine h_get (v := .int (gI G x 8)) 0 8 (C := RX0) (T := TX0) (N := 25) rfl in_X0 (by decide) q245 (Or.inl rfl) rfl c1 rfl dX0_insert_1 ?_
  refine s_istore_n (lv' := [(0, va_rf (some x)), (1, .int p1), (2, .int p2), (3, .int (gI G x 8))]) (cat_R (cat_I (cat_I cat_nil))) dX0_insert_4 rfl (by decide) rfl [1, 2, 3, 0] rfl ?_
  exact F
theorem rX0_insert_5 {Γ : GE} {l : Launch} {h MC MS : Nat} {Q : Option Value → GH → Prop} {bc bs : Nat} {G : GH} (x : Nat) (p1 : Int32) (p2 : Int32) (p3 : Int32) (F : ((p3 ≤ 0 → (GW Γ l mX0_insert h MC MS Q 59 [(0, va_rf (some x)), (1, .int p1), (2, .int p2), (3, .int p3)] [] G bc bs)) ∧ (¬ p3 ≤ 0 → (gC G x = kO 0 ∧ ∃ a2, (gR G x 5) = some a2 ∧ gC G a2 = kA 0 ∧ vp_in (p3 - 1) (gL G a2) ∧ cI Γ l h mX0_isBefore [.ref x, .int p1, .int (gI G a2 (p3 - 1).toNatClampNeg)] G bc bs fun r6 Gr6 br6 sr6 => ((r6 = 0 → (GW Γ l mX0_insert h MC MS Q 59 [(0, va_rf (some x)), (1, .int p1), (2, .int p2), (3, .int p3)] [] Gr6 br6 sr6)) ∧ (¬ r6 = 0 → (gC Gr6 x = kO 0 ∧ ∃ a9, (gR Gr6 x 5) = some a9 ∧ gC Gr6 a9 = kA 0 ∧ vp_in (p3 - 1) (gL Gr6 a9) ∧ gM Gr6 a9 = true ∧ vp_in p3 (gL Gr6 a9) ∧ ∃ a15, (gR (sI Gr6 a9 p3.toNatClampNeg (gI Gr6 a9 (p3 - 1).toNatClampNeg)) x 7) = some a15 ∧ gC (sI Gr6 a9 p3.toNatClampNeg (gI Gr6 a9 (p3 - 1).toNatClampNeg)) a15 = kA 1 ∧ vp_in (p3 - 1) (gL (sI Gr6 a9 p3.toNatClampNeg (gI Gr6 a9 (p3 - 1).toNatClampNeg)) a15) ∧ gM (sI Gr6 a9 p3.toNatClampNeg (gI Gr6 a9 (p3 - 1).toNatClampNeg)) a15 = true ∧ vp_in p3 (gL (sI Gr6 a9 p3.toNatClampNeg (gI Gr6 a9 (p3 - 1).toNatClampNeg)) a15) ∧ GW Γ l mX0_insert h MC MS Q 5 [(0, va_rf (some x)), (1, .int p1), (2, .int p2), (3, .int (p3 + (-1)))] [] (sI (sI Gr6 a9 p3.toNatClampNeg (gI Gr6 a9 (p3 - 1).toNatClampNeg)) a15 p3.toNatClampNeg (vp_nar .boolean (gI (sI Gr6 a9 p3.toNatClampNeg (gI Gr6 a9 (p3 - 1).toNatClampNeg)) a15 (p3 - 1).toNatClampNeg))) br6 sr6))))))) : GW Γ l mX0_insert h MC MS Q 5 [(0, va_rf (some x)), (1, .int p1), (2, .int p2), (3, .int p3)] [] G bc bs := by
  refine g_iload_n dX0_insert_5 rfl 3 rfl ?_
  refine g_if_le 59 dX0_insert_6 (by decide) (fun h22 => ?_) (fun h22 => ?_)
  · have F := F.1 h22
    exact F
  · have F := F.2 h22
    refine g_aload_n dX0_insert_9 rfl 0 rfl ?_
    refine g_iload_n dX0_insert_10 rfl 1 rfl ?_
    refine g_aload_n dX0_insert_11 rfl 0 rfl ?_
    obtain ⟨c1, F⟩ := F
    refine h_get (v := va_rf (gR G x 5)) 0 5 (C := RX0) (T := TX0) (N := 25) rfl in_X0 (by decide) q242 (Or.inl rfl) rfl c1 rfl dX0_insert_12 ?_
    refine g_iload_n dX0_insert_15 rfl 3 rfl ?_
    refine g_iconst (v := 1) dX0_insert_16 (by decide) ?_
    refine g_isub dX0_insert_17 ?_
    obtain ⟨a2, e3, F⟩ := F
    obtain ⟨c4, F⟩ := F
    obtain ⟨k5, F⟩ := F
    refine h_iald e3 c4 k5 dX0_insert_18 ?_
    refine h_callVI (ci := 0) (C := RX0) (T := TX0) (N := 25) (As := [.int p1, .int (gI G a2 (p3 - 1).toNatClampNeg)]) (rest := []) F 2 rfl rfl (lw_V q1142 q1144 qs16 q108 q1145) vm_X0_isBefore (by decide) rfl c1 rfl (room_of sc_nil (Nat.le_of_ble_eq_true rfl)) dX0_insert_19 (fun r6 Gr6 br6 sr6 F => ?_)
    refine g_if_eq 59 dX0_insert_22 (by decide) (fun h21 => ?_) (fun h21 => ?_)
    · have F := F.1 h21
      exact F
    · have F := F.2 h21
      refine g_aload_n dX0_insert_25 rfl 0 rfl ?_
      obtain ⟨c8, F⟩ := F
      refine h_get (v := va_rf (gR Gr6 x 5)) 0 5 (C := RX0) (T := TX0) (N := 25) rfl in_X0 (by decide) q242 (Or.inl rfl) rfl c8 rfl dX0_insert_26 ?_
      refine g_iload_n dX0_insert_29 rfl 3 rfl ?_
      refine g_aload_n dX0_insert_30 rfl 0 rfl ?_
      refine h_get (v := va_rf (gR Gr6 x 5)) 0 5 (C := RX0) (T := TX0) (N := 25) rfl in_X0 (by decide) q242 (Or.inl rfl) rfl c8 rfl dX0_insert_31 ?_
      refine g_iload_n dX0_insert_34 rfl 3 rfl ?_
      refine g_iconst (v := 1) dX0_insert_35 (by decide) ?_
      refine g_isub dX0_insert_36 ?_
      obtain ⟨a9, e10, F⟩ := F
      obtain ⟨c11, F⟩ := F
      obtain ⟨k12, F⟩ := F
      refine h_iald e10 c11 k12 dX0_insert_37 ?_
      obtain ⟨m13, F⟩ := F
      obtain ⟨k14, F⟩ := F
      refine h_iast e10 c11 m13 k14 dX0_insert_38 ?_
      refine g_aload_n dX0_insert_39 rfl 0 rfl ?_
      refine h_get (v := va_rf (gR (sI Gr6 a9 p3.toNatClampNeg (gI Gr6 a9 (p3 - 1).toNatClampNeg)) x 7)) 0 7 (C := RX0) (T := TX0) (N := 25) rfl in_X0 (by decide) q244 (Or.inl rfl) rfl c8 rfl dX0_insert_40 ?_
      refine g_iload_n dX0_insert_43 rfl 3 rfl ?_
      refine g_aload_n dX0_insert_44 rfl 0 rfl ?_
      refine h_get (v := va_rf (gR (sI Gr6 a9 p3.toNatClampNeg (gI Gr6 a9 (p3 - 1).toNatClampNeg)) x 7)) 0 7 (C := RX0) (T := TX0) (N := 25) rfl in_X0 (by decide) q244 (Or.inl rfl) rfl c8 rfl dX0_insert_45 ?_
      refine g_iload_n dX0_insert_48 rfl 3 rfl ?_
      refine g_iconst (v := 1) dX0_insert_49 (by decide) ?_
      refine g_isub dX0_insert_50 ?_
      obtain ⟨a15, e16, F⟩ := F
      obtain ⟨c17, F⟩ := F
      obtain ⟨k18, F⟩ := F
      refine h_zald e16 c17 k18 dX0_insert_51 ?_
      obtain ⟨m19, F⟩ := F
      obtain ⟨k20, F⟩ := F
      refine h_zast e16 c17 m19 k20 dX0_insert_52 ?_
      refine s_iinc (v := (p3 + (-1))) (lv' := [(0, va_rf (some x)), (1, .int p1), (2, .int p2), (3, .int (p3 + (-1)))]) (cat_R (cat_I (cat_I (cat_I cat_nil)))) dX0_insert_53 (k0 := 3) rfl rfl (by decide) rfl [1, 2, 3, 0] rfl ?_
      refine g_goto 5 dX0_insert_56 (by decide) ?_
      exact F
theorem rX0_insert_59 {Γ : GE} {l : Launch} {h MC MS : Nat} {Q : Option Value → GH → Prop} {bc bs : Nat} {G : GH} (x : Nat) (p1 : Int32) (p2 : Int32) (p3 : Int32) (F : (gC G x = kO 0 ∧ ∃ a2, (gR G x 5) = some a2 ∧ gC G a2 = kA 0 ∧ gM G a2 = true ∧ vp_in p3 (gL G a2) ∧ ∃ a7, (gR (sI G a2 p3.toNatClampNeg p1) x 7) = some a7 ∧ gC (sI G a2 p3.toNatClampNeg p1) a7 = kA 1 ∧ gM (sI G a2 p3.toNatClampNeg p1) a7 = true ∧ vp_in p3 (gL (sI G a2 p3.toNatClampNeg p1) a7) ∧ gM (sI (sI G a2 p3.toNatClampNeg p1) a7 p3.toNatClampNeg (vp_nar .boolean p2)) x = true ∧ Q (some (.int p3)) (sI (sI (sI G a2 p3.toNatClampNeg p1) a7 p3.toNatClampNeg (vp_nar .boolean p2)) x 8 ((gI (sI (sI G a2 p3.toNatClampNeg p1) a7 p3.toNatClampNeg (vp_nar .boolean p2)) x 8) + 1)))) : GW Γ l mX0_insert h MC MS Q 59 [(0, va_rf (some x)), (1, .int p1), (2, .int p2), (3, .int p3)] [] G bc bs := by
  refine g_aload_n dX0_insert_59 rfl 0 rfl ?_
  obtain ⟨c1, F⟩ := F
  refine h_get (v := va_rf (gR G x 5)) 0 5 (C := RX0) (T := TX0) (N := 25) rfl in_X0 (by decide) q242 (Or.inl rfl) rfl c1 rfl dX0_insert_60 ?_
  refine g_iload_n dX0_insert_63 rfl 3 rfl ?_
  refine g_iload_n dX0_insert_64 rfl 1 rfl ?_
  obtain ⟨a2, e3, F⟩ := F
  obtain ⟨c4, F⟩ := F
  obtain ⟨m5, F⟩ := F
  obtain ⟨k6, F⟩ := F
  refine h_iast e3 c4 m5 k6 dX0_insert_65 ?_
  refine g_aload_n dX0_insert_66 rfl 0 rfl ?_
  refine h_get (v := va_rf (gR (sI G a2 p3.toNatClampNeg p1) x 7)) 0 7 (C := RX0) (T := TX0) (N := 25) rfl in_X0 (by decide) q244 (Or.inl rfl) rfl c1 rfl dX0_insert_67 ?_
  refine g_iload_n dX0_insert_70 rfl 3 rfl ?_
  refine g_iload_n dX0_insert_71 rfl 2 rfl ?_
  obtain ⟨a7, e8, F⟩ := F
  obtain ⟨c9, F⟩ := F
  obtain ⟨m10, F⟩ := F
  obtain ⟨k11, F⟩ := F
  refine h_zast e8 c9 m10 k11 dX0_insert_72 ?_
  refine g_aload_n dX0_insert_73 rfl 0 rfl ?_
  refine g_dup dX0_insert_74 (va_rf_cat _) ?_
  refine h_get (v := .int (gI (sI (sI G a2 p3.toNatClampNeg p1) a7 p3.toNatClampNeg (vp_nar .boolean p2)) x 8)) 0 8 (C := RX0) (T := TX0) (N := 25) rfl in_X0 (by decide) q245 (Or.inl rfl) rfl c1 rfl dX0_insert_75 ?_
  refine g_iconst (v := 1) dX0_insert_78 (by decide) ?_
  refine g_iadd dX0_insert_79 ?_
  obtain ⟨m12, F⟩ := F
  refine h_putI (mi := mX0_insert) 0 8 (C := RX0) (T := TX0) (N := 25) rfl in_X0 tyX0_ok nmX0 (by decide) q245 (Or.inl rfl) (Or.inl rfl) rfl rfl c1 m12 rfl rfl dX0_insert_80 ?_
  refine g_iload_n dX0_insert_83 rfl 3 rfl ?_
  exact g_iret rfl dX0_insert_84 F
theorem rX0_isBefore_0 {Γ : GE} {l : Launch} {h MC MS : Nat} {Q : Option Value → GH → Prop} {bc bs : Nat} {G : GH} (x : Nat) (p1 : Int32) (p2 : Int32) (F : (gC G x = kO 0 ∧ cR Γ l h mX0_legOf [.ref x, .int p1] G bc bs fun r1 Gr1 br1 sr1 => ∃ a4, r1 = some a4 ∧ gC Gr1 a4 = kO 3 ∧ gM Gr1 a4 = true ∧ gC Gr1 x = kO 0 ∧ cR Γ l h mX0_legOf [.ref x, .int p2] Gr1 br1 sr1 fun r8 Gr8 br8 sr8 => ∃ a11, r8 = some a11 ∧ gC Gr8 a11 = kO 3 ∧ gM Gr8 a11 = true ∧ ((((gI Gr1 a4 2) - (gI Gr8 a11 2)) < 0 → (Q (some (.int 1)) Gr8)) ∧ (¬ ((gI Gr1 a4 2) - (gI Gr8 a11 2)) < 0 → ((¬ ((gI Gr1 a4 2) - (gI Gr8 a11 2)) = 0 → (Q (some (.int 0)) Gr8)) ∧ (((gI Gr1 a4 2) - (gI Gr8 a11 2)) = 0 → ((p2 ≤ p1 → (Q (some (.int 0)) Gr8)) ∧ (¬ p2 ≤ p1 → (Q (some (.int 1)) Gr8))))))))) : GW Γ l mX0_isBefore h MC MS Q 0 [(0, va_rf (some x)), (1, .int p1), (2, .int p2)] [] G bc bs := by
  refine g_aload_n dX0_isBefore_0 rfl 0 rfl ?_
  refine g_iload_n dX0_isBefore_1 rfl 1 rfl ?_
  obtain ⟨c2, F⟩ := F
  refine h_callVR (ci := 0) (C := RX0) (T := TX0) (N := 25) (As := [.int p1]) (rest := []) F 1 rfl rfl (lw_V q551 q553 qs6 q108 q554) vm_X0_legOf (by decide) rfl c2 rfl (room_of sc_nil (Nat.le_of_ble_eq_true rfl)) dX0_isBefore_2 (fun r1 Gr1 br1 sr1 F => ?_)
  obtain ⟨a4, e5, F⟩ := F
  obtain ⟨c6, F⟩ := F
  obtain ⟨m7, F⟩ := F
  refine h_getN (host := "CrewPairer") (v := .int (gI Gr1 a4 2)) 3 2 (C := RX4) (T := TX4) (N := 5) rfl in_X4 (by decide) (by decide +kernel) rfl e5 c6 m7 rfl dX0_isBefore_5 ?_
  refine g_aload_n dX0_isBefore_8 rfl 0 rfl ?_
  refine g_iload_n dX0_isBefore_9 rfl 2 rfl ?_
  obtain ⟨c9, F⟩ := F
  refine h_callVR (ci := 0) (C := RX0) (T := TX0) (N := 25) (As := [.int p2]) (rest := [.int (gI Gr1 a4 2)]) F 1 rfl rfl (lw_V q551 q553 qs6 q108 q554) vm_X0_legOf (by decide) rfl c9 rfl (room_of (sc_I sc_nil) (Nat.le_of_ble_eq_true rfl)) dX0_isBefore_10 (fun r8 Gr8 br8 sr8 F => ?_)
  obtain ⟨a11, e12, F⟩ := F
  obtain ⟨c13, F⟩ := F
  obtain ⟨m14, F⟩ := F
  refine h_getN (host := "CrewPairer") (v := .int (gI Gr8 a11 2)) 3 2 (C := RX4) (T := TX4) (N := 5) rfl in_X4 (by decide) (by decide +kernel) rfl e12 c13 m14 rfl dX0_isBefore_13 ?_
  refine g_isub dX0_isBefore_16 ?_
  refine s_istore_n (lv' := [(0, va_rf (some x)), (1, .int p1), (2, .int p2), (3, .int ((gI Gr1 a4 2) - (gI Gr8 a11 2)))]) (cat_R (cat_I (cat_I cat_nil))) dX0_isBefore_17 rfl (by decide) rfl [1, 2, 3, 0] rfl ?_
  refine g_iload_n dX0_isBefore_18 rfl 3 rfl ?_
  refine g_if_lt 31 dX0_isBefore_19 (by decide) (fun h17 => ?_) (fun h17 => ?_)
  · have F := F.1 h17
    refine g_iconst (v := 1) dX0_isBefore_31 (by decide) ?_
    refine g_goto 36 dX0_isBefore_32 (by decide) ?_
    exact g_zret rfl rfl dX0_isBefore_36 F
  · have F := F.2 h17
    refine g_iload_n dX0_isBefore_22 rfl 3 rfl ?_
    refine g_if_ne 35 dX0_isBefore_23 (by decide) (fun h16 => ?_) (fun h16 => ?_)
    · have F := F.1 h16
      refine g_iconst (v := 0) dX0_isBefore_35 (by decide) ?_
      exact g_zret rfl rfl dX0_isBefore_36 F
    · have F := F.2 h16
      refine g_iload_n dX0_isBefore_26 rfl 1 rfl ?_
      refine g_iload_n dX0_isBefore_27 rfl 2 rfl ?_
      refine g_icmp_ge 35 dX0_isBefore_28 (by decide) (fun h15 => ?_) (fun h15 => ?_)
      · have F := F.1 h15
        refine g_iconst (v := 0) dX0_isBefore_35 (by decide) ?_
        exact g_zret rfl rfl dX0_isBefore_36 F
      · have F := F.2 h15
        refine g_iconst (v := 1) dX0_isBefore_31 (by decide) ?_
        refine g_goto 36 dX0_isBefore_32 (by decide) ?_
        exact g_zret rfl rfl dX0_isBefore_36 F
theorem rX0_isLegal_0 {Γ : GE} {l : Launch} {h MC MS : Nat} {Q : Option Value → GH → Prop} {bc bs : Nat} {G : GH} (x : Nat) (F : (gC G x = kO 0 ∧ cI Γ l h mX0_goTo [.ref x, .int 0] G bc bs fun r1 Gr1 br1 sr1 => ((¬ r1 = 0 → (Q (some (.int 0)) Gr1)) ∧ (r1 = 0 → (Q (some (.int 1)) Gr1))))) : GW Γ l mX0_isLegal h MC MS Q 0 [(0, va_rf (some x))] [] G bc bs := by
  refine g_aload_n dX0_isLegal_0 rfl 0 rfl ?_
  refine g_iconst (v := 0) dX0_isLegal_1 (by decide) ?_
  obtain ⟨c2, F⟩ := F
  refine h_callVI (ci := 0) (C := RX0) (T := TX0) (N := 25) (As := [.int 0]) (rest := []) F 1 rfl rfl (lw_V q1150 q1152 qs18 q108 q1153) vm_X0_goTo (by decide) rfl c2 rfl (room_of sc_nil (Nat.le_of_ble_eq_true rfl)) dX0_isLegal_2 (fun r1 Gr1 br1 sr1 F => ?_)
  refine g_if_ne 12 dX0_isLegal_5 (by decide) (fun h4 => ?_) (fun h4 => ?_)
  · have F := F.1 h4
    refine g_iconst (v := 0) dX0_isLegal_12 (by decide) ?_
    exact g_zret rfl rfl dX0_isLegal_13 F
  · have F := F.2 h4
    refine g_iconst (v := 1) dX0_isLegal_8 (by decide) ?_
    refine g_goto 13 dX0_isLegal_9 (by decide) ?_
    exact g_zret rfl rfl dX0_isLegal_13 F
theorem rX0_goTo_0 {Γ : GE} {l : Launch} {h MC MS : Nat} {Q : Option Value → GH → Prop} {bc bs : Nat} {G : GH} (x : Nat) (p1 : Int32) (F : (gC G x = kO 0 ∧ cV Γ l h mX0_findDuties [.ref x] G bc bs fun Gr1 br1 sr1 => GW Γ l mX0_goTo h MC MS Q 8 [(0, va_rf (some x)), (1, .int p1), (2, .int 0), (3, .int 1)] [] Gr1 br1 sr1)) : GW Γ l mX0_goTo h MC MS Q 0 [(0, va_rf (some x)), (1, .int p1)] [] G bc bs := by
  refine g_aload_n dX0_goTo_0 rfl 0 rfl ?_
  obtain ⟨c2, F⟩ := F
  refine h_callVV (ci := 0) (C := RX0) (T := TX0) (N := 25) (As := []) (rest := []) F 0 rfl rfl (lw_V q1154 q1156 qs19 q108 q1157) vm_X0_findDuties (by decide) rfl c2 rfl (room_of sc_nil (Nat.le_of_ble_eq_true rfl)) dX0_goTo_1 (fun Gr1 br1 sr1 F => ?_)
  refine g_iconst (v := 0) dX0_goTo_4 (by decide) ?_
  refine s_istore_n (lv' := [(0, va_rf (some x)), (1, .int p1), (2, .int 0)]) (cat_R (cat_I cat_nil)) dX0_goTo_5 rfl (by decide) rfl [1, 2, 0] rfl ?_
  refine g_iconst (v := 1) dX0_goTo_6 (by decide) ?_
  refine s_istore_n (lv' := [(0, va_rf (some x)), (1, .int p1), (2, .int 0), (3, .int 1)]) (cat_R (cat_I (cat_I cat_nil))) dX0_goTo_7 rfl (by decide) rfl [1, 2, 3, 0] rfl ?_
  exact F
theorem rX0_goTo_8 {Γ : GE} {l : Launch} {h MC MS : Nat} {Q : Option Value → GH → Prop} {bc bs : Nat} {G : GH} (x : Nat) (p1 : Int32) (p2 : Int32) (p3 : Int32) (F : (((7 : Int32) < p3 → (Q (some (.int p2)) G)) ∧ (¬ (7 : Int32) < p3 → (GW Γ l mX0_goTo h MC MS Q 17 [(0, va_rf (some x)), (1, .int p1), (2, .int p2), (3, .int p3), (4, .int 0)] [] G bc bs)))) : GW Γ l mX0_goTo h MC MS Q 8 [(0, va_rf (some x)), (1, .int p1), (2, .int p2), (3, .int p3)] [] G bc bs := by
  refine g_iload_n dX0_goTo_8 rfl 3 rfl ?_
  refine g_bipush (v := 7) dX0_goTo_9 (by decide) ?_
  refine g_icmp_gt 74 dX0_goTo_11 (by decide) (fun h1 => ?_) (fun h1 => ?_)
  · have F := F.1 h1
    refine g_iload_n dX0_goTo_74 rfl 2 rfl ?_
    exact g_iret rfl dX0_goTo_75 F
  · have F := F.2 h1
    refine g_iconst (v := 0) dX0_goTo_14 (by decide) ?_
    refine s_istore (lv' := [(0, va_rf (some x)), (1, .int p1), (2, .int p2), (3, .int p3), (4, .int 0)]) (cat_R (cat_I (cat_I (cat_I cat_nil)))) dX0_goTo_15 (by decide) rfl [1, 2, 3, 4, 0] rfl ?_
    exact F
theorem rX0_goTo_17 {Γ : GE} {l : Launch} {h MC MS : Nat} {Q : Option Value → GH → Prop} {bc bs : Nat} {G : GH} (x : Nat) (p1 : Int32) (p2 : Int32) (p3 : Int32) (p4 : Int32) (F : (gC G x = kO 0 ∧ (((gI G x 8) ≤ p4 → (GW Γ l mX0_goTo h MC MS Q 8 [(0, va_rf (some x)), (1, .int p1), (2, .int p2), (3, .int (p3 + 1))] [] G bc bs)) ∧ (¬ (gI G x 8) ≤ p4 → (cI Γ l h mX0_violates [.ref x, .int p3, .int p4] G bc bs fun r2 Gr2 br2 sr2 => ((¬ r2 = 0 → ((¬ p2 = p1 → (GW Γ l mX0_goTo h MC MS Q 17 [(0, va_rf (some x)), (1, .int p1), (2, .int (p2 + 1)), (3, .int p3), (4, .int (p4 + 1))] [] Gr2 br2 sr2)) ∧ (p2 = p1 → (gC Gr2 x = kO 0 ∧ gM Gr2 x = true ∧ Q (some (.int (p2 + 1))) (sI (sI Gr2 x 11 p3) x 12 p4))))) ∧ (r2 = 0 → (GW Γ l mX0_goTo h MC MS Q 17 [(0, va_rf (some x)), (1, .int p1), (2, .int p2), (3, .int p3), (4, .int (p4 + 1))] [] Gr2 br2 sr2)))))))) : GW Γ l mX0_goTo h MC MS Q 17 [(0, va_rf (some x)), (1, .int p1), (2, .int p2), (3, .int p3), (4, .int p4)] [] G bc bs := by
  refine g_iload dX0_goTo_17 4 rfl ?_
  refine g_aload_n dX0_goTo_19 rfl 0 rfl ?_
  obtain ⟨c1, F⟩ := F
  refine h_get (v := .int (gI G x 8)) 0 8 (C := RX0) (T := TX0) (N := 25) rfl in_X0 (by decide) q245 (Or.inl rfl) rfl c1 rfl dX0_goTo_20 ?_
  refine g_icmp_ge 68 dX0_goTo_23 (by decide) (fun h8 => ?_) (fun h8 => ?_)
  · have F := F.1 h8
    refine s_iinc (v := (p3 + 1)) (lv' := [(0, va_rf (some x)), (1, .int p1), (2, .int p2), (3, .int (p3 + 1)), (4, .int p4)]) (cat_R (cat_I (cat_I (cat_I (cat_I cat_nil))))) dX0_goTo_68 (k0 := 3) rfl rfl (by decide) rfl [1, 2, 3, 0, 4] rfl ?_
    refine g_goto 8 dX0_goTo_71 (by decide) ?_
    refine GW.lsub (lv' := [(0, va_rf (some x)), (1, .int p1), (2, .int p2), (3, .int (p3 + 1))]) [0, 1, 2, 3] rfl ?_
    exact F
  · have F := F.2 h8
    refine g_aload_n dX0_goTo_26 rfl 0 rfl ?_
    refine g_iload_n dX0_goTo_27 rfl 3 rfl ?_
    refine g_iload dX0_goTo_28 4 rfl ?_
    refine h_callVI (ci := 0) (C := RX0) (T := TX0) (N := 25) (As := [.int p3, .int p4]) (rest := []) F 2 rfl rfl (lw_V q1166 q1168 qs22 q108 q1169) vm_X0_violates (by decide) rfl c1 rfl (room_of sc_nil (Nat.le_of_ble_eq_true rfl)) dX0_goTo_30 (fun r2 Gr2 br2 sr2 F => ?_)
    refine g_if_ne 39 dX0_goTo_33 (by decide) (fun h7 => ?_) (fun h7 => ?_)
    · have F := F.1 h7
      refine g_iload_n dX0_goTo_39 rfl 2 rfl ?_
      refine g_iload_n dX0_goTo_40 rfl 1 rfl ?_
      refine g_icmp_ne 59 dX0_goTo_41 (by decide) (fun h6 => ?_) (fun h6 => ?_)
      · have F := F.1 h6
        refine s_iinc (v := (p2 + 1)) (lv' := [(0, va_rf (some x)), (1, .int p1), (2, .int (p2 + 1)), (3, .int p3), (4, .int p4)]) (cat_R (cat_I (cat_I (cat_I (cat_I cat_nil))))) dX0_goTo_59 (k0 := 2) rfl rfl (by decide) rfl [1, 2, 0, 3, 4] rfl ?_
        refine s_iinc (v := (p4 + 1)) (lv' := [(0, va_rf (some x)), (1, .int p1), (2, .int (p2 + 1)), (3, .int p3), (4, .int (p4 + 1))]) (cat_R (cat_I (cat_I (cat_I (cat_I cat_nil))))) dX0_goTo_62 (k0 := 4) rfl rfl (by decide) rfl [1, 2, 3, 4, 0] rfl ?_
        refine g_goto 17 dX0_goTo_65 (by decide) ?_
        exact F
      · have F := F.2 h6
        refine g_aload_n dX0_goTo_44 rfl 0 rfl ?_
        refine g_iload_n dX0_goTo_45 rfl 3 rfl ?_
        obtain ⟨c4, F⟩ := F
        obtain ⟨m5, F⟩ := F
        refine h_putI (mi := mX0_goTo) 0 11 (C := RX0) (T := TX0) (N := 25) rfl in_X0 tyX0_ok nmX0 (by decide) q248 (Or.inl rfl) (Or.inl rfl) rfl rfl c4 m5 rfl rfl dX0_goTo_46 ?_
        refine g_aload_n dX0_goTo_49 rfl 0 rfl ?_
        refine g_iload dX0_goTo_50 4 rfl ?_
        refine h_putI (mi := mX0_goTo) 0 12 (C := RX0) (T := TX0) (N := 25) rfl in_X0 tyX0_ok nmX0 (by decide) q249 (Or.inl rfl) (Or.inl rfl) rfl rfl c4 m5 rfl rfl dX0_goTo_52 ?_
        refine g_iload_n dX0_goTo_55 rfl 2 rfl ?_
        refine g_iconst (v := 1) dX0_goTo_56 (by decide) ?_
        refine g_iadd dX0_goTo_57 ?_
        exact g_iret rfl dX0_goTo_58 F
    · have F := F.2 h7
      refine g_goto 62 dX0_goTo_36 (by decide) ?_
      refine s_iinc (v := (p4 + 1)) (lv' := [(0, va_rf (some x)), (1, .int p1), (2, .int p2), (3, .int p3), (4, .int (p4 + 1))]) (cat_R (cat_I (cat_I (cat_I (cat_I cat_nil))))) dX0_goTo_62 (k0 := 4) rfl rfl (by decide) rfl [1, 2, 3, 4, 0] rfl ?_
      refine g_goto 17 dX0_goTo_65 (by decide) ?_
      exact F
theorem rX0_findDuties_0 {Γ : GE} {l : Launch} {h MC MS : Nat} {Q : Option Value → GH → Prop} {bc bs : Nat} {G : GH} (x : Nat) (F : (gC G x = kO 0 ∧ gM G x = true ∧ GW Γ l mX0_findDuties h MC MS Q 7 [(0, va_rf (some x)), (1, .int 0)] [] (sI G x 10 0) bc bs)) : GW Γ l mX0_findDuties h MC MS Q 0 [(0, va_rf (some x))] [] G bc bs := by
  refine g_aload_n dX0_findDuties_0 rfl 0 rfl ?_
  refine g_iconst (v := 0) dX0_findDuties_1 (by decide) ?_
  obtain ⟨c1, F⟩ := F
  obtain ⟨m2, F⟩ := F
  refine h_putI (mi := mX0_findDuties) 0 10 (C := RX0) (T := TX0) (N := 25) rfl in_X0 tyX0_ok nmX0 (by decide) q247 (Or.inl rfl) (Or.inl rfl) rfl rfl c1 m2 rfl rfl dX0_findDuties_2 ?_
  refine g_iconst (v := 0) dX0_findDuties_5 (by decide) ?_
  refine s_istore_n (lv' := [(0, va_rf (some x)), (1, .int 0)]) (cat_R cat_nil) dX0_findDuties_6 rfl (by decide) rfl [1, 0] rfl ?_
  exact F
theorem rX0_findDuties_7 {Γ : GE} {l : Launch} {h MC MS : Nat} {Q : Option Value → GH → Prop} {bc bs : Nat} {G : GH} (x : Nat) (p1 : Int32) (F : (gC G x = kO 0 ∧ (((gI G x 8) ≤ p1 → (Q none G)) ∧ (¬ (gI G x 8) ≤ p1 → ((p1 = 0 → (∃ a2, (gR G x 6) = some a2 ∧ gC G a2 = kA 0 ∧ gM G a2 = true ∧ vp_in (gI G x 10) (gL G a2) ∧ gM (sI G a2 (gI G x 10).toNatClampNeg p1) x = true ∧ GW Γ l mX0_findDuties h MC MS Q 7 [(0, va_rf (some x)), (1, .int (p1 + 1))] [] (sI (sI G a2 (gI G x 10).toNatClampNeg p1) x 10 ((gI (sI G a2 (gI G x 10).toNatClampNeg p1) x 10) + 1)) bc bs)) ∧ (¬ p1 = 0 → (cI Γ l h mX0_gapBefore [.ref x, .int p1] G bc bs fun r8 Gr8 br8 sr8 => gC Gr8 x = kO 0 ∧ ∃ a11, (gR Gr8 x 0) = some a11 ∧ gC Gr8 a11 = kO 2 ∧ gM Gr8 a11 = true ∧ ∃ a15, (gR Gr8 a11 2) = some a15 ∧ gC Gr8 a15 = kA 0 ∧ vp_in 1 (gL Gr8 a15) ∧ ((r8 < (gI Gr8 a15 (1 : Int32).toNatClampNeg) → (GW Γ l mX0_findDuties h MC MS Q 7 [(0, va_rf (some x)), (1, .int (p1 + 1))] [] Gr8 br8 sr8)) ∧ (¬ r8 < (gI Gr8 a15 (1 : Int32).toNatClampNeg) → (∃ a19, (gR Gr8 x 6) = some a19 ∧ gC Gr8 a19 = kA 0 ∧ gM Gr8 a19 = true ∧ vp_in (gI Gr8 x 10) (gL Gr8 a19) ∧ gM (sI Gr8 a19 (gI Gr8 x 10).toNatClampNeg p1) x = true ∧ GW Γ l mX0_findDuties h MC MS Q 7 [(0, va_rf (some x)), (1, .int (p1 + 1))] [] (sI (sI Gr8 a19 (gI Gr8 x 10).toNatClampNeg p1) x 10 ((gI (sI Gr8 a19 (gI Gr8 x 10).toNatClampNeg p1) x 10) + 1)) br8 sr8)))))))))) : GW Γ l mX0_findDuties h MC MS Q 7 [(0, va_rf (some x)), (1, .int p1)] [] G bc bs := by
  refine g_iload_n dX0_findDuties_7 rfl 1 rfl ?_
  refine g_aload_n dX0_findDuties_8 rfl 0 rfl ?_
  obtain ⟨c1, F⟩ := F
  refine h_get (v := .int (gI G x 8)) 0 8 (C := RX0) (T := TX0) (N := 25) rfl in_X0 (by decide) q245 (Or.inl rfl) rfl c1 rfl dX0_findDuties_9 ?_
  refine g_icmp_ge 62 dX0_findDuties_12 (by decide) (fun h27 => ?_) (fun h27 => ?_)
  · have F := F.1 h27
    exact g_vret rfl dX0_findDuties_62 F
  · have F := F.2 h27
    refine g_iload_n dX0_findDuties_15 rfl 1 rfl ?_
    refine g_if_eq 36 dX0_findDuties_16 (by decide) (fun h26 => ?_) (fun h26 => ?_)
    · have F := F.1 h26
      refine g_aload_n dX0_findDuties_36 rfl 0 rfl ?_
      refine h_get (v := va_rf (gR G x 6)) 0 6 (C := RX0) (T := TX0) (N := 25) rfl in_X0 (by decide) q243 (Or.inl rfl) rfl c1 rfl dX0_findDuties_37 ?_
      refine g_aload_n dX0_findDuties_40 rfl 0 rfl ?_
      refine h_get (v := .int (gI G x 10)) 0 10 (C := RX0) (T := TX0) (N := 25) rfl in_X0 (by decide) q247 (Or.inl rfl) rfl c1 rfl dX0_findDuties_41 ?_
      refine g_iload_n dX0_findDuties_44 rfl 1 rfl ?_
      obtain ⟨a2, e3, F⟩ := F
      obtain ⟨c4, F⟩ := F
      obtain ⟨m5, F⟩ := F
      obtain ⟨k6, F⟩ := F
      refine h_iast e3 c4 m5 k6 dX0_findDuties_45 ?_
      refine g_aload_n dX0_findDuties_46 rfl 0 rfl ?_
      refine g_dup dX0_findDuties_47 (va_rf_cat _) ?_
      refine h_get (v := .int (gI (sI G a2 (gI G x 10).toNatClampNeg p1) x 10)) 0 10 (C := RX0) (T := TX0) (N := 25) rfl in_X0 (by decide) q247 (Or.inl rfl) rfl c1 rfl dX0_findDuties_48 ?_
      refine g_iconst (v := 1) dX0_findDuties_51 (by decide) ?_
      refine g_iadd dX0_findDuties_52 ?_
      obtain ⟨m7, F⟩ := F
      refine h_putI (mi := mX0_findDuties) 0 10 (C := RX0) (T := TX0) (N := 25) rfl in_X0 tyX0_ok nmX0 (by decide) q247 (Or.inl rfl) (Or.inl rfl) rfl rfl c1 m7 rfl rfl dX0_findDuties_53 ?_
      refine s_iinc (v := (p1 + 1)) (lv' := [(0, va_rf (some x)), (1, .int (p1 + 1))]) (cat_R (cat_I cat_nil)) dX0_findDuties_56 (k0 := 1) rfl rfl (by decide) rfl [1, 0] rfl ?_
      refine g_goto 7 dX0_findDuties_59 (by decide) ?_
      exact F
    · have F := F.2 h26
      refine g_aload_n dX0_findDuties_19 rfl 0 rfl ?_
      refine g_iload_n dX0_findDuties_20 rfl 1 rfl ?_
      refine h_callVI (ci := 0) (C := RX0) (T := TX0) (N := 25) (As := [.int p1]) (rest := []) F 1 rfl rfl (lw_V q1158 q1160 qs20 q108 q1161) vm_X0_gapBefore (by decide) rfl c1 rfl (room_of sc_nil (Nat.le_of_ble_eq_true rfl)) dX0_findDuties_21 (fun r8 Gr8 br8 sr8 F => ?_)
      refine g_aload_n dX0_findDuties_24 rfl 0 rfl ?_
      obtain ⟨c10, F⟩ := F
      refine h_get (v := va_rf (gR Gr8 x 0)) 0 0 (C := RX0) (T := TX0) (N := 25) rfl in_X0 (by decide) q237 (Or.inl rfl) rfl c10 rfl dX0_findDuties_25 ?_
      obtain ⟨a11, e12, F⟩ := F
      obtain ⟨c13, F⟩ := F
      obtain ⟨m14, F⟩ := F
      refine h_getN (host := "CrewPairer") (v := va_rf (gR Gr8 a11 2)) 2 2 (C := RX1) (T := TX1) (N := 3) rfl in_X1 (by decide) (by decide +kernel) rfl e12 c13 m14 rfl dX0_findDuties_28 ?_
      refine g_iconst (v := 1) dX0_findDuties_31 (by decide) ?_
      obtain ⟨a15, e16, F⟩ := F
      obtain ⟨c17, F⟩ := F
      obtain ⟨k18, F⟩ := F
      refine h_iald e16 c17 k18 dX0_findDuties_32 ?_
      refine g_icmp_lt 56 dX0_findDuties_33 (by decide) (fun h25 => ?_) (fun h25 => ?_)
      · have F := F.1 h25
        refine s_iinc (v := (p1 + 1)) (lv' := [(0, va_rf (some x)), (1, .int (p1 + 1))]) (cat_R (cat_I cat_nil)) dX0_findDuties_56 (k0 := 1) rfl rfl (by decide) rfl [1, 0] rfl ?_
        refine g_goto 7 dX0_findDuties_59 (by decide) ?_
        exact F
      · have F := F.2 h25
        refine g_aload_n dX0_findDuties_36 rfl 0 rfl ?_
        refine h_get (v := va_rf (gR Gr8 x 6)) 0 6 (C := RX0) (T := TX0) (N := 25) rfl in_X0 (by decide) q243 (Or.inl rfl) rfl c10 rfl dX0_findDuties_37 ?_
        refine g_aload_n dX0_findDuties_40 rfl 0 rfl ?_
        refine h_get (v := .int (gI Gr8 x 10)) 0 10 (C := RX0) (T := TX0) (N := 25) rfl in_X0 (by decide) q247 (Or.inl rfl) rfl c10 rfl dX0_findDuties_41 ?_
        refine g_iload_n dX0_findDuties_44 rfl 1 rfl ?_
        obtain ⟨a19, e20, F⟩ := F
        obtain ⟨c21, F⟩ := F
        obtain ⟨m22, F⟩ := F
        obtain ⟨k23, F⟩ := F
        refine h_iast e20 c21 m22 k23 dX0_findDuties_45 ?_
        refine g_aload_n dX0_findDuties_46 rfl 0 rfl ?_
        refine g_dup dX0_findDuties_47 (va_rf_cat _) ?_
        refine h_get (v := .int (gI (sI Gr8 a19 (gI Gr8 x 10).toNatClampNeg p1) x 10)) 0 10 (C := RX0) (T := TX0) (N := 25) rfl in_X0 (by decide) q247 (Or.inl rfl) rfl c10 rfl dX0_findDuties_48 ?_
        refine g_iconst (v := 1) dX0_findDuties_51 (by decide) ?_
        refine g_iadd dX0_findDuties_52 ?_
        obtain ⟨m24, F⟩ := F
        refine h_putI (mi := mX0_findDuties) 0 10 (C := RX0) (T := TX0) (N := 25) rfl in_X0 tyX0_ok nmX0 (by decide) q247 (Or.inl rfl) (Or.inl rfl) rfl rfl c10 m24 rfl rfl dX0_findDuties_53 ?_
        refine s_iinc (v := (p1 + 1)) (lv' := [(0, va_rf (some x)), (1, .int (p1 + 1))]) (cat_R (cat_I cat_nil)) dX0_findDuties_56 (k0 := 1) rfl rfl (by decide) rfl [1, 0] rfl ?_
        refine g_goto 7 dX0_findDuties_59 (by decide) ?_
        exact F
theorem rX0_gapBefore_0 {Γ : GE} {l : Launch} {h MC MS : Nat} {Q : Option Value → GH → Prop} {bc bs : Nat} {G : GH} (x : Nat) (p1 : Int32) (F : (gC G x = kO 0 ∧ cR Γ l h mX0_at [.ref x, .int p1] G bc bs fun r1 Gr1 br1 sr1 => ∃ a4, r1 = some a4 ∧ gC Gr1 a4 = kO 3 ∧ gM Gr1 a4 = true ∧ gC Gr1 x = kO 0 ∧ cR Γ l h mX0_at [.ref x, .int (p1 - 1)] Gr1 br1 sr1 fun r8 Gr8 br8 sr8 => ∃ a11, r8 = some a11 ∧ gC Gr8 a11 = kO 3 ∧ gM Gr8 a11 = true ∧ Q (some (.int ((gI Gr1 a4 2) - (gI Gr8 a11 3)))) Gr8)) : GW Γ l mX0_gapBefore h MC MS Q 0 [(0, va_rf (some x)), (1, .int p1)] [] G bc bs := by
  refine g_aload_n dX0_gapBefore_0 rfl 0 rfl ?_
  refine g_iload_n dX0_gapBefore_1 rfl 1 rfl ?_
  obtain ⟨c2, F⟩ := F
  refine h_callVR (ci := 0) (C := RX0) (T := TX0) (N := 25) (As := [.int p1]) (rest := []) F 1 rfl rfl (lw_V q1162 q1164 qs21 q108 q1165) vm_X0_at (by decide) rfl c2 rfl (room_of sc_nil (Nat.le_of_ble_eq_true rfl)) dX0_gapBefore_2 (fun r1 Gr1 br1 sr1 F => ?_)
  obtain ⟨a4, e5, F⟩ := F
  obtain ⟨c6, F⟩ := F
  obtain ⟨m7, F⟩ := F
  refine h_getN (host := "CrewPairer") (v := .int (gI Gr1 a4 2)) 3 2 (C := RX4) (T := TX4) (N := 5) rfl in_X4 (by decide) (by decide +kernel) rfl e5 c6 m7 rfl dX0_gapBefore_5 ?_
  refine g_aload_n dX0_gapBefore_8 rfl 0 rfl ?_
  refine g_iload_n dX0_gapBefore_9 rfl 1 rfl ?_
  refine g_iconst (v := 1) dX0_gapBefore_10 (by decide) ?_
  refine g_isub dX0_gapBefore_11 ?_
  obtain ⟨c9, F⟩ := F
  refine h_callVR (ci := 0) (C := RX0) (T := TX0) (N := 25) (As := [.int (p1 - 1)]) (rest := [.int (gI Gr1 a4 2)]) F 1 rfl rfl (lw_V q1162 q1164 qs21 q108 q1165) vm_X0_at (by decide) rfl c9 rfl (room_of (sc_I sc_nil) (Nat.le_of_ble_eq_true rfl)) dX0_gapBefore_12 (fun r8 Gr8 br8 sr8 F => ?_)
  obtain ⟨a11, e12, F⟩ := F
  obtain ⟨c13, F⟩ := F
  obtain ⟨m14, F⟩ := F
  refine h_getN (host := "CrewPairer") (v := .int (gI Gr8 a11 3)) 3 3 (C := RX4) (T := TX4) (N := 5) rfl in_X4 (by decide) (by decide +kernel) rfl e12 c13 m14 rfl dX0_gapBefore_15 ?_
  refine g_isub dX0_gapBefore_18 ?_
  exact g_iret rfl dX0_gapBefore_19 F
theorem rX0_at_0 {Γ : GE} {l : Launch} {h MC MS : Nat} {Q : Option Value → GH → Prop} {bc bs : Nat} {G : GH} (x : Nat) (p1 : Int32) (F : (gC G x = kO 0 ∧ ∃ a2, (gR G x 5) = some a2 ∧ gC G a2 = kA 0 ∧ vp_in p1 (gL G a2) ∧ cR Γ l h mX0_legOf [.ref x, .int (gI G a2 p1.toNatClampNeg)] G bc bs fun r6 Gr6 br6 sr6 => Q (some (va_rf r6)) Gr6)) : GW Γ l mX0_at h MC MS Q 0 [(0, va_rf (some x)), (1, .int p1)] [] G bc bs := by
  refine g_aload_n dX0_at_0 rfl 0 rfl ?_
  refine g_aload_n dX0_at_1 rfl 0 rfl ?_
  obtain ⟨c1, F⟩ := F
  refine h_get (v := va_rf (gR G x 5)) 0 5 (C := RX0) (T := TX0) (N := 25) rfl in_X0 (by decide) q242 (Or.inl rfl) rfl c1 rfl dX0_at_2 ?_
  refine g_iload_n dX0_at_5 rfl 1 rfl ?_
  obtain ⟨a2, e3, F⟩ := F
  obtain ⟨c4, F⟩ := F
  obtain ⟨k5, F⟩ := F
  refine h_iald e3 c4 k5 dX0_at_6 ?_
  refine h_callVR (ci := 0) (C := RX0) (T := TX0) (N := 25) (As := [.int (gI G a2 p1.toNatClampNeg)]) (rest := []) F 1 rfl rfl (lw_V q551 q553 qs6 q108 q554) vm_X0_legOf (by decide) rfl c1 rfl (room_of sc_nil (Nat.le_of_ble_eq_true rfl)) dX0_at_7 (fun r6 Gr6 br6 sr6 F => ?_)
  exact g_aret (r := r6) rfl (Or.inl ⟨_, rfl⟩) dX0_at_10 F
theorem rX0_violates_0 {Γ : GE} {l : Launch} {h MC MS : Nat} {Q : Option Value → GH → Prop} {bc bs : Nat} {G : GH} (x : Nat) (p1 : Int32) (p2 : Int32) (F : ((p1 ≤ 3 → (GW Γ l mX0_violates h MC MS Q 14 [(0, va_rf (some x)), (1, .int p1), (2, .int p2)] [.int (-1)] G bc bs)) ∧ (¬ p1 ≤ 3 → (gC G x = kO 0 ∧ cI Γ l h mX0_dutyFrom [.ref x, .int p2] G bc bs fun r1 Gr1 br1 sr1 => GW Γ l mX0_violates h MC MS Q 14 [(0, va_rf (some x)), (1, .int p1), (2, .int p2)] [.int r1] Gr1 br1 sr1)))) : GW Γ l mX0_violates h MC MS Q 0 [(0, va_rf (some x)), (1, .int p1), (2, .int p2)] [] G bc bs := by
  refine g_iload_n dX0_violates_0 rfl 1 rfl ?_
  refine g_iconst (v := 3) dX0_violates_1 (by decide) ?_
  refine g_icmp_le 13 dX0_violates_2 (by decide) (fun h4 => ?_) (fun h4 => ?_)
  · have F := F.1 h4
    refine g_iconst (v := (-1)) dX0_violates_13 (by decide) ?_
    exact F
  · have F := F.2 h4
    refine g_aload_n dX0_violates_5 rfl 0 rfl ?_
    refine g_iload_n dX0_violates_6 rfl 2 rfl ?_
    obtain ⟨c2, F⟩ := F
    refine h_callVI (ci := 0) (C := RX0) (T := TX0) (N := 25) (As := [.int p2]) (rest := []) F 1 rfl rfl (lw_V q1170 q1172 qs23 q108 q1173) vm_X0_dutyFrom (by decide) rfl c2 rfl (room_of sc_nil (Nat.le_of_ble_eq_true rfl)) dX0_violates_7 (fun r1 Gr1 br1 sr1 F => ?_)
    refine g_goto 14 dX0_violates_10 (by decide) ?_
    exact F
theorem rX0_violates_14 {Γ : GE} {l : Launch} {h MC MS : Nat} {Q : Option Value → GH → Prop} {bc bs : Nat} {G : GH} (x : Nat) (p1 : Int32) (p2 : Int32) (s0 : Int32) (F : ((p1 = 1 → ((p2 ≤ 0 → (Q (some (.int 0)) G)) ∧ (¬ p2 ≤ 0 → (gC G x = kO 0 ∧ cI Γ l h mX0_gapBefore [.ref x, .int p2] G bc bs fun r2 Gr2 br2 sr2 => (((0 : Int32) ≤ r2 → (Q (some (.int 0)) Gr2)) ∧ (¬ (0 : Int32) ≤ r2 → (Q (some (.int 1)) Gr2))))))) ∧ (p1 = 2 → (gC G x = kO 0 ∧ cR Γ l h mX0_at [.ref x, .int p2] G bc bs fun r7 Gr7 br7 sr7 => ∃ a10, r7 = some a10 ∧ gC Gr7 a10 = kO 3 ∧ gM Gr7 a10 = true ∧ ((¬ p2 = 0 → (gC Gr7 x = kO 0 ∧ cR Γ l h mX0_at [.ref x, .int (p2 - 1)] Gr7 br7 sr7 fun r14 Gr14 br14 sr14 => ∃ a17, r14 = some a17 ∧ gC Gr14 a17 = kO 3 ∧ gM Gr14 a17 = true ∧ (((gI Gr7 a10 0) = (gI Gr14 a17 1) → (Q (some (.int 0)) Gr14)) ∧ (¬ (gI Gr7 a10 0) = (gI Gr14 a17 1) → (Q (some (.int 1)) Gr14))))) ∧ (p2 = 0 → (gC Gr7 x = kO 0 ∧ (((gI Gr7 a10 0) = (gI Gr7 x 9) → (Q (some (.int 0)) Gr7)) ∧ (¬ (gI Gr7 a10 0) = (gI Gr7 x 9) → (Q (some (.int 1)) Gr7)))))))) ∧ (p1 = 3 → ((p2 ≤ 0 → (Q (some (.int 0)) G)) ∧ (¬ p2 ≤ 0 → (gC G x = kO 0 ∧ cI Γ l h mX0_gapBefore [.ref x, .int p2] G bc bs fun r25 Gr25 br25 sr25 => gC Gr25 x = kO 0 ∧ ∃ a29, (gR Gr25 x 0) = some a29 ∧ gC Gr25 a29 = kO 2 ∧ gM Gr25 a29 = true ∧ ∃ a33, (gR Gr25 a29 2) = some a33 ∧ gC Gr25 a33 = kA 0 ∧ vp_in 0 (gL Gr25 a33) ∧ cI Γ l h mX0_isBetween [.int r25, .int 0, .int ((gI Gr25 a33 (0 : Int32).toNatClampNeg) - 1)] Gr25 br25 sr25 fun r37 Gr37 br37 sr37 => ((r37 = 0 → (Q (some (.int 0)) Gr37)) ∧ (¬ r37 = 0 → (Q (some (.int 1)) Gr37))))))) ∧ (p1 = 4 → ((s0 < 0 → (Q (some (.int 0)) G)) ∧ (¬ s0 < 0 → (gC G x = kO 0 ∧ cI Γ l h mX0_dutyLength [.ref x, .int s0] G bc bs fun r41 Gr41 br41 sr41 => gC Gr41 x = kO 0 ∧ ∃ a45, (gR Gr41 x 0) = some a45 ∧ gC Gr41 a45 = kO 2 ∧ gM Gr41 a45 = true ∧ ∃ a49, (gR Gr41 a45 2) = some a49 ∧ gC Gr41 a49 = kA 0 ∧ vp_in 2 (gL Gr41 a49) ∧ ((r41 ≤ (gI Gr41 a49 (2 : Int32).toNatClampNeg) → (Q (some (.int 0)) Gr41)) ∧ (¬ r41 ≤ (gI Gr41 a49 (2 : Int32).toNatClampNeg) → (Q (some (.int 1)) Gr41))))))) ∧ (p1 = 5 → ((s0 < 0 → (Q (some (.int 0)) G)) ∧ (¬ s0 < 0 → (gC G x = kO 0 ∧ cI Γ l h mX0_dutyMinutes [.ref x, .int s0] G bc bs fun r55 Gr55 br55 sr55 => gC Gr55 x = kO 0 ∧ ∃ a59, (gR Gr55 x 0) = some a59 ∧ gC Gr55 a59 = kO 2 ∧ gM Gr55 a59 = true ∧ ∃ a63, (gR Gr55 a59 2) = some a63 ∧ gC Gr55 a63 = kA 0 ∧ vp_in 3 (gL Gr55 a63) ∧ ((r55 ≤ (gI Gr55 a63 (3 : Int32).toNatClampNeg) → (Q (some (.int 0)) Gr55)) ∧ (¬ r55 ≤ (gI Gr55 a63 (3 : Int32).toNatClampNeg) → (Q (some (.int 1)) Gr55))))))) ∧ (p1 = 6 → ((s0 < 0 → (Q (some (.int 0)) G)) ∧ (¬ s0 < 0 → (gC G x = kO 0 ∧ cI Γ l h mX0_dutyEnd [.ref x, .int s0] G bc bs fun r69 Gr69 br69 sr69 => gC Gr69 x = kO 0 ∧ ∃ a73, (gR Gr69 x 0) = some a73 ∧ gC Gr69 a73 = kO 2 ∧ gM Gr69 a73 = true ∧ ∃ a77, (gR Gr69 a73 2) = some a77 ∧ gC Gr69 a77 = kA 0 ∧ vp_in 4 (gL Gr69 a77) ∧ (((r69 - p2) ≤ (gI Gr69 a77 (4 : Int32).toNatClampNeg) → (Q (some (.int 0)) Gr69)) ∧ (¬ (r69 - p2) ≤ (gI Gr69 a77 (4 : Int32).toNatClampNeg) → (Q (some (.int 1)) Gr69))))))) ∧ ((p1.toInt < 1 ∨ 6 < p1.toInt) → (gC G x = kO 0 ∧ ∃ a84, (gR G x 7) = some a84 ∧ gC G a84 = kA 1 ∧ vp_in p2 (gL G a84) ∧ (((gI G a84 p2.toNatClampNeg) = 0 → (Q (some (.int 0)) G)) ∧ (¬ (gI G a84 p2.toNatClampNeg) = 0 → (cR Γ l h mX0_at [.ref x, .int p2] G bc bs fun r88 Gr88 br88 sr88 => ∃ a90, r88 = some a90 ∧ gC Gr88 a90 = kO 3 ∧ gM Gr88 a90 = true ∧ gC Gr88 x = kO 0 ∧ cI Γ l h mX0_rowWithin [.ref x, .int (gI Gr88 a90 2), .int 1440] Gr88 br88 sr88 fun r94 Gr94 br94 sr94 => gC Gr94 x = kO 0 ∧ ∃ a98, (gR Gr94 x 0) = some a98 ∧ gC Gr94 a98 = kO 2 ∧ gM Gr94 a98 = true ∧ ∃ a102, (gR Gr94 a98 2) = some a102 ∧ gC Gr94 a102 = kA 0 ∧ vp_in 5 (gL Gr94 a102) ∧ ((r94 ≤ (gI Gr94 a102 (5 : Int32).toNatClampNeg) → (Q (some (.int 0)) Gr94)) ∧ (¬ r94 ≤ (gI Gr94 a102 (5 : Int32).toNatClampNeg) → (Q (some (.int 1)) Gr94)))))))))) : GW Γ l mX0_violates h MC MS Q 14 [(0, va_rf (some x)), (1, .int p1), (2, .int p2)] [.int s0] G bc bs := by
  refine s_istore_n (lv' := [(0, va_rf (some x)), (1, .int p1), (2, .int p2), (3, .int s0)]) (cat_R (cat_I (cat_I cat_nil))) dX0_violates_14 rfl (by decide) rfl [1, 2, 3, 0] rfl ?_
  refine g_iload_n dX0_violates_15 rfl 1 rfl ?_
  by_cases h1 : (p1.toInt < 1 ∨ 6 < p1.toInt)
  · have F := F.2.2.2.2.2.2 h1
    refine h_tout 240 dX0_violates_16 h1 (by decide) ?_
    refine g_aload_n dX0_violates_240 rfl 0 rfl ?_
    obtain ⟨c83, F⟩ := F
    refine h_get (v := va_rf (gR G x 7)) 0 7 (C := RX0) (T := TX0) (N := 25) rfl in_X0 (by decide) q244 (Or.inl rfl) rfl c83 rfl dX0_violates_241 ?_
    refine g_iload_n dX0_violates_244 rfl 2 rfl ?_
    obtain ⟨a84, e85, F⟩ := F
    obtain ⟨c86, F⟩ := F
    obtain ⟨k87, F⟩ := F
    refine h_zald e85 c86 k87 dX0_violates_245 ?_
    refine g_if_eq 280 dX0_violates_246 (by decide) (fun h107 => ?_) (fun h107 => ?_)
    · have F := F.1 h107
      refine g_iconst (v := 0) dX0_violates_280 (by decide) ?_
      exact g_zret rfl rfl dX0_violates_281 F
    · have F := F.2 h107
      refine g_aload_n dX0_violates_249 rfl 0 rfl ?_
      refine g_aload_n dX0_violates_250 rfl 0 rfl ?_
      refine g_iload_n dX0_violates_251 rfl 2 rfl ?_
      refine h_callVR (ci := 0) (C := RX0) (T := TX0) (N := 25) (As := [.int p2]) (rest := [va_rf (some x)]) F 1 rfl rfl (lw_V q1162 q1164 qs21 q108 q1165) vm_X0_at (by decide) rfl c83 rfl (room_of (sc_R sc_nil) (Nat.le_of_ble_eq_true rfl)) dX0_violates_252 (fun r88 Gr88 br88 sr88 F => ?_)
      obtain ⟨a90, e91, F⟩ := F
      obtain ⟨c92, F⟩ := F
      obtain ⟨m93, F⟩ := F
      refine h_getN (host := "CrewPairer") (v := .int (gI Gr88 a90 2)) 3 2 (C := RX4) (T := TX4) (N := 5) rfl in_X4 (by decide) (by decide +kernel) rfl e91 c92 m93 rfl dX0_violates_255 ?_
      refine g_sipush (v := 1440) dX0_violates_258 (by decide) ?_
      obtain ⟨c95, F⟩ := F
      refine h_callVI (ci := 0) (C := RX0) (T := TX0) (N := 25) (As := [.int (gI Gr88 a90 2), .int 1440]) (rest := []) F 2 rfl rfl (lw_V q1210 q1212 qs27 q108 q1213) vm_X0_rowWithin (by decide) rfl c95 rfl (room_of sc_nil (Nat.le_of_ble_eq_true rfl)) dX0_violates_261 (fun r94 Gr94 br94 sr94 F => ?_)
      refine g_aload_n dX0_violates_264 rfl 0 rfl ?_
      obtain ⟨c97, F⟩ := F
      refine h_get (v := va_rf (gR Gr94 x 0)) 0 0 (C := RX0) (T := TX0) (N := 25) rfl in_X0 (by decide) q237 (Or.inl rfl) rfl c97 rfl dX0_violates_265 ?_
      obtain ⟨a98, e99, F⟩ := F
      obtain ⟨c100, F⟩ := F
      obtain ⟨m101, F⟩ := F
      refine h_getN (host := "CrewPairer") (v := va_rf (gR Gr94 a98 2)) 2 2 (C := RX1) (T := TX1) (N := 3) rfl in_X1 (by decide) (by decide +kernel) rfl e99 c100 m101 rfl dX0_violates_268 ?_
      refine g_iconst (v := 5) dX0_violates_271 (by decide) ?_
      obtain ⟨a102, e103, F⟩ := F
      obtain ⟨c104, F⟩ := F
      obtain ⟨k105, F⟩ := F
      refine h_iald e103 c104 k105 dX0_violates_272 ?_
      refine g_icmp_le 280 dX0_violates_273 (by decide) (fun h106 => ?_) (fun h106 => ?_)
      · have F := F.1 h106
        refine g_iconst (v := 0) dX0_violates_280 (by decide) ?_
        exact g_zret rfl rfl dX0_violates_281 F
      · have F := F.2 h106
        refine g_iconst (v := 1) dX0_violates_276 (by decide) ?_
        refine g_goto 281 dX0_violates_277 (by decide) ?_
        exact g_zret rfl rfl dX0_violates_281 F
  · have zh1 : p1.toInt = 1 ∨ p1.toInt = 2 ∨ p1.toInt = 3 ∨ p1.toInt = 4 ∨ p1.toInt = 5 ∨ p1.toInt = 6 := by omega
    rcases zh1 with zh1 | zh1 | zh1 | zh1 | zh1 | zh1
    · have F := F.1 (tsw_eq zh1 (by decide))
      refine h_tin 56 dX0_violates_16 zh1 (by decide) (by decide) rfl (by decide) ?_
      refine g_iload_n dX0_violates_56 rfl 2 rfl ?_
      refine g_if_le 72 dX0_violates_57 (by decide) (fun h6 => ?_) (fun h6 => ?_)
      · have F := F.1 h6
        refine g_iconst (v := 0) dX0_violates_72 (by decide) ?_
        refine g_goto 281 dX0_violates_73 (by decide) ?_
        exact g_zret rfl rfl dX0_violates_281 F
      · have F := F.2 h6
        refine g_aload_n dX0_violates_60 rfl 0 rfl ?_
        refine g_iload_n dX0_violates_61 rfl 2 rfl ?_
        obtain ⟨c3, F⟩ := F
        refine h_callVI (ci := 0) (C := RX0) (T := TX0) (N := 25) (As := [.int p2]) (rest := []) F 1 rfl rfl (lw_V q1158 q1160 qs20 q108 q1161) vm_X0_gapBefore (by decide) rfl c3 rfl (room_of sc_nil (Nat.le_of_ble_eq_true rfl)) dX0_violates_62 (fun r2 Gr2 br2 sr2 F => ?_)
        refine g_if_ge 72 dX0_violates_65 (by decide) (fun h5 => ?_) (fun h5 => ?_)
        · have F := F.1 h5
          refine g_iconst (v := 0) dX0_violates_72 (by decide) ?_
          refine g_goto 281 dX0_violates_73 (by decide) ?_
          exact g_zret rfl rfl dX0_violates_281 F
        · have F := F.2 h5
          refine g_iconst (v := 1) dX0_violates_68 (by decide) ?_
          refine g_goto 281 dX0_violates_69 (by decide) ?_
          exact g_zret rfl rfl dX0_violates_281 F
    · have F := F.2.1 (tsw_eq zh1 (by decide))
      refine h_tin 76 dX0_violates_16 zh1 (by decide) (by decide) rfl (by decide) ?_
      refine g_aload_n dX0_violates_76 rfl 0 rfl ?_
      refine g_iload_n dX0_violates_77 rfl 2 rfl ?_
      obtain ⟨c8, F⟩ := F
      refine h_callVR (ci := 0) (C := RX0) (T := TX0) (N := 25) (As := [.int p2]) (rest := []) F 1 rfl rfl (lw_V q1162 q1164 qs21 q108 q1165) vm_X0_at (by decide) rfl c8 rfl (room_of sc_nil (Nat.le_of_ble_eq_true rfl)) dX0_violates_78 (fun r7 Gr7 br7 sr7 F => ?_)
      obtain ⟨a10, e11, F⟩ := F
      obtain ⟨c12, F⟩ := F
      obtain ⟨m13, F⟩ := F
      refine h_getN (host := "CrewPairer") (v := .int (gI Gr7 a10 0)) 3 0 (C := RX4) (T := TX4) (N := 5) rfl in_X4 (by decide) (by decide +kernel) rfl e11 c12 m13 rfl dX0_violates_81 ?_
      refine g_iload_n dX0_violates_84 rfl 2 rfl ?_
      refine g_if_ne 95 dX0_violates_85 (by decide) (fun h24 => ?_) (fun h24 => ?_)
      · have F := F.1 h24
        refine g_aload_n dX0_violates_95 rfl 0 rfl ?_
        refine g_iload_n dX0_violates_96 rfl 2 rfl ?_
        refine g_iconst (v := 1) dX0_violates_97 (by decide) ?_
        refine g_isub dX0_violates_98 ?_
        obtain ⟨c15, F⟩ := F
        refine h_callVR (ci := 0) (C := RX0) (T := TX0) (N := 25) (As := [.int (p2 - 1)]) (rest := [.int (gI Gr7 a10 0)]) F 1 rfl rfl (lw_V q1162 q1164 qs21 q108 q1165) vm_X0_at (by decide) rfl c15 rfl (room_of (sc_I sc_nil) (Nat.le_of_ble_eq_true rfl)) dX0_violates_99 (fun r14 Gr14 br14 sr14 F => ?_)
        obtain ⟨a17, e18, F⟩ := F
        obtain ⟨c19, F⟩ := F
        obtain ⟨m20, F⟩ := F
        refine h_getN (host := "CrewPairer") (v := .int (gI Gr14 a17 1)) 3 1 (C := RX4) (T := TX4) (N := 5) rfl in_X4 (by decide) (by decide +kernel) rfl e18 c19 m20 rfl dX0_violates_102 ?_
        refine g_icmp_eq 112 dX0_violates_105 (by decide) (fun h21 => ?_) (fun h21 => ?_)
        · have F := F.1 h21
          refine g_iconst (v := 0) dX0_violates_112 (by decide) ?_
          refine g_goto 281 dX0_violates_113 (by decide) ?_
          exact g_zret rfl rfl dX0_violates_281 F
        · have F := F.2 h21
          refine g_iconst (v := 1) dX0_violates_108 (by decide) ?_
          refine g_goto 281 dX0_violates_109 (by decide) ?_
          exact g_zret rfl rfl dX0_violates_281 F
      · have F := F.2 h24
        refine g_aload_n dX0_violates_88 rfl 0 rfl ?_
        obtain ⟨c22, F⟩ := F
        refine h_get (v := .int (gI Gr7 x 9)) 0 9 (C := RX0) (T := TX0) (N := 25) rfl in_X0 (by decide) q246 (Or.inl rfl) rfl c22 rfl dX0_violates_89 ?_
        refine g_goto 105 dX0_violates_92 (by decide) ?_
        refine g_icmp_eq 112 dX0_violates_105 (by decide) (fun h23 => ?_) (fun h23 => ?_)
        · have F := F.1 h23
          refine g_iconst (v := 0) dX0_violates_112 (by decide) ?_
          refine g_goto 281 dX0_violates_113 (by decide) ?_
          exact g_zret rfl rfl dX0_violates_281 F
        · have F := F.2 h23
          refine g_iconst (v := 1) dX0_violates_108 (by decide) ?_
          refine g_goto 281 dX0_violates_109 (by decide) ?_
          exact g_zret rfl rfl dX0_violates_281 F
    · have F := F.2.2.1 (tsw_eq zh1 (by decide))
      refine h_tin 116 dX0_violates_16 zh1 (by decide) (by decide) rfl (by decide) ?_
      refine g_iload_n dX0_violates_116 rfl 2 rfl ?_
      refine g_if_le 147 dX0_violates_117 (by decide) (fun h40 => ?_) (fun h40 => ?_)
      · have F := F.1 h40
        refine g_iconst (v := 0) dX0_violates_147 (by decide) ?_
        refine g_goto 281 dX0_violates_148 (by decide) ?_
        exact g_zret rfl rfl dX0_violates_281 F
      · have F := F.2 h40
        refine g_aload_n dX0_violates_120 rfl 0 rfl ?_
        refine g_iload_n dX0_violates_121 rfl 2 rfl ?_
        obtain ⟨c26, F⟩ := F
        refine h_callVI (ci := 0) (C := RX0) (T := TX0) (N := 25) (As := [.int p2]) (rest := []) F 1 rfl rfl (lw_V q1158 q1160 qs20 q108 q1161) vm_X0_gapBefore (by decide) rfl c26 rfl (room_of sc_nil (Nat.le_of_ble_eq_true rfl)) dX0_violates_122 (fun r25 Gr25 br25 sr25 F => ?_)
        refine g_iconst (v := 0) dX0_violates_125 (by decide) ?_
        refine g_aload_n dX0_violates_126 rfl 0 rfl ?_
        obtain ⟨c28, F⟩ := F
        refine h_get (v := va_rf (gR Gr25 x 0)) 0 0 (C := RX0) (T := TX0) (N := 25) rfl in_X0 (by decide) q237 (Or.inl rfl) rfl c28 rfl dX0_violates_127 ?_
        obtain ⟨a29, e30, F⟩ := F
        obtain ⟨c31, F⟩ := F
        obtain ⟨m32, F⟩ := F
        refine h_getN (host := "CrewPairer") (v := va_rf (gR Gr25 a29 2)) 2 2 (C := RX1) (T := TX1) (N := 3) rfl in_X1 (by decide) (by decide +kernel) rfl e30 c31 m32 rfl dX0_violates_130 ?_
        refine g_iconst (v := 0) dX0_violates_133 (by decide) ?_
        obtain ⟨a33, e34, F⟩ := F
        obtain ⟨c35, F⟩ := F
        obtain ⟨k36, F⟩ := F
        refine h_iald e34 c35 k36 dX0_violates_134 ?_
        refine g_iconst (v := 1) dX0_violates_135 (by decide) ?_
        refine g_isub dX0_violates_136 ?_
        refine h_callSI (As := [.int r25, .int 0, .int ((gI Gr25 a33 (0 : Int32).toNatClampNeg) - 1)]) (rest := []) F 3 rfl (lw_S q498 q499 q108 q500) vm_X0_isBetween.2 (by decide) rfl (room_of sc_nil (Nat.le_of_ble_eq_true rfl)) dX0_violates_137 (fun r37 Gr37 br37 sr37 F => ?_)
        refine g_if_eq 147 dX0_violates_140 (by decide) (fun h39 => ?_) (fun h39 => ?_)
        · have F := F.1 h39
          refine g_iconst (v := 0) dX0_violates_147 (by decide) ?_
          refine g_goto 281 dX0_violates_148 (by decide) ?_
          exact g_zret rfl rfl dX0_violates_281 F
        · have F := F.2 h39
          refine g_iconst (v := 1) dX0_violates_143 (by decide) ?_
          refine g_goto 281 dX0_violates_144 (by decide) ?_
          exact g_zret rfl rfl dX0_violates_281 F
    · have F := F.2.2.2.1 (tsw_eq zh1 (by decide))
      refine h_tin 151 dX0_violates_16 zh1 (by decide) (by decide) rfl (by decide) ?_
      refine g_iload_n dX0_violates_151 rfl 3 rfl ?_
      refine g_if_lt 176 dX0_violates_152 (by decide) (fun h54 => ?_) (fun h54 => ?_)
      · have F := F.1 h54
        refine g_iconst (v := 0) dX0_violates_176 (by decide) ?_
        refine g_goto 281 dX0_violates_177 (by decide) ?_
        exact g_zret rfl rfl dX0_violates_281 F
      · have F := F.2 h54
        refine g_aload_n dX0_violates_155 rfl 0 rfl ?_
        refine g_iload_n dX0_violates_156 rfl 3 rfl ?_
        obtain ⟨c42, F⟩ := F
        refine h_callVI (ci := 0) (C := RX0) (T := TX0) (N := 25) (As := [.int s0]) (rest := []) F 1 rfl rfl (lw_V q1174 q1176 qs24 q108 q1177) vm_X0_dutyLength (by decide) rfl c42 rfl (room_of sc_nil (Nat.le_of_ble_eq_true rfl)) dX0_violates_157 (fun r41 Gr41 br41 sr41 F => ?_)
        refine g_aload_n dX0_violates_160 rfl 0 rfl ?_
        obtain ⟨c44, F⟩ := F
        refine h_get (v := va_rf (gR Gr41 x 0)) 0 0 (C := RX0) (T := TX0) (N := 25) rfl in_X0 (by decide) q237 (Or.inl rfl) rfl c44 rfl dX0_violates_161 ?_
        obtain ⟨a45, e46, F⟩ := F
        obtain ⟨c47, F⟩ := F
        obtain ⟨m48, F⟩ := F
        refine h_getN (host := "CrewPairer") (v := va_rf (gR Gr41 a45 2)) 2 2 (C := RX1) (T := TX1) (N := 3) rfl in_X1 (by decide) (by decide +kernel) rfl e46 c47 m48 rfl dX0_violates_164 ?_
        refine g_iconst (v := 2) dX0_violates_167 (by decide) ?_
        obtain ⟨a49, e50, F⟩ := F
        obtain ⟨c51, F⟩ := F
        obtain ⟨k52, F⟩ := F
        refine h_iald e50 c51 k52 dX0_violates_168 ?_
        refine g_icmp_le 176 dX0_violates_169 (by decide) (fun h53 => ?_) (fun h53 => ?_)
        · have F := F.1 h53
          refine g_iconst (v := 0) dX0_violates_176 (by decide) ?_
          refine g_goto 281 dX0_violates_177 (by decide) ?_
          exact g_zret rfl rfl dX0_violates_281 F
        · have F := F.2 h53
          refine g_iconst (v := 1) dX0_violates_172 (by decide) ?_
          refine g_goto 281 dX0_violates_173 (by decide) ?_
          exact g_zret rfl rfl dX0_violates_281 F
    · have F := F.2.2.2.2.1 (tsw_eq zh1 (by decide))
      refine h_tin 180 dX0_violates_16 zh1 (by decide) (by decide) rfl (by decide) ?_
      refine g_iload_n dX0_violates_180 rfl 3 rfl ?_
      refine g_if_lt 205 dX0_violates_181 (by decide) (fun h68 => ?_) (fun h68 => ?_)
      · have F := F.1 h68
        refine g_iconst (v := 0) dX0_violates_205 (by decide) ?_
        refine g_goto 281 dX0_violates_206 (by decide) ?_
        exact g_zret rfl rfl dX0_violates_281 F
      · have F := F.2 h68
        refine g_aload_n dX0_violates_184 rfl 0 rfl ?_
        refine g_iload_n dX0_violates_185 rfl 3 rfl ?_
        obtain ⟨c56, F⟩ := F
        refine h_callVI (ci := 0) (C := RX0) (T := TX0) (N := 25) (As := [.int s0]) (rest := []) F 1 rfl rfl (lw_V q1182 q1184 qs26 q108 q1185) vm_X0_dutyMinutes (by decide) rfl c56 rfl (room_of sc_nil (Nat.le_of_ble_eq_true rfl)) dX0_violates_186 (fun r55 Gr55 br55 sr55 F => ?_)
        refine g_aload_n dX0_violates_189 rfl 0 rfl ?_
        obtain ⟨c58, F⟩ := F
        refine h_get (v := va_rf (gR Gr55 x 0)) 0 0 (C := RX0) (T := TX0) (N := 25) rfl in_X0 (by decide) q237 (Or.inl rfl) rfl c58 rfl dX0_violates_190 ?_
        obtain ⟨a59, e60, F⟩ := F
        obtain ⟨c61, F⟩ := F
        obtain ⟨m62, F⟩ := F
        refine h_getN (host := "CrewPairer") (v := va_rf (gR Gr55 a59 2)) 2 2 (C := RX1) (T := TX1) (N := 3) rfl in_X1 (by decide) (by decide +kernel) rfl e60 c61 m62 rfl dX0_violates_193 ?_
        refine g_iconst (v := 3) dX0_violates_196 (by decide) ?_
        obtain ⟨a63, e64, F⟩ := F
        obtain ⟨c65, F⟩ := F
        obtain ⟨k66, F⟩ := F
        refine h_iald e64 c65 k66 dX0_violates_197 ?_
        refine g_icmp_le 205 dX0_violates_198 (by decide) (fun h67 => ?_) (fun h67 => ?_)
        · have F := F.1 h67
          refine g_iconst (v := 0) dX0_violates_205 (by decide) ?_
          refine g_goto 281 dX0_violates_206 (by decide) ?_
          exact g_zret rfl rfl dX0_violates_281 F
        · have F := F.2 h67
          refine g_iconst (v := 1) dX0_violates_201 (by decide) ?_
          refine g_goto 281 dX0_violates_202 (by decide) ?_
          exact g_zret rfl rfl dX0_violates_281 F
    · have F := F.2.2.2.2.2.1 (tsw_eq zh1 (by decide))
      refine h_tin 209 dX0_violates_16 zh1 (by decide) (by decide) rfl (by decide) ?_
      refine g_iload_n dX0_violates_209 rfl 3 rfl ?_
      refine g_if_lt 236 dX0_violates_210 (by decide) (fun h82 => ?_) (fun h82 => ?_)
      · have F := F.1 h82
        refine g_iconst (v := 0) dX0_violates_236 (by decide) ?_
        refine g_goto 281 dX0_violates_237 (by decide) ?_
        exact g_zret rfl rfl dX0_violates_281 F
      · have F := F.2 h82
        refine g_aload_n dX0_violates_213 rfl 0 rfl ?_
        refine g_iload_n dX0_violates_214 rfl 3 rfl ?_
        obtain ⟨c70, F⟩ := F
        refine h_callVI (ci := 0) (C := RX0) (T := TX0) (N := 25) (As := [.int s0]) (rest := []) F 1 rfl rfl (lw_V q1178 q1180 qs25 q108 q1181) vm_X0_dutyEnd (by decide) rfl c70 rfl (room_of sc_nil (Nat.le_of_ble_eq_true rfl)) dX0_violates_215 (fun r69 Gr69 br69 sr69 F => ?_)
        refine g_iload_n dX0_violates_218 rfl 2 rfl ?_
        refine g_isub dX0_violates_219 ?_
        refine g_aload_n dX0_violates_220 rfl 0 rfl ?_
        obtain ⟨c72, F⟩ := F
        refine h_get (v := va_rf (gR Gr69 x 0)) 0 0 (C := RX0) (T := TX0) (N := 25) rfl in_X0 (by decide) q237 (Or.inl rfl) rfl c72 rfl dX0_violates_221 ?_
        obtain ⟨a73, e74, F⟩ := F
        obtain ⟨c75, F⟩ := F
        obtain ⟨m76, F⟩ := F
        refine h_getN (host := "CrewPairer") (v := va_rf (gR Gr69 a73 2)) 2 2 (C := RX1) (T := TX1) (N := 3) rfl in_X1 (by decide) (by decide +kernel) rfl e74 c75 m76 rfl dX0_violates_224 ?_
        refine g_iconst (v := 4) dX0_violates_227 (by decide) ?_
        obtain ⟨a77, e78, F⟩ := F
        obtain ⟨c79, F⟩ := F
        obtain ⟨k80, F⟩ := F
        refine h_iald e78 c79 k80 dX0_violates_228 ?_
        refine g_icmp_le 236 dX0_violates_229 (by decide) (fun h81 => ?_) (fun h81 => ?_)
        · have F := F.1 h81
          refine g_iconst (v := 0) dX0_violates_236 (by decide) ?_
          refine g_goto 281 dX0_violates_237 (by decide) ?_
          exact g_zret rfl rfl dX0_violates_281 F
        · have F := F.2 h81
          refine g_iconst (v := 1) dX0_violates_232 (by decide) ?_
          refine g_goto 281 dX0_violates_233 (by decide) ?_
          exact g_zret rfl rfl dX0_violates_281 F
theorem rX0_dutyFrom_0 {Γ : GE} {l : Launch} {h MC MS : Nat} {Q : Option Value → GH → Prop} {bc bs : Nat} {G : GH} (x : Nat) (p1 : Int32) (F : (GW Γ l mX0_dutyFrom h MC MS Q 2 [(0, va_rf (some x)), (1, .int p1), (2, .int 0)] [] G bc bs)) : GW Γ l mX0_dutyFrom h MC MS Q 0 [(0, va_rf (some x)), (1, .int p1)] [] G bc bs := by
  refine g_iconst (v := 0) dX0_dutyFrom_0 (by decide) ?_
  refine s_istore_n (lv' := [(0, va_rf (some x)), (1, .int p1), (2, .int 0)]) (cat_R (cat_I cat_nil)) dX0_dutyFrom_1 rfl (by decide) rfl [1, 2, 0] rfl ?_
  exact F
theorem rX0_dutyFrom_2 {Γ : GE} {l : Launch} {h MC MS : Nat} {Q : Option Value → GH → Prop} {bc bs : Nat} {G : GH} (x : Nat) (p1 : Int32) (p2 : Int32) (F : (gC G x = kO 0 ∧ (((gI G x 10) ≤ p2 → (Q (some (.int (-1))) G)) ∧ (¬ (gI G x 10) ≤ p2 → (∃ a2, (gR G x 6) = some a2 ∧ gC G a2 = kA 0 ∧ vp_in p2 (gL G a2) ∧ ((¬ (gI G a2 p2.toNatClampNeg) = p1 → (GW Γ l mX0_dutyFrom h MC MS Q 2 [(0, va_rf (some x)), (1, .int p1), (2, .int (p2 + 1))] [] G bc bs)) ∧ ((gI G a2 p2.toNatClampNeg) = p1 → (Q (some (.int p2)) G)))))))) : GW Γ l mX0_dutyFrom h MC MS Q 2 [(0, va_rf (some x)), (1, .int p1), (2, .int p2)] [] G bc bs := by
  refine g_iload_n dX0_dutyFrom_2 rfl 2 rfl ?_
  refine g_aload_n dX0_dutyFrom_3 rfl 0 rfl ?_
  obtain ⟨c1, F⟩ := F
  refine h_get (v := .int (gI G x 10)) 0 10 (C := RX0) (T := TX0) (N := 25) rfl in_X0 (by decide) q247 (Or.inl rfl) rfl c1 rfl dX0_dutyFrom_4 ?_
  refine g_icmp_ge 28 dX0_dutyFrom_7 (by decide) (fun h7 => ?_) (fun h7 => ?_)
  · have F := F.1 h7
    refine g_iconst (v := (-1)) dX0_dutyFrom_28 (by decide) ?_
    exact g_iret rfl dX0_dutyFrom_29 F
  · have F := F.2 h7
    refine g_aload_n dX0_dutyFrom_10 rfl 0 rfl ?_
    refine h_get (v := va_rf (gR G x 6)) 0 6 (C := RX0) (T := TX0) (N := 25) rfl in_X0 (by decide) q243 (Or.inl rfl) rfl c1 rfl dX0_dutyFrom_11 ?_
    refine g_iload_n dX0_dutyFrom_14 rfl 2 rfl ?_
    obtain ⟨a2, e3, F⟩ := F
    obtain ⟨c4, F⟩ := F
    obtain ⟨k5, F⟩ := F
    refine h_iald e3 c4 k5 dX0_dutyFrom_15 ?_
    refine g_iload_n dX0_dutyFrom_16 rfl 1 rfl ?_
    refine g_icmp_ne 22 dX0_dutyFrom_17 (by decide) (fun h6 => ?_) (fun h6 => ?_)
    · have F := F.1 h6
      refine s_iinc (v := (p2 + 1)) (lv' := [(0, va_rf (some x)), (1, .int p1), (2, .int (p2 + 1))]) (cat_R (cat_I (cat_I cat_nil))) dX0_dutyFrom_22 (k0 := 2) rfl rfl (by decide) rfl [1, 2, 0] rfl ?_
      refine g_goto 2 dX0_dutyFrom_25 (by decide) ?_
      exact F
    · have F := F.2 h6
      refine g_iload_n dX0_dutyFrom_20 rfl 2 rfl ?_
      exact g_iret rfl dX0_dutyFrom_21 F
theorem rX0_dutyLength_0 {Γ : GE} {l : Launch} {h MC MS : Nat} {Q : Option Value → GH → Prop} {bc bs : Nat} {G : GH} (x : Nat) (p1 : Int32) (F : (gC G x = kO 0 ∧ cI Γ l h mX0_dutyEnd [.ref x, .int p1] G bc bs fun r1 Gr1 br1 sr1 => gC Gr1 x = kO 0 ∧ cR Γ l h mX0_at [.ref x, .int (r1 - 1)] Gr1 br1 sr1 fun r4 Gr4 br4 sr4 => ∃ a7, r4 = some a7 ∧ gC Gr4 a7 = kO 3 ∧ gM Gr4 a7 = true ∧ gC Gr4 x = kO 0 ∧ ∃ a12, (gR Gr4 x 6) = some a12 ∧ gC Gr4 a12 = kA 0 ∧ vp_in p1 (gL Gr4 a12) ∧ cR Γ l h mX0_at [.ref x, .int (gI Gr4 a12 p1.toNatClampNeg)] Gr4 br4 sr4 fun r16 Gr16 br16 sr16 => ∃ a18, r16 = some a18 ∧ gC Gr16 a18 = kO 3 ∧ gM Gr16 a18 = true ∧ Q (some (.int ((gI Gr4 a7 3) - (gI Gr16 a18 2)))) Gr16)) : GW Γ l mX0_dutyLength h MC MS Q 0 [(0, va_rf (some x)), (1, .int p1)] [] G bc bs := by
  refine g_aload_n dX0_dutyLength_0 rfl 0 rfl ?_
  refine g_aload_n dX0_dutyLength_1 rfl 0 rfl ?_
  refine g_iload_n dX0_dutyLength_2 rfl 1 rfl ?_
  obtain ⟨c2, F⟩ := F
  refine h_callVI (ci := 0) (C := RX0) (T := TX0) (N := 25) (As := [.int p1]) (rest := [va_rf (some x)]) F 1 rfl rfl (lw_V q1178 q1180 qs25 q108 q1181) vm_X0_dutyEnd (by decide) rfl c2 rfl (room_of (sc_R sc_nil) (Nat.le_of_ble_eq_true rfl)) dX0_dutyLength_3 (fun r1 Gr1 br1 sr1 F => ?_)
  refine g_iconst (v := 1) dX0_dutyLength_6 (by decide) ?_
  refine g_isub dX0_dutyLength_7 ?_
  obtain ⟨c5, F⟩ := F
  refine h_callVR (ci := 0) (C := RX0) (T := TX0) (N := 25) (As := [.int (r1 - 1)]) (rest := []) F 1 rfl rfl (lw_V q1162 q1164 qs21 q108 q1165) vm_X0_at (by decide) rfl c5 rfl (room_of sc_nil (Nat.le_of_ble_eq_true rfl)) dX0_dutyLength_8 (fun r4 Gr4 br4 sr4 F => ?_)
  obtain ⟨a7, e8, F⟩ := F
  obtain ⟨c9, F⟩ := F
  obtain ⟨m10, F⟩ := F
  refine h_getN (host := "CrewPairer") (v := .int (gI Gr4 a7 3)) 3 3 (C := RX4) (T := TX4) (N := 5) rfl in_X4 (by decide) (by decide +kernel) rfl e8 c9 m10 rfl dX0_dutyLength_11 ?_
  refine g_aload_n dX0_dutyLength_14 rfl 0 rfl ?_
  refine g_aload_n dX0_dutyLength_15 rfl 0 rfl ?_
  obtain ⟨c11, F⟩ := F
  refine h_get (v := va_rf (gR Gr4 x 6)) 0 6 (C := RX0) (T := TX0) (N := 25) rfl in_X0 (by decide) q243 (Or.inl rfl) rfl c11 rfl dX0_dutyLength_16 ?_
  refine g_iload_n dX0_dutyLength_19 rfl 1 rfl ?_
  obtain ⟨a12, e13, F⟩ := F
  obtain ⟨c14, F⟩ := F
  obtain ⟨k15, F⟩ := F
  refine h_iald e13 c14 k15 dX0_dutyLength_20 ?_
  refine h_callVR (ci := 0) (C := RX0) (T := TX0) (N := 25) (As := [.int (gI Gr4 a12 p1.toNatClampNeg)]) (rest := [.int (gI Gr4 a7 3)]) F 1 rfl rfl (lw_V q1162 q1164 qs21 q108 q1165) vm_X0_at (by decide) rfl c11 rfl (room_of (sc_I sc_nil) (Nat.le_of_ble_eq_true rfl)) dX0_dutyLength_21 (fun r16 Gr16 br16 sr16 F => ?_)
  obtain ⟨a18, e19, F⟩ := F
  obtain ⟨c20, F⟩ := F
  obtain ⟨m21, F⟩ := F
  refine h_getN (host := "CrewPairer") (v := .int (gI Gr16 a18 2)) 3 2 (C := RX4) (T := TX4) (N := 5) rfl in_X4 (by decide) (by decide +kernel) rfl e19 c20 m21 rfl dX0_dutyLength_24 ?_
  refine g_isub dX0_dutyLength_27 ?_
  exact g_iret rfl dX0_dutyLength_28 F
theorem rX0_dutyEnd_0 {Γ : GE} {l : Launch} {h MC MS : Nat} {Q : Option Value → GH → Prop} {bc bs : Nat} {G : GH} (x : Nat) (p1 : Int32) (F : (gC G x = kO 0 ∧ (((gI G x 10) ≤ (p1 + 1) → (Q (some (.int (gI G x 8))) G)) ∧ (¬ (gI G x 10) ≤ (p1 + 1) → (∃ a2, (gR G x 6) = some a2 ∧ gC G a2 = kA 0 ∧ vp_in (p1 + 1) (gL G a2) ∧ Q (some (.int (gI G a2 (p1 + 1).toNatClampNeg))) G))))) : GW Γ l mX0_dutyEnd h MC MS Q 0 [(0, va_rf (some x)), (1, .int p1)] [] G bc bs := by
  refine g_iload_n dX0_dutyEnd_0 rfl 1 rfl ?_
  refine g_iconst (v := 1) dX0_dutyEnd_1 (by decide) ?_
  refine g_iadd dX0_dutyEnd_2 ?_
  refine g_aload_n dX0_dutyEnd_3 rfl 0 rfl ?_
  obtain ⟨c1, F⟩ := F
  refine h_get (v := .int (gI G x 10)) 0 10 (C := RX0) (T := TX0) (N := 25) rfl in_X0 (by decide) q247 (Or.inl rfl) rfl c1 rfl dX0_dutyEnd_4 ?_
  refine g_icmp_ge 21 dX0_dutyEnd_7 (by decide) (fun h6 => ?_) (fun h6 => ?_)
  · have F := F.1 h6
    refine g_aload_n dX0_dutyEnd_21 rfl 0 rfl ?_
    refine h_get (v := .int (gI G x 8)) 0 8 (C := RX0) (T := TX0) (N := 25) rfl in_X0 (by decide) q245 (Or.inl rfl) rfl c1 rfl dX0_dutyEnd_22 ?_
    exact g_iret rfl dX0_dutyEnd_25 F
  · have F := F.2 h6
    refine g_aload_n dX0_dutyEnd_10 rfl 0 rfl ?_
    refine h_get (v := va_rf (gR G x 6)) 0 6 (C := RX0) (T := TX0) (N := 25) rfl in_X0 (by decide) q243 (Or.inl rfl) rfl c1 rfl dX0_dutyEnd_11 ?_
    refine g_iload_n dX0_dutyEnd_14 rfl 1 rfl ?_
    refine g_iconst (v := 1) dX0_dutyEnd_15 (by decide) ?_
    refine g_iadd dX0_dutyEnd_16 ?_
    obtain ⟨a2, e3, F⟩ := F
    obtain ⟨c4, F⟩ := F
    obtain ⟨k5, F⟩ := F
    refine h_iald e3 c4 k5 dX0_dutyEnd_17 ?_
    refine g_goto 25 dX0_dutyEnd_18 (by decide) ?_
    exact g_iret rfl dX0_dutyEnd_25 F
theorem rX0_dutyMinutes_0 {Γ : GE} {l : Launch} {h MC MS : Nat} {Q : Option Value → GH → Prop} {bc bs : Nat} {G : GH} (x : Nat) (p1 : Int32) (F : (gC G x = kO 0 ∧ ∃ a2, (gR G x 6) = some a2 ∧ gC G a2 = kA 0 ∧ vp_in p1 (gL G a2) ∧ GW Γ l mX0_dutyMinutes h MC MS Q 9 [(0, va_rf (some x)), (1, .int p1), (2, .int 0), (3, .int (gI G a2 p1.toNatClampNeg))] [] G bc bs)) : GW Γ l mX0_dutyMinutes h MC MS Q 0 [(0, va_rf (some x)), (1, .int p1)] [] G bc bs := by
  refine g_iconst (v := 0) dX0_dutyMinutes_0 (by decide) ?_
  refine s_istore_n (lv' := [(0, va_rf (some x)), (1, .int p1), (2, .int 0)]) (cat_R (cat_I cat_nil)) dX0_dutyMinutes_1 rfl (by decide) rfl [1, 2, 0] rfl ?_
  refine g_aload_n dX0_dutyMinutes_2 rfl 0 rfl ?_
  obtain ⟨c1, F⟩ := F
  refine h_get (v := va_rf (gR G x 6)) 0 6 (C := RX0) (T := TX0) (N := 25) rfl in_X0 (by decide) q243 (Or.inl rfl) rfl c1 rfl dX0_dutyMinutes_3 ?_
  refine g_iload_n dX0_dutyMinutes_6 rfl 1 rfl ?_
  obtain ⟨a2, e3, F⟩ := F
  obtain ⟨c4, F⟩ := F
  obtain ⟨k5, F⟩ := F
  refine h_iald e3 c4 k5 dX0_dutyMinutes_7 ?_
  refine s_istore_n (lv' := [(0, va_rf (some x)), (1, .int p1), (2, .int 0), (3, .int (gI G a2 p1.toNatClampNeg))]) (cat_R (cat_I (cat_I cat_nil))) dX0_dutyMinutes_8 rfl (by decide) rfl [1, 2, 3, 0] rfl ?_
  exact F
theorem rX0_dutyMinutes_9 {Γ : GE} {l : Launch} {h MC MS : Nat} {Q : Option Value → GH → Prop} {bc bs : Nat} {G : GH} (x : Nat) (p1 : Int32) (p2 : Int32) (p3 : Int32) (F : (gC G x = kO 0 ∧ cI Γ l h mX0_dutyEnd [.ref x, .int p1] G bc bs fun r1 Gr1 br1 sr1 => ((r1 ≤ p3 → (Q (some (.int p2)) Gr1)) ∧ (¬ r1 ≤ p3 → (gC Gr1 x = kO 0 ∧ ∃ a5, (gR Gr1 x 7) = some a5 ∧ gC Gr1 a5 = kA 1 ∧ vp_in p3 (gL Gr1 a5) ∧ (((gI Gr1 a5 p3.toNatClampNeg) = 0 → (GW Γ l mX0_dutyMinutes h MC MS Q 9 [(0, va_rf (some x)), (1, .int p1), (2, .int (p2 + 0)), (3, .int (p3 + 1))] [] Gr1 br1 sr1)) ∧ (¬ (gI Gr1 a5 p3.toNatClampNeg) = 0 → (cR Γ l h mX0_at [.ref x, .int p3] Gr1 br1 sr1 fun r9 Gr9 br9 sr9 => ∃ a12, r9 = some a12 ∧ gC Gr9 a12 = kO 3 ∧ cI Γ l h mX8_length [.ref a12] Gr9 br9 sr9 fun r11 Gr11 br11 sr11 => GW Γ l mX0_dutyMinutes h MC MS Q 9 [(0, va_rf (some x)), (1, .int p1), (2, .int (p2 + r11)), (3, .int (p3 + 1))] [] Gr11 br11 sr11)))))))) : GW Γ l mX0_dutyMinutes h MC MS Q 9 [(0, va_rf (some x)), (1, .int p1), (2, .int p2), (3, .int p3)] [] G bc bs := by
  refine g_iload_n dX0_dutyMinutes_9 rfl 3 rfl ?_
  refine g_aload_n dX0_dutyMinutes_10 rfl 0 rfl ?_
  refine g_iload_n dX0_dutyMinutes_11 rfl 1 rfl ?_
  obtain ⟨c2, F⟩ := F
  refine h_callVI (ci := 0) (C := RX0) (T := TX0) (N := 25) (As := [.int p1]) (rest := [.int p3]) F 1 rfl rfl (lw_V q1178 q1180 qs25 q108 q1181) vm_X0_dutyEnd (by decide) rfl c2 rfl (room_of (sc_I sc_nil) (Nat.le_of_ble_eq_true rfl)) dX0_dutyMinutes_12 (fun r1 Gr1 br1 sr1 F => ?_)
  refine g_icmp_ge 48 dX0_dutyMinutes_15 (by decide) (fun h17 => ?_) (fun h17 => ?_)
  · have F := F.1 h17
    refine g_iload_n dX0_dutyMinutes_48 rfl 2 rfl ?_
    exact g_iret rfl dX0_dutyMinutes_49 F
  · have F := F.2 h17
    refine g_iload_n dX0_dutyMinutes_18 rfl 2 rfl ?_
    refine g_aload_n dX0_dutyMinutes_19 rfl 0 rfl ?_
    obtain ⟨c4, F⟩ := F
    refine h_get (v := va_rf (gR Gr1 x 7)) 0 7 (C := RX0) (T := TX0) (N := 25) rfl in_X0 (by decide) q244 (Or.inl rfl) rfl c4 rfl dX0_dutyMinutes_20 ?_
    refine g_iload_n dX0_dutyMinutes_23 rfl 3 rfl ?_
    obtain ⟨a5, e6, F⟩ := F
    obtain ⟨c7, F⟩ := F
    obtain ⟨k8, F⟩ := F
    refine h_zald e6 c7 k8 dX0_dutyMinutes_24 ?_
    refine g_if_eq 39 dX0_dutyMinutes_25 (by decide) (fun h16 => ?_) (fun h16 => ?_)
    · have F := F.1 h16
      refine g_iconst (v := 0) dX0_dutyMinutes_39 (by decide) ?_
      refine g_iadd dX0_dutyMinutes_40 ?_
      refine s_istore_n (lv' := [(0, va_rf (some x)), (1, .int p1), (2, .int (p2 + 0)), (3, .int p3)]) (cat_R (cat_I (cat_I (cat_I cat_nil)))) dX0_dutyMinutes_41 rfl (by decide) rfl [1, 2, 0, 3] rfl ?_
      refine s_iinc (v := (p3 + 1)) (lv' := [(0, va_rf (some x)), (1, .int p1), (2, .int (p2 + 0)), (3, .int (p3 + 1))]) (cat_R (cat_I (cat_I (cat_I cat_nil)))) dX0_dutyMinutes_42 (k0 := 3) rfl rfl (by decide) rfl [1, 2, 3, 0] rfl ?_
      refine g_goto 9 dX0_dutyMinutes_45 (by decide) ?_
      exact F
    · have F := F.2 h16
      refine g_aload_n dX0_dutyMinutes_28 rfl 0 rfl ?_
      refine g_iload_n dX0_dutyMinutes_29 rfl 3 rfl ?_
      refine h_callVR (ci := 0) (C := RX0) (T := TX0) (N := 25) (As := [.int p3]) (rest := [.int p2]) F 1 rfl rfl (lw_V q1162 q1164 qs21 q108 q1165) vm_X0_at (by decide) rfl c4 rfl (room_of (sc_I sc_nil) (Nat.le_of_ble_eq_true rfl)) dX0_dutyMinutes_30 (fun r9 Gr9 br9 sr9 F => ?_)
      obtain ⟨a12, e13, F⟩ := F
      obtain ⟨c14, F⟩ := F
      refine h_callDI (ci := 3) (x := ⟨"CrewPairer$Leg", "length", "()I"⟩) (C := RX4) (T := TX4) (N := 5) (As := []) (rest := [.int p2]) F 0 rfl rfl (by decide +kernel) (by decide +kernel) (by decide +kernel) (by decide +kernel) q1188 q142 q1190 vm_X8_length.2 (by decide) e13 c14 rfl (room_of (sc_I sc_nil) (Nat.le_of_ble_eq_true rfl)) dX0_dutyMinutes_33 (fun r11 Gr11 br11 sr11 F => ?_)
      refine g_goto 40 dX0_dutyMinutes_36 (by decide) ?_
      refine g_iadd dX0_dutyMinutes_40 ?_
      refine s_istore_n (lv' := [(0, va_rf (some x)), (1, .int p1), (2, .int (p2 + r11)), (3, .int p3)]) (cat_R (cat_I (cat_I (cat_I cat_nil)))) dX0_dutyMinutes_41 rfl (by decide) rfl [1, 2, 0, 3] rfl ?_
      refine s_iinc (v := (p3 + 1)) (lv' := [(0, va_rf (some x)), (1, .int p1), (2, .int (p2 + r11)), (3, .int (p3 + 1))]) (cat_R (cat_I (cat_I (cat_I cat_nil)))) dX0_dutyMinutes_42 (k0 := 3) rfl rfl (by decide) rfl [1, 2, 3, 0] rfl ?_
      refine g_goto 9 dX0_dutyMinutes_45 (by decide) ?_
      exact F
theorem rX0_rowWithin_0 {Γ : GE} {l : Launch} {h MC MS : Nat} {Q : Option Value → GH → Prop} {bc bs : Nat} {G : GH} (x : Nat) (p1 : Int32) (p2 : Int32) (F : (GW Γ l mX0_rowWithin h MC MS Q 5 [(0, va_rf (some x)), (1, .int p1), (2, .int p2), (3, .int 0), (4, .int 0)] [] G bc bs)) : GW Γ l mX0_rowWithin h MC MS Q 0 [(0, va_rf (some x)), (1, .int p1), (2, .int p2)] [] G bc bs := by
  refine g_iconst (v := 0) dX0_rowWithin_0 (by decide) ?_
  refine s_istore_n (lv' := [(0, va_rf (some x)), (1, .int p1), (2, .int p2), (3, .int 0)]) (cat_R (cat_I (cat_I cat_nil))) dX0_rowWithin_1 rfl (by decide) rfl [1, 2, 3, 0] rfl ?_
  refine g_iconst (v := 0) dX0_rowWithin_2 (by decide) ?_
  refine s_istore (lv' := [(0, va_rf (some x)), (1, .int p1), (2, .int p2), (3, .int 0), (4, .int 0)]) (cat_R (cat_I (cat_I (cat_I cat_nil)))) dX0_rowWithin_3 (by decide) rfl [1, 2, 3, 4, 0] rfl ?_
  exact F
theorem rX0_rowWithin_5 {Γ : GE} {l : Launch} {h MC MS : Nat} {Q : Option Value → GH → Prop} {bc bs : Nat} {G : GH} (x : Nat) (p1 : Int32) (p2 : Int32) (p3 : Int32) (p4 : Int32) (F : (gC G x = kO 0 ∧ (((gI G x 8) ≤ p4 → (Q (some (.int p3)) G)) ∧ (¬ (gI G x 8) ≤ p4 → (∃ a2, (gR G x 7) = some a2 ∧ gC G a2 = kA 1 ∧ vp_in p4 (gL G a2) ∧ (((gI G a2 p4.toNatClampNeg) = 0 → (GW Γ l mX0_rowWithin h MC MS Q 5 [(0, va_rf (some x)), (1, .int p1), (2, .int p2), (3, .int (p3 + 0)), (4, .int (p4 + 1))] [] G bc bs)) ∧ (¬ (gI G a2 p4.toNatClampNeg) = 0 → (cR Γ l h mX0_at [.ref x, .int p4] G bc bs fun r6 Gr6 br6 sr6 => ∃ a9, r6 = some a9 ∧ gC Gr6 a9 = kO 3 ∧ cI Γ l h mX8_within [.ref a9, .int p1, .int (p1 + p2)] Gr6 br6 sr6 fun r8 Gr8 br8 sr8 => GW Γ l mX0_rowWithin h MC MS Q 5 [(0, va_rf (some x)), (1, .int p1), (2, .int p2), (3, .int (p3 + r8)), (4, .int (p4 + 1))] [] Gr8 br8 sr8)))))))) : GW Γ l mX0_rowWithin h MC MS Q 5 [(0, va_rf (some x)), (1, .int p1), (2, .int p2), (3, .int p3), (4, .int p4)] [] G bc bs := by
  refine g_iload dX0_rowWithin_5 4 rfl ?_
  refine g_aload_n dX0_rowWithin_7 rfl 0 rfl ?_
  obtain ⟨c1, F⟩ := F
  refine h_get (v := .int (gI G x 8)) 0 8 (C := RX0) (T := TX0) (N := 25) rfl in_X0 (by decide) q245 (Or.inl rfl) rfl c1 rfl dX0_rowWithin_8 ?_
  refine g_icmp_ge 50 dX0_rowWithin_11 (by decide) (fun h14 => ?_) (fun h14 => ?_)
  · have F := F.1 h14
    refine g_iload_n dX0_rowWithin_50 rfl 3 rfl ?_
    exact g_iret rfl dX0_rowWithin_51 F
  · have F := F.2 h14
    refine g_iload_n dX0_rowWithin_14 rfl 3 rfl ?_
    refine g_aload_n dX0_rowWithin_15 rfl 0 rfl ?_
    refine h_get (v := va_rf (gR G x 7)) 0 7 (C := RX0) (T := TX0) (N := 25) rfl in_X0 (by decide) q244 (Or.inl rfl) rfl c1 rfl dX0_rowWithin_16 ?_
    refine g_iload dX0_rowWithin_19 4 rfl ?_
    obtain ⟨a2, e3, F⟩ := F
    obtain ⟨c4, F⟩ := F
    obtain ⟨k5, F⟩ := F
    refine h_zald e3 c4 k5 dX0_rowWithin_21 ?_
    refine g_if_eq 41 dX0_rowWithin_22 (by decide) (fun h13 => ?_) (fun h13 => ?_)
    · have F := F.1 h13
      refine g_iconst (v := 0) dX0_rowWithin_41 (by decide) ?_
      refine g_iadd dX0_rowWithin_42 ?_
      refine s_istore_n (lv' := [(0, va_rf (some x)), (1, .int p1), (2, .int p2), (3, .int (p3 + 0)), (4, .int p4)]) (cat_R (cat_I (cat_I (cat_I (cat_I cat_nil))))) dX0_rowWithin_43 rfl (by decide) rfl [1, 2, 3, 0, 4] rfl ?_
      refine s_iinc (v := (p4 + 1)) (lv' := [(0, va_rf (some x)), (1, .int p1), (2, .int p2), (3, .int (p3 + 0)), (4, .int (p4 + 1))]) (cat_R (cat_I (cat_I (cat_I (cat_I cat_nil))))) dX0_rowWithin_44 (k0 := 4) rfl rfl (by decide) rfl [1, 2, 3, 4, 0] rfl ?_
      refine g_goto 5 dX0_rowWithin_47 (by decide) ?_
      exact F
    · have F := F.2 h13
      refine g_aload_n dX0_rowWithin_25 rfl 0 rfl ?_
      refine g_iload dX0_rowWithin_26 4 rfl ?_
      refine h_callVR (ci := 0) (C := RX0) (T := TX0) (N := 25) (As := [.int p4]) (rest := [.int p3]) F 1 rfl rfl (lw_V q1162 q1164 qs21 q108 q1165) vm_X0_at (by decide) rfl c1 rfl (room_of (sc_I sc_nil) (Nat.le_of_ble_eq_true rfl)) dX0_rowWithin_28 (fun r6 Gr6 br6 sr6 F => ?_)
      refine g_iload_n dX0_rowWithin_31 rfl 1 rfl ?_
      refine g_iload_n dX0_rowWithin_32 rfl 1 rfl ?_
      refine g_iload_n dX0_rowWithin_33 rfl 2 rfl ?_
      refine g_iadd dX0_rowWithin_34 ?_
      obtain ⟨a9, e10, F⟩ := F
      obtain ⟨c11, F⟩ := F
      refine h_callDI (ci := 3) (x := ⟨"CrewPairer$Leg", "within", "(II)I"⟩) (C := RX4) (T := TX4) (N := 5) (As := [.int p1, .int (p1 + p2)]) (rest := [.int p3]) F 2 rfl rfl (by decide +kernel) (by decide +kernel) (by decide +kernel) (by decide +kernel) q1216 q142 q1218 vm_X8_within.2 (by decide) e10 c11 rfl (room_of (sc_I sc_nil) (Nat.le_of_ble_eq_true rfl)) dX0_rowWithin_35 (fun r8 Gr8 br8 sr8 F => ?_)
      refine g_goto 42 dX0_rowWithin_38 (by decide) ?_
      refine g_iadd dX0_rowWithin_42 ?_
      refine s_istore_n (lv' := [(0, va_rf (some x)), (1, .int p1), (2, .int p2), (3, .int (p3 + r8)), (4, .int p4)]) (cat_R (cat_I (cat_I (cat_I (cat_I cat_nil))))) dX0_rowWithin_43 rfl (by decide) rfl [1, 2, 3, 0, 4] rfl ?_
      refine s_iinc (v := (p4 + 1)) (lv' := [(0, va_rf (some x)), (1, .int p1), (2, .int p2), (3, .int (p3 + r8)), (4, .int (p4 + 1))]) (cat_R (cat_I (cat_I (cat_I (cat_I cat_nil))))) dX0_rowWithin_44 (k0 := 4) rfl rfl (by decide) rfl [1, 2, 3, 4, 0] rfl ?_
      refine g_goto 5 dX0_rowWithin_47 (by decide) ?_
      exact F
theorem rX0_storeRow_0 {Γ : GE} {l : Launch} {h MC MS : Nat} {Q : Option Value → GH → Prop} {bc bs : Nat} {G : GH} (x : Nat) (p1 : Int32) (F : (gC G x = kO 0 ∧ cR Γ l h mX0_crewOf [.ref x, .int p1] G bc bs fun r1 Gr1 br1 sr1 => gC Gr1 x = kO 0 ∧ ∃ a5, r1 = some a5 ∧ gC Gr1 a5 = kO 4 ∧ gM Gr1 a5 = true ∧ ∃ a9, (gR (sI Gr1 a5 3 (gI Gr1 x 8)) x 5) = some a9 ∧ gC (sI Gr1 a5 3 (gI Gr1 x 8)) a9 = kA 0 ∧ gM (sI Gr1 a5 3 (gI Gr1 x 8)) a9 = true ∧ ∃ a13, (gR (sI Gr1 a5 3 (gI Gr1 x 8)) a5 1) = some a13 ∧ gC (sI Gr1 a5 3 (gI Gr1 x 8)) a13 = kA 0 ∧ gM (sI Gr1 a5 3 (gI Gr1 x 8)) a13 = true ∧ ¬ (gI (sI Gr1 a5 3 (gI Gr1 x 8)) x 8) < 0 ∧ (0 : Int32).toNatClampNeg + (gI (sI Gr1 a5 3 (gI Gr1 x 8)) x 8).toNatClampNeg ≤ gL (sI Gr1 a5 3 (gI Gr1 x 8)) a9 ∧ (0 : Int32).toNatClampNeg + (gI (sI Gr1 a5 3 (gI Gr1 x 8)) x 8).toNatClampNeg ≤ gL (sI Gr1 a5 3 (gI Gr1 x 8)) a13 ∧ 0 < h ∧ ∀ H21, H21 = (wI (sI Gr1 a5 3 (gI Gr1 x 8)) a13 (va_cpy (gI (sI Gr1 a5 3 (gI Gr1 x 8)) a9) (gI (sI Gr1 a5 3 (gI Gr1 x 8)) a13) (0 : Int32).toNatClampNeg (0 : Int32).toNatClampNeg (gI (sI Gr1 a5 3 (gI Gr1 x 8)) x 8).toNatClampNeg)) → gC H21 x = kO 0 ∧ gC H21 a5 = kO 4 ∧ gM H21 a5 = true ∧ ∃ a27, (gR H21 x 7) = some a27 ∧ gC H21 a27 = kA 1 ∧ gM H21 a27 = true ∧ ∃ a31, (gR H21 a5 2) = some a31 ∧ gC H21 a31 = kA 1 ∧ gM H21 a31 = true ∧ ¬ (gI H21 x 8) < 0 ∧ (0 : Int32).toNatClampNeg + (gI H21 x 8).toNatClampNeg ≤ gL H21 a27 ∧ (0 : Int32).toNatClampNeg + (gI H21 x 8).toNatClampNeg ≤ gL H21 a31 ∧ (∀ i, i < (gI H21 x 8).toNatClampNeg → fits (gtyq 1) (.int (gI H21 a27 ((0 : Int32).toNatClampNeg + i))) = true) ∧ 0 < h ∧ ∀ H40, H40 = (wI H21 a31 (va_cpy (gI H21 a27) (gI H21 a31) (0 : Int32).toNatClampNeg (0 : Int32).toNatClampNeg (gI H21 x 8).toNatClampNeg)) → Q none H40)) : GW Γ l mX0_storeRow h MC MS Q 0 [(0, va_rf (some x)), (1, .int p1)] [] G bc bs := by
  refine g_aload_n dX0_storeRow_0 rfl 0 rfl ?_
  refine g_iload_n dX0_storeRow_1 rfl 1 rfl ?_
  obtain ⟨c2, F⟩ := F
  refine h_callVR (ci := 0) (C := RX0) (T := TX0) (N := 25) (As := [.int p1]) (rest := []) F 1 rfl rfl (lw_V q1092 q1094 qs9 q108 q1095) vm_X0_crewOf (by decide) rfl c2 rfl (room_of sc_nil (Nat.le_of_ble_eq_true rfl)) dX0_storeRow_2 (fun r1 Gr1 br1 sr1 F => ?_)
  refine s_astore_n (lv' := [(0, va_rf (some x)), (1, .int p1), (2, va_rf r1)]) (cat_R (cat_I cat_nil)) dX0_storeRow_5 rfl (by decide) rfl [1, 2, 0] rfl ?_
  refine g_aload_n dX0_storeRow_6 rfl 2 rfl ?_
  refine g_aload_n dX0_storeRow_7 rfl 0 rfl ?_
  obtain ⟨c4, F⟩ := F
  refine h_get (v := .int (gI Gr1 x 8)) 0 8 (C := RX0) (T := TX0) (N := 25) rfl in_X0 (by decide) q245 (Or.inl rfl) rfl c4 rfl dX0_storeRow_8 ?_
  obtain ⟨a5, e6, F⟩ := F
  obtain ⟨c7, F⟩ := F
  obtain ⟨m8, F⟩ := F
  refine h_putIN (host := "CrewPairer") (mi := mX0_storeRow) 4 3 (C := RX5) (T := TX5) (N := 6) rfl in_X5 tyX5_ok nmX5 (by decide) (by decide +kernel) rfl rfl rfl e6 c7 m8 rfl rfl dX0_storeRow_11 ?_
  refine g_aload_n dX0_storeRow_14 rfl 0 rfl ?_
  refine h_get (v := va_rf (gR (sI Gr1 a5 3 (gI Gr1 x 8)) x 5)) 0 5 (C := RX0) (T := TX0) (N := 25) rfl in_X0 (by decide) q242 (Or.inl rfl) rfl c4 rfl dX0_storeRow_15 ?_
  refine g_iconst (v := 0) dX0_storeRow_18 (by decide) ?_
  refine g_aload_n dX0_storeRow_19 rfl 2 rfl ?_
  refine h_getN (host := "CrewPairer") (v := va_rf (gR (sI Gr1 a5 3 (gI Gr1 x 8)) a5 1)) 4 1 (C := RX5) (T := TX5) (N := 6) rfl in_X5 (by decide) (by decide +kernel) rfl e6 c7 m8 rfl dX0_storeRow_20 ?_
  refine g_iconst (v := 0) dX0_storeRow_23 (by decide) ?_
  refine g_aload_n dX0_storeRow_24 rfl 0 rfl ?_
  refine h_get (v := .int (gI (sI Gr1 a5 3 (gI Gr1 x 8)) x 8)) 0 8 (C := RX0) (T := TX0) (N := 25) rfl in_X0 (by decide) q245 (Or.inl rfl) rfl c4 rfl dX0_storeRow_25 ?_
  obtain ⟨a9, e10, F⟩ := F
  obtain ⟨c11, F⟩ := F
  obtain ⟨m12, F⟩ := F
  obtain ⟨a13, e14, F⟩ := F
  obtain ⟨c15, F⟩ := F
  obtain ⟨m16, F⟩ := F
  obtain ⟨k17, F⟩ := F
  obtain ⟨k18, F⟩ := F
  obtain ⟨k19, F⟩ := F
  obtain ⟨k20, F⟩ := F
  refine h_copyi 0 (by decide) q493 q439 q438 q118 e10 c11 m12 e14 c15 m16 (by decide) (by decide) k17 k18 k19 (fun _ _ => rfl) k20 (room_of sc_nil (Nat.le_of_ble_eq_true rfl)) dX0_storeRow_28 ?_
  obtain ⟨H21, h22⟩ : ∃ g : GH, g = (wI (sI Gr1 a5 3 (gI Gr1 x 8)) a13 (va_cpy (gI (sI Gr1 a5 3 (gI Gr1 x 8)) a9) (gI (sI Gr1 a5 3 (gI Gr1 x 8)) a13) (0 : Int32).toNatClampNeg (0 : Int32).toNatClampNeg (gI (sI Gr1 a5 3 (gI Gr1 x 8)) x 8).toNatClampNeg)) := ⟨_, rfl⟩
  rw [← h22]
  have F := F H21 h22
  refine g_aload_n dX0_storeRow_31 rfl 0 rfl ?_
  obtain ⟨c24, F⟩ := F
  refine h_get (v := va_rf (gR H21 x 7)) 0 7 (C := RX0) (T := TX0) (N := 25) rfl in_X0 (by decide) q244 (Or.inl rfl) rfl c24 rfl dX0_storeRow_32 ?_
  refine g_iconst (v := 0) dX0_storeRow_35 (by decide) ?_
  refine g_aload_n dX0_storeRow_36 rfl 2 rfl ?_
  obtain ⟨c25, F⟩ := F
  obtain ⟨m26, F⟩ := F
  refine h_getN (host := "CrewPairer") (v := va_rf (gR H21 a5 2)) 4 2 (C := RX5) (T := TX5) (N := 6) rfl in_X5 (by decide) (by decide +kernel) rfl e6 c25 m26 rfl dX0_storeRow_37 ?_
  refine g_iconst (v := 0) dX0_storeRow_40 (by decide) ?_
  refine g_aload_n dX0_storeRow_41 rfl 0 rfl ?_
  refine h_get (v := .int (gI H21 x 8)) 0 8 (C := RX0) (T := TX0) (N := 25) rfl in_X0 (by decide) q245 (Or.inl rfl) rfl c24 rfl dX0_storeRow_42 ?_
  obtain ⟨a27, e28, F⟩ := F
  obtain ⟨c29, F⟩ := F
  obtain ⟨m30, F⟩ := F
  obtain ⟨a31, e32, F⟩ := F
  obtain ⟨c33, F⟩ := F
  obtain ⟨m34, F⟩ := F
  obtain ⟨k35, F⟩ := F
  obtain ⟨k36, F⟩ := F
  obtain ⟨k37, F⟩ := F
  obtain ⟨k38, F⟩ := F
  obtain ⟨k39, F⟩ := F
  refine h_copyi 1 (by decide) q493 q439 q438 q118 e28 c29 m30 e32 c33 m34 (by decide) (by decide) k35 k36 k37 k38 k39 (room_of sc_nil (Nat.le_of_ble_eq_true rfl)) dX0_storeRow_45 ?_
  obtain ⟨H40, h41⟩ : ∃ g : GH, g = (wI H21 a31 (va_cpy (gI H21 a27) (gI H21 a31) (0 : Int32).toNatClampNeg (0 : Int32).toNatClampNeg (gI H21 x 8).toNatClampNeg)) := ⟨_, rfl⟩
  rw [← h41]
  have F := F H40 h41
  exact g_vret rfl dX0_storeRow_48 F
theorem rX0_ride_0 {Γ : GE} {l : Launch} {h MC MS : Nat} {Q : Option Value → GH → Prop} {bc bs : Nat} {G : GH} (x : Nat) (p1 : Int32) (p2 : Int32) (F : (gC G x = kO 0 ∧ cI Γ l h mX0_take [.ref x, .int p1, .int p2, .int 0] G bc bs fun r1 Gr1 br1 sr1 => Q (some (.int r1)) Gr1)) : GW Γ l mX0_ride h MC MS Q 0 [(0, va_rf (some x)), (1, .int p1), (2, .int p2)] [] G bc bs := by
  refine g_aload_n dX0_ride_0 rfl 0 rfl ?_
  refine g_iload_n dX0_ride_1 rfl 1 rfl ?_
  refine g_iload_n dX0_ride_2 rfl 2 rfl ?_
  refine g_iconst (v := 0) dX0_ride_3 (by decide) ?_
  obtain ⟨c2, F⟩ := F
  refine h_callVI (ci := 0) (C := RX0) (T := TX0) (N := 25) (As := [.int p1, .int p2, .int 0]) (rest := []) F 3 rfl rfl (lw_V q1118 q1120 qs10 q108 q1121) vm_X0_take (by decide) rfl c2 rfl (room_of sc_nil (Nat.le_of_ble_eq_true rfl)) dX0_ride_4 (fun r1 Gr1 br1 sr1 F => ?_)
  exact g_iret rfl dX0_ride_7 F
theorem rX0_drop_0 {Γ : GE} {l : Launch} {h MC MS : Nat} {Q : Option Value → GH → Prop} {bc bs : Nat} {G : GH} (x : Nat) (p1 : Int32) (p2 : Int32) (F : (gC G x = kO 0 ∧ cI Γ l h mX0_isCrew [.ref x, .int p1] G bc bs fun r1 Gr1 br1 sr1 => ((r1 = 0 → (Q (some (.int (-1))) Gr1)) ∧ (¬ r1 = 0 → (gC Gr1 x = kO 0 ∧ cI Γ l h mX0_isLeg [.ref x, .int p2] Gr1 br1 sr1 fun r4 Gr4 br4 sr4 => ((¬ r4 = 0 → (gC Gr4 x = kO 0 ∧ cR Γ l h mX0_crewOf [.ref x, .int p1] Gr4 br4 sr4 fun r7 Gr7 br7 sr7 => ∃ a11, r7 = some a11 ∧ gC Gr7 a11 = kO 4 ∧ cI Γ l h mX5_find [.ref a11, .int p2] Gr7 br7 sr7 fun r10 Gr10 br10 sr10 => (((0 : Int32) ≤ r10 → (gC Gr10 x = kO 0 ∧ cV Γ l h mX0_beginChange [.ref x] Gr10 br10 sr10 fun Gr15 br15 sr15 => gC Gr15 x = kO 0 ∧ cR Γ l h mX0_crewOf [.ref x, .int p1] Gr15 br15 sr15 fun r18 Gr18 br18 sr18 => ∃ a22, r18 = some a22 ∧ gC Gr18 a22 = kO 4 ∧ cI Γ l h mX5_find [.ref a22, .int p2] Gr18 br18 sr18 fun r21 Gr21 br21 sr21 => gC Gr21 a22 = kO 4 ∧ cV Γ l h mX5_removeAt [.ref a22, .int r21] Gr21 br21 sr21 fun Gr26 br26 sr26 => gC Gr26 a22 = kO 4 ∧ gM Gr26 a22 = true ∧ Q (some (.int (gI Gr26 a22 3))) Gr26)) ∧ (¬ (0 : Int32) ≤ r10 → (Q (some (.int (-2))) Gr10))))) ∧ (r4 = 0 → (Q (some (.int (-1))) Gr4)))))))) : GW Γ l mX0_drop h MC MS Q 0 [(0, va_rf (some x)), (1, .int p1), (2, .int p2)] [] G bc bs := by
  refine g_aload_n dX0_drop_0 rfl 0 rfl ?_
  refine g_iload_n dX0_drop_1 rfl 1 rfl ?_
  obtain ⟨c2, F⟩ := F
  refine h_callVI (ci := 0) (C := RX0) (T := TX0) (N := 25) (As := [.int p1]) (rest := []) F 1 rfl rfl (lw_V q1122 q1124 qs11 q108 q1125) vm_X0_isCrew (by decide) rfl c2 rfl (room_of sc_nil (Nat.le_of_ble_eq_true rfl)) dX0_drop_2 (fun r1 Gr1 br1 sr1 F => ?_)
  refine g_if_eq 16 dX0_drop_5 (by decide) (fun h33 => ?_) (fun h33 => ?_)
  · have F := F.1 h33
    refine g_iconst (v := (-1)) dX0_drop_16 (by decide) ?_
    exact g_iret rfl dX0_drop_17 F
  · have F := F.2 h33
    refine g_aload_n dX0_drop_8 rfl 0 rfl ?_
    refine g_iload_n dX0_drop_9 rfl 2 rfl ?_
    obtain ⟨c5, F⟩ := F
    refine h_callVI (ci := 0) (C := RX0) (T := TX0) (N := 25) (As := [.int p2]) (rest := []) F 1 rfl rfl (lw_V q1084 q1086 qs7 q108 q1087) vm_X0_isLeg (by decide) rfl c5 rfl (room_of sc_nil (Nat.le_of_ble_eq_true rfl)) dX0_drop_10 (fun r4 Gr4 br4 sr4 F => ?_)
    refine g_if_ne 18 dX0_drop_13 (by decide) (fun h32 => ?_) (fun h32 => ?_)
    · have F := F.1 h32
      refine g_aload_n dX0_drop_18 rfl 0 rfl ?_
      refine g_iload_n dX0_drop_19 rfl 1 rfl ?_
      obtain ⟨c8, F⟩ := F
      refine h_callVR (ci := 0) (C := RX0) (T := TX0) (N := 25) (As := [.int p1]) (rest := []) F 1 rfl rfl (lw_V q1092 q1094 qs9 q108 q1095) vm_X0_crewOf (by decide) rfl c8 rfl (room_of sc_nil (Nat.le_of_ble_eq_true rfl)) dX0_drop_20 (fun r7 Gr7 br7 sr7 F => ?_)
      refine g_iload_n dX0_drop_23 rfl 2 rfl ?_
      obtain ⟨a11, e12, F⟩ := F
      obtain ⟨c13, F⟩ := F
      refine h_callVI (ci := 4) (C := RX5) (T := TX5) (N := 6) (As := [.int p2]) (rest := []) F 1 rfl rfl (lw_V q1096 q1097 q1098 q139 q1099) vm_X5_find (by decide) e12 c13 rfl (room_of sc_nil (Nat.le_of_ble_eq_true rfl)) dX0_drop_24 (fun r10 Gr10 br10 sr10 F => ?_)
      refine g_if_ge 33 dX0_drop_27 (by decide) (fun h31 => ?_) (fun h31 => ?_)
      · have F := F.1 h31
        refine g_aload_n dX0_drop_33 rfl 0 rfl ?_
        obtain ⟨c16, F⟩ := F
        refine h_callVV (ci := 0) (C := RX0) (T := TX0) (N := 25) (As := []) (rest := []) F 0 rfl rfl (lw_V q485 q487 qs3 q108 q488) vm_X0_beginChange (by decide) rfl c16 rfl (room_of sc_nil (Nat.le_of_ble_eq_true rfl)) dX0_drop_34 (fun Gr15 br15 sr15 F => ?_)
        refine g_aload_n dX0_drop_37 rfl 0 rfl ?_
        refine g_iload_n dX0_drop_38 rfl 1 rfl ?_
        obtain ⟨c19, F⟩ := F
        refine h_callVR (ci := 0) (C := RX0) (T := TX0) (N := 25) (As := [.int p1]) (rest := []) F 1 rfl rfl (lw_V q1092 q1094 qs9 q108 q1095) vm_X0_crewOf (by decide) rfl c19 rfl (room_of sc_nil (Nat.le_of_ble_eq_true rfl)) dX0_drop_39 (fun r18 Gr18 br18 sr18 F => ?_)
        refine s_astore_n (lv' := [(0, va_rf (some x)), (1, .int p1), (2, .int p2), (3, va_rf r18)]) (cat_R (cat_I (cat_I cat_nil))) dX0_drop_42 rfl (by decide) rfl [1, 2, 3, 0] rfl ?_
        refine g_aload_n dX0_drop_43 rfl 3 rfl ?_
        refine g_aload_n dX0_drop_44 rfl 3 rfl ?_
        refine g_iload_n dX0_drop_45 rfl 2 rfl ?_
        obtain ⟨a22, e23, F⟩ := F
        obtain ⟨c24, F⟩ := F
        refine h_callVI (ci := 4) (C := RX5) (T := TX5) (N := 6) (As := [.int p2]) (rest := [va_rf r18]) F 1 rfl rfl (lw_V q1096 q1097 q1098 q139 q1099) vm_X5_find (by decide) e23 c24 rfl (room_of (sc_R sc_nil) (Nat.le_of_ble_eq_true rfl)) dX0_drop_46 (fun r21 Gr21 br21 sr21 F => ?_)
        obtain ⟨c27, F⟩ := F
        refine h_callVV (ci := 4) (C := RX5) (T := TX5) (N := 6) (As := [.int r21]) (rest := []) F 1 rfl rfl (lw_V q1233 q1234 q1235 q139 q1236) vm_X5_removeAt (by decide) e23 c27 rfl (room_of sc_nil (Nat.le_of_ble_eq_true rfl)) dX0_drop_49 (fun Gr26 br26 sr26 F => ?_)
        refine g_aload_n dX0_drop_52 rfl 3 rfl ?_
        obtain ⟨c29, F⟩ := F
        obtain ⟨m30, F⟩ := F
        refine h_getN (host := "CrewPairer") (v := .int (gI Gr26 a22 3)) 4 3 (C := RX5) (T := TX5) (N := 6) rfl in_X5 (by decide) (by decide +kernel) rfl e23 c29 m30 rfl dX0_drop_53 ?_
        exact g_iret rfl dX0_drop_56 F
      · have F := F.2 h31
        refine g_bipush (v := (-2)) dX0_drop_30 (by decide) ?_
        exact g_iret rfl dX0_drop_32 F
    · have F := F.2 h32
      refine g_iconst (v := (-1)) dX0_drop_16 (by decide) ?_
      exact g_iret rfl dX0_drop_17 F
theorem rX0_reason_0 {Γ : GE} {l : Launch} {h MC MS : Nat} {Q : Option Value → GH → Prop} {bc bs : Nat} {G : GH} (x : Nat) (p1 : Int32) (p2 : Int32) (p3 : Int32) (F : (gC G x = kO 0 ∧ cI Γ l h mX0_isCrew [.ref x, .int p1] G bc bs fun r1 Gr1 br1 sr1 => ((r1 = 0 → (Q (some (.int (-1))) Gr1)) ∧ (¬ r1 = 0 → (gC Gr1 x = kO 0 ∧ cI Γ l h mX0_isLeg [.ref x, .int p2] Gr1 br1 sr1 fun r4 Gr4 br4 sr4 => ((r4 = 0 → (Q (some (.int (-1))) Gr4)) ∧ (¬ r4 = 0 → (gC Gr4 x = kO 0 ∧ cI Γ l h mX0_reasonOf [.ref x, .int p1, .int p2, .int p3] Gr4 br4 sr4 fun r7 Gr7 br7 sr7 => Q (some (.int r7)) Gr7)))))))) : GW Γ l mX0_reason h MC MS Q 0 [(0, va_rf (some x)), (1, .int p1), (2, .int p2), (3, .int p3)] [] G bc bs := by
  refine g_aload_n dX0_reason_0 rfl 0 rfl ?_
  refine g_iload_n dX0_reason_1 rfl 1 rfl ?_
  obtain ⟨c2, F⟩ := F
  refine h_callVI (ci := 0) (C := RX0) (T := TX0) (N := 25) (As := [.int p1]) (rest := []) F 1 rfl rfl (lw_V q1122 q1124 qs11 q108 q1125) vm_X0_isCrew (by decide) rfl c2 rfl (room_of sc_nil (Nat.le_of_ble_eq_true rfl)) dX0_reason_2 (fun r1 Gr1 br1 sr1 F => ?_)
  refine g_if_eq 26 dX0_reason_5 (by decide) (fun h11 => ?_) (fun h11 => ?_)
  · have F := F.1 h11
    refine g_iconst (v := (-1)) dX0_reason_26 (by decide) ?_
    exact g_iret rfl dX0_reason_27 F
  · have F := F.2 h11
    refine g_aload_n dX0_reason_8 rfl 0 rfl ?_
    refine g_iload_n dX0_reason_9 rfl 2 rfl ?_
    obtain ⟨c5, F⟩ := F
    refine h_callVI (ci := 0) (C := RX0) (T := TX0) (N := 25) (As := [.int p2]) (rest := []) F 1 rfl rfl (lw_V q1084 q1086 qs7 q108 q1087) vm_X0_isLeg (by decide) rfl c5 rfl (room_of sc_nil (Nat.le_of_ble_eq_true rfl)) dX0_reason_10 (fun r4 Gr4 br4 sr4 F => ?_)
    refine g_if_eq 26 dX0_reason_13 (by decide) (fun h10 => ?_) (fun h10 => ?_)
    · have F := F.1 h10
      refine g_iconst (v := (-1)) dX0_reason_26 (by decide) ?_
      exact g_iret rfl dX0_reason_27 F
    · have F := F.2 h10
      refine g_aload_n dX0_reason_16 rfl 0 rfl ?_
      refine g_iload_n dX0_reason_17 rfl 1 rfl ?_
      refine g_iload_n dX0_reason_18 rfl 2 rfl ?_
      refine g_iload_n dX0_reason_19 rfl 3 rfl ?_
      obtain ⟨c8, F⟩ := F
      refine h_callVI (ci := 0) (C := RX0) (T := TX0) (N := 25) (As := [.int p1, .int p2, .int p3]) (rest := []) F 3 rfl rfl (lw_V q1126 q1128 qs12 q108 q1129) vm_X0_reasonOf (by decide) rfl c8 rfl (room_of sc_nil (Nat.le_of_ble_eq_true rfl)) dX0_reason_20 (fun r7 Gr7 br7 sr7 F => ?_)
      refine g_goto 27 dX0_reason_23 (by decide) ?_
      exact g_iret rfl dX0_reason_27 F
theorem rX0_place_0 {Γ : GE} {l : Launch} {h MC MS : Nat} {Q : Option Value → GH → Prop} {bc bs : Nat} {G : GH} (x : Nat) (p1 : Int32) (p2 : Int32) (p3 : Int32) (F : (gC G x = kO 0 ∧ cI Γ l h mX0_isCrew [.ref x, .int p1] G bc bs fun r1 Gr1 br1 sr1 => ((r1 = 0 → (Q (some (.int (-1))) Gr1)) ∧ (¬ r1 = 0 → (gC Gr1 x = kO 0 ∧ cI Γ l h mX0_isLeg [.ref x, .int p2] Gr1 br1 sr1 fun r4 Gr4 br4 sr4 => ((¬ r4 = 0 → (gC Gr4 x = kO 0 ∧ cI Γ l h mX0_reasonOf [.ref x, .int p1, .int p2, .int p3] Gr4 br4 sr4 fun r7 Gr7 br7 sr7 => cI Γ l h mX0_isBetween [.int r7, .int 1, .int 7] Gr7 br7 sr7 fun r10 Gr10 br10 sr10 => ((r10 = 0 → (Q (some (.int (-2))) Gr10)) ∧ (¬ r10 = 0 → (gC Gr10 x = kO 0 ∧ Q (some (.int (gI Gr10 x 12))) Gr10))))) ∧ (r4 = 0 → (Q (some (.int (-1))) Gr4)))))))) : GW Γ l mX0_place h MC MS Q 0 [(0, va_rf (some x)), (1, .int p1), (2, .int p2), (3, .int p3)] [] G bc bs := by
  refine g_aload_n dX0_place_0 rfl 0 rfl ?_
  refine g_iload_n dX0_place_1 rfl 1 rfl ?_
  obtain ⟨c2, F⟩ := F
  refine h_callVI (ci := 0) (C := RX0) (T := TX0) (N := 25) (As := [.int p1]) (rest := []) F 1 rfl rfl (lw_V q1122 q1124 qs11 q108 q1125) vm_X0_isCrew (by decide) rfl c2 rfl (room_of sc_nil (Nat.le_of_ble_eq_true rfl)) dX0_place_2 (fun r1 Gr1 br1 sr1 F => ?_)
  refine g_if_eq 16 dX0_place_5 (by decide) (fun h15 => ?_) (fun h15 => ?_)
  · have F := F.1 h15
    refine g_iconst (v := (-1)) dX0_place_16 (by decide) ?_
    exact g_iret rfl dX0_place_17 F
  · have F := F.2 h15
    refine g_aload_n dX0_place_8 rfl 0 rfl ?_
    refine g_iload_n dX0_place_9 rfl 2 rfl ?_
    obtain ⟨c5, F⟩ := F
    refine h_callVI (ci := 0) (C := RX0) (T := TX0) (N := 25) (As := [.int p2]) (rest := []) F 1 rfl rfl (lw_V q1084 q1086 qs7 q108 q1087) vm_X0_isLeg (by decide) rfl c5 rfl (room_of sc_nil (Nat.le_of_ble_eq_true rfl)) dX0_place_10 (fun r4 Gr4 br4 sr4 F => ?_)
    refine g_if_ne 18 dX0_place_13 (by decide) (fun h14 => ?_) (fun h14 => ?_)
    · have F := F.1 h14
      refine g_aload_n dX0_place_18 rfl 0 rfl ?_
      refine g_iload_n dX0_place_19 rfl 1 rfl ?_
      refine g_iload_n dX0_place_20 rfl 2 rfl ?_
      refine g_iload_n dX0_place_21 rfl 3 rfl ?_
      obtain ⟨c8, F⟩ := F
      refine h_callVI (ci := 0) (C := RX0) (T := TX0) (N := 25) (As := [.int p1, .int p2, .int p3]) (rest := []) F 3 rfl rfl (lw_V q1126 q1128 qs12 q108 q1129) vm_X0_reasonOf (by decide) rfl c8 rfl (room_of sc_nil (Nat.le_of_ble_eq_true rfl)) dX0_place_22 (fun r7 Gr7 br7 sr7 F => ?_)
      refine g_iconst (v := 1) dX0_place_25 (by decide) ?_
      refine g_bipush (v := 7) dX0_place_26 (by decide) ?_
      refine h_callSI (As := [.int r7, .int 1, .int 7]) (rest := []) F 3 rfl (lw_S q498 q499 q108 q500) vm_X0_isBetween.2 (by decide) rfl (room_of sc_nil (Nat.le_of_ble_eq_true rfl)) dX0_place_28 (fun r10 Gr10 br10 sr10 F => ?_)
      refine g_if_eq 41 dX0_place_31 (by decide) (fun h13 => ?_) (fun h13 => ?_)
      · have F := F.1 h13
        refine g_bipush (v := (-2)) dX0_place_41 (by decide) ?_
        exact g_iret rfl dX0_place_43 F
      · have F := F.2 h13
        refine g_aload_n dX0_place_34 rfl 0 rfl ?_
        obtain ⟨c12, F⟩ := F
        refine h_get (v := .int (gI Gr10 x 12)) 0 12 (C := RX0) (T := TX0) (N := 25) rfl in_X0 (by decide) q249 (Or.inl rfl) rfl c12 rfl dX0_place_35 ?_
        refine g_goto 43 dX0_place_38 (by decide) ?_
        exact g_iret rfl dX0_place_43 F
    · have F := F.2 h14
      refine g_iconst (v := (-1)) dX0_place_16 (by decide) ?_
      exact g_iret rfl dX0_place_17 F
theorem rX0_itemCount_0 {Γ : GE} {l : Launch} {h MC MS : Nat} {Q : Option Value → GH → Prop} {bc bs : Nat} {G : GH} (x : Nat) (p1 : Int32) (F : (gC G x = kO 0 ∧ cI Γ l h mX0_isCrew [.ref x, .int p1] G bc bs fun r1 Gr1 br1 sr1 => ((r1 = 0 → (Q (some (.int (-1))) Gr1)) ∧ (¬ r1 = 0 → (gC Gr1 x = kO 0 ∧ cR Γ l h mX0_crewOf [.ref x, .int p1] Gr1 br1 sr1 fun r4 Gr4 br4 sr4 => ∃ a7, r4 = some a7 ∧ gC Gr4 a7 = kO 4 ∧ gM Gr4 a7 = true ∧ Q (some (.int (gI Gr4 a7 3))) Gr4))))) : GW Γ l mX0_itemCount h MC MS Q 0 [(0, va_rf (some x)), (1, .int p1)] [] G bc bs := by
  refine g_aload_n dX0_itemCount_0 rfl 0 rfl ?_
  refine g_iload_n dX0_itemCount_1 rfl 1 rfl ?_
  obtain ⟨c2, F⟩ := F
  refine h_callVI (ci := 0) (C := RX0) (T := TX0) (N := 25) (As := [.int p1]) (rest := []) F 1 rfl rfl (lw_V q1122 q1124 qs11 q108 q1125) vm_X0_isCrew (by decide) rfl c2 rfl (room_of sc_nil (Nat.le_of_ble_eq_true rfl)) dX0_itemCount_2 (fun r1 Gr1 br1 sr1 F => ?_)
  refine g_if_eq 19 dX0_itemCount_5 (by decide) (fun h11 => ?_) (fun h11 => ?_)
  · have F := F.1 h11
    refine g_iconst (v := (-1)) dX0_itemCount_19 (by decide) ?_
    exact g_iret rfl dX0_itemCount_20 F
  · have F := F.2 h11
    refine g_aload_n dX0_itemCount_8 rfl 0 rfl ?_
    refine g_iload_n dX0_itemCount_9 rfl 1 rfl ?_
    obtain ⟨c5, F⟩ := F
    refine h_callVR (ci := 0) (C := RX0) (T := TX0) (N := 25) (As := [.int p1]) (rest := []) F 1 rfl rfl (lw_V q1092 q1094 qs9 q108 q1095) vm_X0_crewOf (by decide) rfl c5 rfl (room_of sc_nil (Nat.le_of_ble_eq_true rfl)) dX0_itemCount_10 (fun r4 Gr4 br4 sr4 F => ?_)
    obtain ⟨a7, e8, F⟩ := F
    obtain ⟨c9, F⟩ := F
    obtain ⟨m10, F⟩ := F
    refine h_getN (host := "CrewPairer") (v := .int (gI Gr4 a7 3)) 4 3 (C := RX5) (T := TX5) (N := 6) rfl in_X5 (by decide) (by decide +kernel) rfl e8 c9 m10 rfl dX0_itemCount_13 ?_
    refine g_goto 20 dX0_itemCount_16 (by decide) ?_
    exact g_iret rfl dX0_itemCount_20 F
theorem rX0_item_0 {Γ : GE} {l : Launch} {h MC MS : Nat} {Q : Option Value → GH → Prop} {bc bs : Nat} {G : GH} (x : Nat) (p1 : Int32) (p2 : Int32) (p3 : Int32) (F : (gC G x = kO 0 ∧ cI Γ l h mX0_isCrew [.ref x, .int p1] G bc bs fun r1 Gr1 br1 sr1 => ((r1 = 0 → (Q (some (.int (-1))) Gr1)) ∧ (¬ r1 = 0 → (cI Γ l h mX0_isBetween [.int p3, .int 0, .int 2] Gr1 br1 sr1 fun r4 Gr4 br4 sr4 => ((¬ r4 = 0 → (gC Gr4 x = kO 0 ∧ cV Γ l h mX0_loadRow [.ref x, .int p1] Gr4 br4 sr4 fun Gr6 br6 sr6 => gC Gr6 x = kO 0 ∧ cI Γ l h mX0_isBetween [.int p2, .int 0, .int ((gI Gr6 x 8) - 1)] Gr6 br6 sr6 fun r10 Gr10 br10 sr10 => ((¬ r10 = 0 → (((2 : Int32) ≤ p3 → (gC Gr10 x = kO 0 ∧ cV Γ l h mX0_findDuties [.ref x] Gr10 br10 sr10 fun Gr12 br12 sr12 => gC Gr12 x = kO 0 ∧ GW Γ l mX0_item h MC MS Q 86 [(0, va_rf (some x)), (1, .int p1), (2, .int p2), (3, .int p3), (4, .int ((gI Gr12 x 10) - 1))] [] Gr12 br12 sr12)) ∧ (¬ (2 : Int32) ≤ p3 → ((¬ p3 = 0 → (gC Gr10 x = kO 0 ∧ ∃ a17, (gR Gr10 x 7) = some a17 ∧ gC Gr10 a17 = kA 1 ∧ vp_in p2 (gL Gr10 a17) ∧ (((gI Gr10 a17 p2.toNatClampNeg) = 0 → (Q (some (.int 0)) Gr10)) ∧ (¬ (gI Gr10 a17 p2.toNatClampNeg) = 0 → (Q (some (.int 1)) Gr10))))) ∧ (p3 = 0 → (gC Gr10 x = kO 0 ∧ ∃ a23, (gR Gr10 x 5) = some a23 ∧ gC Gr10 a23 = kA 0 ∧ vp_in p2 (gL Gr10 a23) ∧ Q (some (.int (gI Gr10 a23 p2.toNatClampNeg))) Gr10)))))) ∧ (r10 = 0 → (Q (some (.int (-2))) Gr10))))) ∧ (r4 = 0 → (Q (some (.int (-1))) Gr4)))))))) : GW Γ l mX0_item h MC MS Q 0 [(0, va_rf (some x)), (1, .int p1), (2, .int p2), (3, .int p3)] [] G bc bs := by
  refine g_aload_n dX0_item_0 rfl 0 rfl ?_
  refine g_iload_n dX0_item_1 rfl 1 rfl ?_
  obtain ⟨c2, F⟩ := F
  refine h_callVI (ci := 0) (C := RX0) (T := TX0) (N := 25) (As := [.int p1]) (rest := []) F 1 rfl rfl (lw_V q1122 q1124 qs11 q108 q1125) vm_X0_isCrew (by decide) rfl c2 rfl (room_of sc_nil (Nat.le_of_ble_eq_true rfl)) dX0_item_2 (fun r1 Gr1 br1 sr1 F => ?_)
  refine g_if_eq 17 dX0_item_5 (by decide) (fun h31 => ?_) (fun h31 => ?_)
  · have F := F.1 h31
    refine g_iconst (v := (-1)) dX0_item_17 (by decide) ?_
    exact g_iret rfl dX0_item_18 F
  · have F := F.2 h31
    refine g_iload_n dX0_item_8 rfl 3 rfl ?_
    refine g_iconst (v := 0) dX0_item_9 (by decide) ?_
    refine g_iconst (v := 2) dX0_item_10 (by decide) ?_
    refine h_callSI (As := [.int p3, .int 0, .int 2]) (rest := []) F 3 rfl (lw_S q498 q499 q108 q500) vm_X0_isBetween.2 (by decide) rfl (room_of sc_nil (Nat.le_of_ble_eq_true rfl)) dX0_item_11 (fun r4 Gr4 br4 sr4 F => ?_)
    refine g_if_ne 19 dX0_item_14 (by decide) (fun h30 => ?_) (fun h30 => ?_)
    · have F := F.1 h30
      refine g_aload_n dX0_item_19 rfl 0 rfl ?_
      refine g_iload_n dX0_item_20 rfl 1 rfl ?_
      obtain ⟨c7, F⟩ := F
      refine h_callVV (ci := 0) (C := RX0) (T := TX0) (N := 25) (As := [.int p1]) (rest := []) F 1 rfl rfl (lw_V q1130 q1132 qs13 q108 q1133) vm_X0_loadRow (by decide) rfl c7 rfl (room_of sc_nil (Nat.le_of_ble_eq_true rfl)) dX0_item_21 (fun Gr6 br6 sr6 F => ?_)
      refine g_iload_n dX0_item_24 rfl 2 rfl ?_
      refine g_iconst (v := 0) dX0_item_25 (by decide) ?_
      refine g_aload_n dX0_item_26 rfl 0 rfl ?_
      obtain ⟨c9, F⟩ := F
      refine h_get (v := .int (gI Gr6 x 8)) 0 8 (C := RX0) (T := TX0) (N := 25) rfl in_X0 (by decide) q245 (Or.inl rfl) rfl c9 rfl dX0_item_27 ?_
      refine g_iconst (v := 1) dX0_item_30 (by decide) ?_
      refine g_isub dX0_item_31 ?_
      refine h_callSI (As := [.int p2, .int 0, .int ((gI Gr6 x 8) - 1)]) (rest := []) F 3 rfl (lw_S q498 q499 q108 q500) vm_X0_isBetween.2 (by decide) rfl (room_of sc_nil (Nat.le_of_ble_eq_true rfl)) dX0_item_32 (fun r10 Gr10 br10 sr10 F => ?_)
      refine g_if_ne 41 dX0_item_35 (by decide) (fun h29 => ?_) (fun h29 => ?_)
      · have F := F.1 h29
        refine g_iload_n dX0_item_41 rfl 3 rfl ?_
        refine g_iconst (v := 2) dX0_item_42 (by decide) ?_
        refine g_icmp_ge 74 dX0_item_43 (by decide) (fun h28 => ?_) (fun h28 => ?_)
        · have F := F.1 h28
          refine g_aload_n dX0_item_74 rfl 0 rfl ?_
          obtain ⟨c13, F⟩ := F
          refine h_callVV (ci := 0) (C := RX0) (T := TX0) (N := 25) (As := []) (rest := []) F 0 rfl rfl (lw_V q1154 q1156 qs19 q108 q1157) vm_X0_findDuties (by decide) rfl c13 rfl (room_of sc_nil (Nat.le_of_ble_eq_true rfl)) dX0_item_75 (fun Gr12 br12 sr12 F => ?_)
          refine g_aload_n dX0_item_78 rfl 0 rfl ?_
          obtain ⟨c15, F⟩ := F
          refine h_get (v := .int (gI Gr12 x 10)) 0 10 (C := RX0) (T := TX0) (N := 25) rfl in_X0 (by decide) q247 (Or.inl rfl) rfl c15 rfl dX0_item_79 ?_
          refine g_iconst (v := 1) dX0_item_82 (by decide) ?_
          refine g_isub dX0_item_83 ?_
          refine s_istore (lv' := [(0, va_rf (some x)), (1, .int p1), (2, .int p2), (3, .int p3), (4, .int ((gI Gr12 x 10) - 1))]) (cat_R (cat_I (cat_I (cat_I cat_nil)))) dX0_item_84 (by decide) rfl [1, 2, 3, 4, 0] rfl ?_
          exact F
        · have F := F.2 h28
          refine g_iload_n dX0_item_46 rfl 3 rfl ?_
          refine g_if_ne 59 dX0_item_47 (by decide) (fun h27 => ?_) (fun h27 => ?_)
          · have F := F.1 h27
            refine g_aload_n dX0_item_59 rfl 0 rfl ?_
            obtain ⟨c16, F⟩ := F
            refine h_get (v := va_rf (gR Gr10 x 7)) 0 7 (C := RX0) (T := TX0) (N := 25) rfl in_X0 (by decide) q244 (Or.inl rfl) rfl c16 rfl dX0_item_60 ?_
            refine g_iload_n dX0_item_63 rfl 2 rfl ?_
            obtain ⟨a17, e18, F⟩ := F
            obtain ⟨c19, F⟩ := F
            obtain ⟨k20, F⟩ := F
            refine h_zald e18 c19 k20 dX0_item_64 ?_
            refine g_if_eq 72 dX0_item_65 (by decide) (fun h21 => ?_) (fun h21 => ?_)
            · have F := F.1 h21
              refine g_iconst (v := 0) dX0_item_72 (by decide) ?_
              exact g_iret rfl dX0_item_73 F
            · have F := F.2 h21
              refine g_iconst (v := 1) dX0_item_68 (by decide) ?_
              refine g_goto 73 dX0_item_69 (by decide) ?_
              exact g_iret rfl dX0_item_73 F
          · have F := F.2 h27
            refine g_aload_n dX0_item_50 rfl 0 rfl ?_
            obtain ⟨c22, F⟩ := F
            refine h_get (v := va_rf (gR Gr10 x 5)) 0 5 (C := RX0) (T := TX0) (N := 25) rfl in_X0 (by decide) q242 (Or.inl rfl) rfl c22 rfl dX0_item_51 ?_
            refine g_iload_n dX0_item_54 rfl 2 rfl ?_
            obtain ⟨a23, e24, F⟩ := F
            obtain ⟨c25, F⟩ := F
            obtain ⟨k26, F⟩ := F
            refine h_iald e24 c25 k26 dX0_item_55 ?_
            refine g_goto 73 dX0_item_56 (by decide) ?_
            exact g_iret rfl dX0_item_73 F
      · have F := F.2 h29
        refine g_bipush (v := (-2)) dX0_item_38 (by decide) ?_
        exact g_iret rfl dX0_item_40 F
    · have F := F.2 h30
      refine g_iconst (v := (-1)) dX0_item_17 (by decide) ?_
      exact g_iret rfl dX0_item_18 F
theorem rX0_item_86 {Γ : GE} {l : Launch} {h MC MS : Nat} {Q : Option Value → GH → Prop} {bc bs : Nat} {G : GH} (x : Nat) (p1 : Int32) (p2 : Int32) (p3 : Int32) (p4 : Int32) (F : (gC G x = kO 0 ∧ ∃ a2, (gR G x 6) = some a2 ∧ gC G a2 = kA 0 ∧ vp_in p4 (gL G a2) ∧ (((gI G a2 p4.toNatClampNeg) ≤ p2 → (Q (some (.int p4)) G)) ∧ (¬ (gI G a2 p4.toNatClampNeg) ≤ p2 → (GW Γ l mX0_item h MC MS Q 86 [(0, va_rf (some x)), (1, .int p1), (2, .int p2), (3, .int p3), (4, .int (p4 + (-1)))] [] G bc bs))))) : GW Γ l mX0_item h MC MS Q 86 [(0, va_rf (some x)), (1, .int p1), (2, .int p2), (3, .int p3), (4, .int p4)] [] G bc bs := by
  refine g_aload_n dX0_item_86 rfl 0 rfl ?_
  obtain ⟨c1, F⟩ := F
  refine h_get (v := va_rf (gR G x 6)) 0 6 (C := RX0) (T := TX0) (N := 25) rfl in_X0 (by decide) q243 (Or.inl rfl) rfl c1 rfl dX0_item_87 ?_
  refine g_iload dX0_item_90 4 rfl ?_
  obtain ⟨a2, e3, F⟩ := F
  obtain ⟨c4, F⟩ := F
  obtain ⟨k5, F⟩ := F
  refine h_iald e3 c4 k5 dX0_item_92 ?_
  refine g_iload_n dX0_item_93 rfl 2 rfl ?_
  refine g_icmp_le 103 dX0_item_94 (by decide) (fun h6 => ?_) (fun h6 => ?_)
  · have F := F.1 h6
    refine g_iload dX0_item_103 4 rfl ?_
    exact g_iret rfl dX0_item_105 F
  · have F := F.2 h6
    refine s_iinc (v := (p4 + (-1))) (lv' := [(0, va_rf (some x)), (1, .int p1), (2, .int p2), (3, .int p3), (4, .int (p4 + (-1)))]) (cat_R (cat_I (cat_I (cat_I (cat_I cat_nil))))) dX0_item_97 (k0 := 4) rfl rfl (by decide) rfl [1, 2, 3, 4, 0] rfl ?_
    refine g_goto 86 dX0_item_100 (by decide) ?_
    exact F
theorem rX0_dutyCount_0 {Γ : GE} {l : Launch} {h MC MS : Nat} {Q : Option Value → GH → Prop} {bc bs : Nat} {G : GH} (x : Nat) (p1 : Int32) (F : (gC G x = kO 0 ∧ cI Γ l h mX0_isCrew [.ref x, .int p1] G bc bs fun r1 Gr1 br1 sr1 => ((¬ r1 = 0 → (gC Gr1 x = kO 0 ∧ cV Γ l h mX0_loadRow [.ref x, .int p1] Gr1 br1 sr1 fun Gr4 br4 sr4 => gC Gr4 x = kO 0 ∧ cV Γ l h mX0_findDuties [.ref x] Gr4 br4 sr4 fun Gr7 br7 sr7 => gC Gr7 x = kO 0 ∧ Q (some (.int (gI Gr7 x 10))) Gr7)) ∧ (r1 = 0 → (Q (some (.int (-1))) Gr1))))) : GW Γ l mX0_dutyCount h MC MS Q 0 [(0, va_rf (some x)), (1, .int p1)] [] G bc bs := by
  refine g_aload_n dX0_dutyCount_0 rfl 0 rfl ?_
  refine g_iload_n dX0_dutyCount_1 rfl 1 rfl ?_
  obtain ⟨c2, F⟩ := F
  refine h_callVI (ci := 0) (C := RX0) (T := TX0) (N := 25) (As := [.int p1]) (rest := []) F 1 rfl rfl (lw_V q1122 q1124 qs11 q108 q1125) vm_X0_isCrew (by decide) rfl c2 rfl (room_of sc_nil (Nat.le_of_ble_eq_true rfl)) dX0_dutyCount_2 (fun r1 Gr1 br1 sr1 F => ?_)
  refine g_if_ne 10 dX0_dutyCount_5 (by decide) (fun h11 => ?_) (fun h11 => ?_)
  · have F := F.1 h11
    refine g_aload_n dX0_dutyCount_10 rfl 0 rfl ?_
    refine g_iload_n dX0_dutyCount_11 rfl 1 rfl ?_
    obtain ⟨c5, F⟩ := F
    refine h_callVV (ci := 0) (C := RX0) (T := TX0) (N := 25) (As := [.int p1]) (rest := []) F 1 rfl rfl (lw_V q1130 q1132 qs13 q108 q1133) vm_X0_loadRow (by decide) rfl c5 rfl (room_of sc_nil (Nat.le_of_ble_eq_true rfl)) dX0_dutyCount_12 (fun Gr4 br4 sr4 F => ?_)
    refine g_aload_n dX0_dutyCount_15 rfl 0 rfl ?_
    obtain ⟨c8, F⟩ := F
    refine h_callVV (ci := 0) (C := RX0) (T := TX0) (N := 25) (As := []) (rest := []) F 0 rfl rfl (lw_V q1154 q1156 qs19 q108 q1157) vm_X0_findDuties (by decide) rfl c8 rfl (room_of sc_nil (Nat.le_of_ble_eq_true rfl)) dX0_dutyCount_16 (fun Gr7 br7 sr7 F => ?_)
    refine g_aload_n dX0_dutyCount_19 rfl 0 rfl ?_
    obtain ⟨c10, F⟩ := F
    refine h_get (v := .int (gI Gr7 x 10)) 0 10 (C := RX0) (T := TX0) (N := 25) rfl in_X0 (by decide) q247 (Or.inl rfl) rfl c10 rfl dX0_dutyCount_20 ?_
    exact g_iret rfl dX0_dutyCount_23 F
  · have F := F.2 h11
    refine g_iconst (v := (-1)) dX0_dutyCount_8 (by decide) ?_
    exact g_iret rfl dX0_dutyCount_9 F
theorem rX0_duty_0 {Γ : GE} {l : Launch} {h MC MS : Nat} {Q : Option Value → GH → Prop} {bc bs : Nat} {G : GH} (x : Nat) (p1 : Int32) (p2 : Int32) (p3 : Int32) (F : (gC G x = kO 0 ∧ cI Γ l h mX0_isCrew [.ref x, .int p1] G bc bs fun r1 Gr1 br1 sr1 => ((r1 = 0 → (Q (some (.int (-1))) Gr1)) ∧ (¬ r1 = 0 → (cI Γ l h mX0_isBetween [.int p3, .int 0, .int 3] Gr1 br1 sr1 fun r4 Gr4 br4 sr4 => ((¬ r4 = 0 → (gC Gr4 x = kO 0 ∧ cV Γ l h mX0_loadRow [.ref x, .int p1] Gr4 br4 sr4 fun Gr6 br6 sr6 => gC Gr6 x = kO 0 ∧ cV Γ l h mX0_findDuties [.ref x] Gr6 br6 sr6 fun Gr9 br9 sr9 => gC Gr9 x = kO 0 ∧ cI Γ l h mX0_isBetween [.int p2, .int 0, .int ((gI Gr9 x 10) - 1)] Gr9 br9 sr9 fun r13 Gr13 br13 sr13 => ((¬ r13 = 0 → ((p3 = 0 → (gC Gr13 x = kO 0 ∧ cI Γ l h mX0_dutyLength [.ref x, .int p2] Gr13 br13 sr13 fun r16 Gr16 br16 sr16 => Q (some (.int r16)) Gr16)) ∧ (p3 = 1 → (gC Gr13 x = kO 0 ∧ cI Γ l h mX0_dutyMinutes [.ref x, .int p2] Gr13 br13 sr13 fun r19 Gr19 br19 sr19 => Q (some (.int r19)) Gr19)) ∧ (p3 = 2 → (gC Gr13 x = kO 0 ∧ cI Γ l h mX0_dutyEnd [.ref x, .int p2] Gr13 br13 sr13 fun r22 Gr22 br22 sr22 => gC Gr22 x = kO 0 ∧ ∃ a26, (gR Gr22 x 6) = some a26 ∧ gC Gr22 a26 = kA 0 ∧ vp_in p2 (gL Gr22 a26) ∧ Q (some (.int (r22 - (gI Gr22 a26 p2.toNatClampNeg)))) Gr22)) ∧ ((p3.toInt < 0 ∨ 2 < p3.toInt) → (gC Gr13 x = kO 0 ∧ ∃ a31, (gR Gr13 x 6) = some a31 ∧ gC Gr13 a31 = kA 0 ∧ vp_in p2 (gL Gr13 a31) ∧ Q (some (.int (gI Gr13 a31 p2.toNatClampNeg))) Gr13)))) ∧ (r13 = 0 → (Q (some (.int (-2))) Gr13))))) ∧ (r4 = 0 → (Q (some (.int (-1))) Gr4)))))))) : GW Γ l mX0_duty h MC MS Q 0 [(0, va_rf (some x)), (1, .int p1), (2, .int p2), (3, .int p3)] [] G bc bs := by
  refine g_aload_n dX0_duty_0 rfl 0 rfl ?_
  refine g_iload_n dX0_duty_1 rfl 1 rfl ?_
  obtain ⟨c2, F⟩ := F
  refine h_callVI (ci := 0) (C := RX0) (T := TX0) (N := 25) (As := [.int p1]) (rest := []) F 1 rfl rfl (lw_V q1122 q1124 qs11 q108 q1125) vm_X0_isCrew (by decide) rfl c2 rfl (room_of sc_nil (Nat.le_of_ble_eq_true rfl)) dX0_duty_2 (fun r1 Gr1 br1 sr1 F => ?_)
  refine g_if_eq 17 dX0_duty_5 (by decide) (fun h37 => ?_) (fun h37 => ?_)
  · have F := F.1 h37
    refine g_iconst (v := (-1)) dX0_duty_17 (by decide) ?_
    exact g_iret rfl dX0_duty_18 F
  · have F := F.2 h37
    refine g_iload_n dX0_duty_8 rfl 3 rfl ?_
    refine g_iconst (v := 0) dX0_duty_9 (by decide) ?_
    refine g_iconst (v := 3) dX0_duty_10 (by decide) ?_
    refine h_callSI (As := [.int p3, .int 0, .int 3]) (rest := []) F 3 rfl (lw_S q498 q499 q108 q500) vm_X0_isBetween.2 (by decide) rfl (room_of sc_nil (Nat.le_of_ble_eq_true rfl)) dX0_duty_11 (fun r4 Gr4 br4 sr4 F => ?_)
    refine g_if_ne 19 dX0_duty_14 (by decide) (fun h36 => ?_) (fun h36 => ?_)
    · have F := F.1 h36
      refine g_aload_n dX0_duty_19 rfl 0 rfl ?_
      refine g_iload_n dX0_duty_20 rfl 1 rfl ?_
      obtain ⟨c7, F⟩ := F
      refine h_callVV (ci := 0) (C := RX0) (T := TX0) (N := 25) (As := [.int p1]) (rest := []) F 1 rfl rfl (lw_V q1130 q1132 qs13 q108 q1133) vm_X0_loadRow (by decide) rfl c7 rfl (room_of sc_nil (Nat.le_of_ble_eq_true rfl)) dX0_duty_21 (fun Gr6 br6 sr6 F => ?_)
      refine g_aload_n dX0_duty_24 rfl 0 rfl ?_
      obtain ⟨c10, F⟩ := F
      refine h_callVV (ci := 0) (C := RX0) (T := TX0) (N := 25) (As := []) (rest := []) F 0 rfl rfl (lw_V q1154 q1156 qs19 q108 q1157) vm_X0_findDuties (by decide) rfl c10 rfl (room_of sc_nil (Nat.le_of_ble_eq_true rfl)) dX0_duty_25 (fun Gr9 br9 sr9 F => ?_)
      refine g_iload_n dX0_duty_28 rfl 2 rfl ?_
      refine g_iconst (v := 0) dX0_duty_29 (by decide) ?_
      refine g_aload_n dX0_duty_30 rfl 0 rfl ?_
      obtain ⟨c12, F⟩ := F
      refine h_get (v := .int (gI Gr9 x 10)) 0 10 (C := RX0) (T := TX0) (N := 25) rfl in_X0 (by decide) q247 (Or.inl rfl) rfl c12 rfl dX0_duty_31 ?_
      refine g_iconst (v := 1) dX0_duty_34 (by decide) ?_
      refine g_isub dX0_duty_35 ?_
      refine h_callSI (As := [.int p2, .int 0, .int ((gI Gr9 x 10) - 1)]) (rest := []) F 3 rfl (lw_S q498 q499 q108 q500) vm_X0_isBetween.2 (by decide) rfl (room_of sc_nil (Nat.le_of_ble_eq_true rfl)) dX0_duty_36 (fun r13 Gr13 br13 sr13 F => ?_)
      refine g_if_ne 45 dX0_duty_39 (by decide) (fun h35 => ?_) (fun h35 => ?_)
      · have F := F.1 h35
        refine g_iload_n dX0_duty_45 rfl 3 rfl ?_
        by_cases h15 : (p3.toInt < 0 ∨ 2 < p3.toInt)
        · have F := F.2.2.2 h15
          refine h_tout 103 dX0_duty_46 h15 (by decide) ?_
          refine g_aload_n dX0_duty_103 rfl 0 rfl ?_
          obtain ⟨c30, F⟩ := F
          refine h_get (v := va_rf (gR Gr13 x 6)) 0 6 (C := RX0) (T := TX0) (N := 25) rfl in_X0 (by decide) q243 (Or.inl rfl) rfl c30 rfl dX0_duty_104 ?_
          refine g_iload_n dX0_duty_107 rfl 2 rfl ?_
          obtain ⟨a31, e32, F⟩ := F
          obtain ⟨c33, F⟩ := F
          obtain ⟨k34, F⟩ := F
          refine h_iald e32 c33 k34 dX0_duty_108 ?_
          exact g_iret rfl dX0_duty_109 F
        · have zh15 : p3.toInt = 0 ∨ p3.toInt = 1 ∨ p3.toInt = 2 := by omega
          rcases zh15 with zh15 | zh15 | zh15
          · have F := F.1 (tsw_eq zh15 (by decide))
            refine h_tin 72 dX0_duty_46 zh15 (by decide) (by decide) rfl (by decide) ?_
            refine g_aload_n dX0_duty_72 rfl 0 rfl ?_
            refine g_iload_n dX0_duty_73 rfl 2 rfl ?_
            obtain ⟨c17, F⟩ := F
            refine h_callVI (ci := 0) (C := RX0) (T := TX0) (N := 25) (As := [.int p2]) (rest := []) F 1 rfl rfl (lw_V q1174 q1176 qs24 q108 q1177) vm_X0_dutyLength (by decide) rfl c17 rfl (room_of sc_nil (Nat.le_of_ble_eq_true rfl)) dX0_duty_74 (fun r16 Gr16 br16 sr16 F => ?_)
            refine g_goto 109 dX0_duty_77 (by decide) ?_
            exact g_iret rfl dX0_duty_109 F
          · have F := F.2.1 (tsw_eq zh15 (by decide))
            refine h_tin 80 dX0_duty_46 zh15 (by decide) (by decide) rfl (by decide) ?_
            refine g_aload_n dX0_duty_80 rfl 0 rfl ?_
            refine g_iload_n dX0_duty_81 rfl 2 rfl ?_
            obtain ⟨c20, F⟩ := F
            refine h_callVI (ci := 0) (C := RX0) (T := TX0) (N := 25) (As := [.int p2]) (rest := []) F 1 rfl rfl (lw_V q1182 q1184 qs26 q108 q1185) vm_X0_dutyMinutes (by decide) rfl c20 rfl (room_of sc_nil (Nat.le_of_ble_eq_true rfl)) dX0_duty_82 (fun r19 Gr19 br19 sr19 F => ?_)
            refine g_goto 109 dX0_duty_85 (by decide) ?_
            exact g_iret rfl dX0_duty_109 F
          · have F := F.2.2.1 (tsw_eq zh15 (by decide))
            refine h_tin 88 dX0_duty_46 zh15 (by decide) (by decide) rfl (by decide) ?_
            refine g_aload_n dX0_duty_88 rfl 0 rfl ?_
            refine g_iload_n dX0_duty_89 rfl 2 rfl ?_
            obtain ⟨c23, F⟩ := F
            refine h_callVI (ci := 0) (C := RX0) (T := TX0) (N := 25) (As := [.int p2]) (rest := []) F 1 rfl rfl (lw_V q1178 q1180 qs25 q108 q1181) vm_X0_dutyEnd (by decide) rfl c23 rfl (room_of sc_nil (Nat.le_of_ble_eq_true rfl)) dX0_duty_90 (fun r22 Gr22 br22 sr22 F => ?_)
            refine g_aload_n dX0_duty_93 rfl 0 rfl ?_
            obtain ⟨c25, F⟩ := F
            refine h_get (v := va_rf (gR Gr22 x 6)) 0 6 (C := RX0) (T := TX0) (N := 25) rfl in_X0 (by decide) q243 (Or.inl rfl) rfl c25 rfl dX0_duty_94 ?_
            refine g_iload_n dX0_duty_97 rfl 2 rfl ?_
            obtain ⟨a26, e27, F⟩ := F
            obtain ⟨c28, F⟩ := F
            obtain ⟨k29, F⟩ := F
            refine h_iald e27 c28 k29 dX0_duty_98 ?_
            refine g_isub dX0_duty_99 ?_
            refine g_goto 109 dX0_duty_100 (by decide) ?_
            exact g_iret rfl dX0_duty_109 F
      · have F := F.2 h35
        refine g_bipush (v := (-2)) dX0_duty_42 (by decide) ?_
        exact g_iret rfl dX0_duty_44 F
    · have F := F.2 h36
      refine g_iconst (v := (-1)) dX0_duty_17 (by decide) ?_
      exact g_iret rfl dX0_duty_18 F
theorem rX0_violationCount_0 {Γ : GE} {l : Launch} {h MC MS : Nat} {Q : Option Value → GH → Prop} {bc bs : Nat} {G : GH} (x : Nat) (p1 : Int32) (F : (gC G x = kO 0 ∧ cI Γ l h mX0_isCrew [.ref x, .int p1] G bc bs fun r1 Gr1 br1 sr1 => ((r1 = 0 → (Q (some (.int (-1))) Gr1)) ∧ (¬ r1 = 0 → (gC Gr1 x = kO 0 ∧ cI Γ l h mX0_violationsOf [.ref x, .int p1] Gr1 br1 sr1 fun r4 Gr4 br4 sr4 => Q (some (.int r4)) Gr4))))) : GW Γ l mX0_violationCount h MC MS Q 0 [(0, va_rf (some x)), (1, .int p1)] [] G bc bs := by
  refine g_aload_n dX0_violationCount_0 rfl 0 rfl ?_
  refine g_iload_n dX0_violationCount_1 rfl 1 rfl ?_
  obtain ⟨c2, F⟩ := F
  refine h_callVI (ci := 0) (C := RX0) (T := TX0) (N := 25) (As := [.int p1]) (rest := []) F 1 rfl rfl (lw_V q1122 q1124 qs11 q108 q1125) vm_X0_isCrew (by decide) rfl c2 rfl (room_of sc_nil (Nat.le_of_ble_eq_true rfl)) dX0_violationCount_2 (fun r1 Gr1 br1 sr1 F => ?_)
  refine g_if_eq 16 dX0_violationCount_5 (by decide) (fun h7 => ?_) (fun h7 => ?_)
  · have F := F.1 h7
    refine g_iconst (v := (-1)) dX0_violationCount_16 (by decide) ?_
    exact g_iret rfl dX0_violationCount_17 F
  · have F := F.2 h7
    refine g_aload_n dX0_violationCount_8 rfl 0 rfl ?_
    refine g_iload_n dX0_violationCount_9 rfl 1 rfl ?_
    obtain ⟨c5, F⟩ := F
    refine h_callVI (ci := 0) (C := RX0) (T := TX0) (N := 25) (As := [.int p1]) (rest := []) F 1 rfl rfl (lw_V q1265 q1267 qs29 q108 q1268) vm_X0_violationsOf (by decide) rfl c5 rfl (room_of sc_nil (Nat.le_of_ble_eq_true rfl)) dX0_violationCount_10 (fun r4 Gr4 br4 sr4 F => ?_)
    refine g_goto 17 dX0_violationCount_13 (by decide) ?_
    exact g_iret rfl dX0_violationCount_17 F
theorem rX0_violationsOf_0 {Γ : GE} {l : Launch} {h MC MS : Nat} {Q : Option Value → GH → Prop} {bc bs : Nat} {G : GH} (x : Nat) (p1 : Int32) (F : (gC G x = kO 0 ∧ cV Γ l h mX0_loadRow [.ref x, .int p1] G bc bs fun Gr1 br1 sr1 => gC Gr1 x = kO 0 ∧ cI Γ l h mX0_goTo [.ref x, .int (-1)] Gr1 br1 sr1 fun r4 Gr4 br4 sr4 => Q (some (.int r4)) Gr4)) : GW Γ l mX0_violationsOf h MC MS Q 0 [(0, va_rf (some x)), (1, .int p1)] [] G bc bs := by
  refine g_aload_n dX0_violationsOf_0 rfl 0 rfl ?_
  refine g_iload_n dX0_violationsOf_1 rfl 1 rfl ?_
  obtain ⟨c2, F⟩ := F
  refine h_callVV (ci := 0) (C := RX0) (T := TX0) (N := 25) (As := [.int p1]) (rest := []) F 1 rfl rfl (lw_V q1130 q1132 qs13 q108 q1133) vm_X0_loadRow (by decide) rfl c2 rfl (room_of sc_nil (Nat.le_of_ble_eq_true rfl)) dX0_violationsOf_2 (fun Gr1 br1 sr1 F => ?_)
  refine g_aload_n dX0_violationsOf_5 rfl 0 rfl ?_
  refine g_iconst (v := (-1)) dX0_violationsOf_6 (by decide) ?_
  obtain ⟨c5, F⟩ := F
  refine h_callVI (ci := 0) (C := RX0) (T := TX0) (N := 25) (As := [.int (-1)]) (rest := []) F 1 rfl rfl (lw_V q1150 q1152 qs18 q108 q1153) vm_X0_goTo (by decide) rfl c5 rfl (room_of sc_nil (Nat.le_of_ble_eq_true rfl)) dX0_violationsOf_7 (fun r4 Gr4 br4 sr4 F => ?_)
  exact g_iret rfl dX0_violationsOf_10 F
theorem rX0_violation_0 {Γ : GE} {l : Launch} {h MC MS : Nat} {Q : Option Value → GH → Prop} {bc bs : Nat} {G : GH} (x : Nat) (p1 : Int32) (p2 : Int32) (p3 : Int32) (F : (gC G x = kO 0 ∧ cI Γ l h mX0_isCrew [.ref x, .int p1] G bc bs fun r1 Gr1 br1 sr1 => ((r1 = 0 → (Q (some (.int (-1))) Gr1)) ∧ (¬ r1 = 0 → (cI Γ l h mX0_isBetween [.int p3, .int 0, .int 1] Gr1 br1 sr1 fun r4 Gr4 br4 sr4 => ((¬ r4 = 0 → (gC Gr4 x = kO 0 ∧ cI Γ l h mX0_violationsOf [.ref x, .int p1] Gr4 br4 sr4 fun r6 Gr6 br6 sr6 => cI Γ l h mX0_isBetween [.int p2, .int 0, .int (r6 - 1)] Gr6 br6 sr6 fun r9 Gr9 br9 sr9 => ((¬ r9 = 0 → (gC Gr9 x = kO 0 ∧ cI Γ l h mX0_goTo [.ref x, .int p2] Gr9 br9 sr9 fun r11 Gr11 br11 sr11 => ((¬ p3 = 0 → (gC Gr11 x = kO 0 ∧ Q (some (.int (gI Gr11 x 12))) Gr11)) ∧ (p3 = 0 → (gC Gr11 x = kO 0 ∧ Q (some (.int (gI Gr11 x 11))) Gr11))))) ∧ (r9 = 0 → (Q (some (.int (-2))) Gr9))))) ∧ (r4 = 0 → (Q (some (.int (-1))) Gr4)))))))) : GW Γ l mX0_violation h MC MS Q 0 [(0, va_rf (some x)), (1, .int p1), (2, .int p2), (3, .int p3)] [] G bc bs := by
  refine g_aload_n dX0_violation_0 rfl 0 rfl ?_
  refine g_iload_n dX0_violation_1 rfl 1 rfl ?_
  obtain ⟨c2, F⟩ := F
  refine h_callVI (ci := 0) (C := RX0) (T := TX0) (N := 25) (As := [.int p1]) (rest := []) F 1 rfl rfl (lw_V q1122 q1124 qs11 q108 q1125) vm_X0_isCrew (by decide) rfl c2 rfl (room_of sc_nil (Nat.le_of_ble_eq_true rfl)) dX0_violation_2 (fun r1 Gr1 br1 sr1 F => ?_)
  refine g_if_eq 17 dX0_violation_5 (by decide) (fun h19 => ?_) (fun h19 => ?_)
  · have F := F.1 h19
    refine g_iconst (v := (-1)) dX0_violation_17 (by decide) ?_
    exact g_iret rfl dX0_violation_18 F
  · have F := F.2 h19
    refine g_iload_n dX0_violation_8 rfl 3 rfl ?_
    refine g_iconst (v := 0) dX0_violation_9 (by decide) ?_
    refine g_iconst (v := 1) dX0_violation_10 (by decide) ?_
    refine h_callSI (As := [.int p3, .int 0, .int 1]) (rest := []) F 3 rfl (lw_S q498 q499 q108 q500) vm_X0_isBetween.2 (by decide) rfl (room_of sc_nil (Nat.le_of_ble_eq_true rfl)) dX0_violation_11 (fun r4 Gr4 br4 sr4 F => ?_)
    refine g_if_ne 19 dX0_violation_14 (by decide) (fun h18 => ?_) (fun h18 => ?_)
    · have F := F.1 h18
      refine g_iload_n dX0_violation_19 rfl 2 rfl ?_
      refine g_iconst (v := 0) dX0_violation_20 (by decide) ?_
      refine g_aload_n dX0_violation_21 rfl 0 rfl ?_
      refine g_iload_n dX0_violation_22 rfl 1 rfl ?_
      obtain ⟨c7, F⟩ := F
      refine h_callVI (ci := 0) (C := RX0) (T := TX0) (N := 25) (As := [.int p1]) (rest := [.int 0, .int p2]) F 1 rfl rfl (lw_V q1265 q1267 qs29 q108 q1268) vm_X0_violationsOf (by decide) rfl c7 rfl (room_of (sc_I (sc_I sc_nil)) (Nat.le_of_ble_eq_true rfl)) dX0_violation_23 (fun r6 Gr6 br6 sr6 F => ?_)
      refine g_iconst (v := 1) dX0_violation_26 (by decide) ?_
      refine g_isub dX0_violation_27 ?_
      refine h_callSI (As := [.int p2, .int 0, .int (r6 - 1)]) (rest := []) F 3 rfl (lw_S q498 q499 q108 q500) vm_X0_isBetween.2 (by decide) rfl (room_of sc_nil (Nat.le_of_ble_eq_true rfl)) dX0_violation_28 (fun r9 Gr9 br9 sr9 F => ?_)
      refine g_if_ne 37 dX0_violation_31 (by decide) (fun h17 => ?_) (fun h17 => ?_)
      · have F := F.1 h17
        refine g_aload_n dX0_violation_37 rfl 0 rfl ?_
        refine g_iload_n dX0_violation_38 rfl 2 rfl ?_
        obtain ⟨c12, F⟩ := F
        refine h_callVI (ci := 0) (C := RX0) (T := TX0) (N := 25) (As := [.int p2]) (rest := []) F 1 rfl rfl (lw_V q1150 q1152 qs18 q108 q1153) vm_X0_goTo (by decide) rfl c12 rfl (room_of sc_nil (Nat.le_of_ble_eq_true rfl)) dX0_violation_39 (fun r11 Gr11 br11 sr11 F => ?_)
        refine g_pop dX0_violation_42 rfl ?_
        refine g_iload_n dX0_violation_43 rfl 3 rfl ?_
        refine g_if_ne 54 dX0_violation_44 (by decide) (fun h16 => ?_) (fun h16 => ?_)
        · have F := F.1 h16
          refine g_aload_n dX0_violation_54 rfl 0 rfl ?_
          obtain ⟨c14, F⟩ := F
          refine h_get (v := .int (gI Gr11 x 12)) 0 12 (C := RX0) (T := TX0) (N := 25) rfl in_X0 (by decide) q249 (Or.inl rfl) rfl c14 rfl dX0_violation_55 ?_
          exact g_iret rfl dX0_violation_58 F
        · have F := F.2 h16
          refine g_aload_n dX0_violation_47 rfl 0 rfl ?_
          obtain ⟨c15, F⟩ := F
          refine h_get (v := .int (gI Gr11 x 11)) 0 11 (C := RX0) (T := TX0) (N := 25) rfl in_X0 (by decide) q248 (Or.inl rfl) rfl c15 rfl dX0_violation_48 ?_
          refine g_goto 58 dX0_violation_51 (by decide) ?_
          exact g_iret rfl dX0_violation_58 F
      · have F := F.2 h17
        refine g_bipush (v := (-2)) dX0_violation_34 (by decide) ?_
        exact g_iret rfl dX0_violation_36 F
    · have F := F.2 h18
      refine g_iconst (v := (-1)) dX0_violation_17 (by decide) ?_
      exact g_iret rfl dX0_violation_18 F
theorem rX0_minutes_0 {Γ : GE} {l : Launch} {h MC MS : Nat} {Q : Option Value → GH → Prop} {bc bs : Nat} {G : GH} (x : Nat) (p1 : Int32) (F : (gC G x = kO 0 ∧ cI Γ l h mX0_isCrew [.ref x, .int p1] G bc bs fun r1 Gr1 br1 sr1 => ((r1 = 0 → (Q (some (.int (-1))) Gr1)) ∧ (¬ r1 = 0 → (gC Gr1 x = kO 0 ∧ cI Γ l h mX0_minutesOf [.ref x, .int p1] Gr1 br1 sr1 fun r4 Gr4 br4 sr4 => Q (some (.int r4)) Gr4))))) : GW Γ l mX0_minutes h MC MS Q 0 [(0, va_rf (some x)), (1, .int p1)] [] G bc bs := by
  refine g_aload_n dX0_minutes_0 rfl 0 rfl ?_
  refine g_iload_n dX0_minutes_1 rfl 1 rfl ?_
  obtain ⟨c2, F⟩ := F
  refine h_callVI (ci := 0) (C := RX0) (T := TX0) (N := 25) (As := [.int p1]) (rest := []) F 1 rfl rfl (lw_V q1122 q1124 qs11 q108 q1125) vm_X0_isCrew (by decide) rfl c2 rfl (room_of sc_nil (Nat.le_of_ble_eq_true rfl)) dX0_minutes_2 (fun r1 Gr1 br1 sr1 F => ?_)
  refine g_if_eq 16 dX0_minutes_5 (by decide) (fun h7 => ?_) (fun h7 => ?_)
  · have F := F.1 h7
    refine g_iconst (v := (-1)) dX0_minutes_16 (by decide) ?_
    exact g_iret rfl dX0_minutes_17 F
  · have F := F.2 h7
    refine g_aload_n dX0_minutes_8 rfl 0 rfl ?_
    refine g_iload_n dX0_minutes_9 rfl 1 rfl ?_
    obtain ⟨c5, F⟩ := F
    refine h_callVI (ci := 0) (C := RX0) (T := TX0) (N := 25) (As := [.int p1]) (rest := []) F 1 rfl rfl (lw_V q1277 q1279 qs30 q108 q1280) vm_X0_minutesOf (by decide) rfl c5 rfl (room_of sc_nil (Nat.le_of_ble_eq_true rfl)) dX0_minutes_10 (fun r4 Gr4 br4 sr4 F => ?_)
    refine g_goto 17 dX0_minutes_13 (by decide) ?_
    exact g_iret rfl dX0_minutes_17 F
theorem rX0_minutesOf_0 {Γ : GE} {l : Launch} {h MC MS : Nat} {Q : Option Value → GH → Prop} {bc bs : Nat} {G : GH} (x : Nat) (p1 : Int32) (F : (gC G x = kO 0 ∧ cV Γ l h mX0_loadRow [.ref x, .int p1] G bc bs fun Gr1 br1 sr1 => GW Γ l mX0_minutesOf h MC MS Q 9 [(0, va_rf (some x)), (1, .int p1), (2, .int 0), (3, .int 0)] [] Gr1 br1 sr1)) : GW Γ l mX0_minutesOf h MC MS Q 0 [(0, va_rf (some x)), (1, .int p1)] [] G bc bs := by
  refine g_aload_n dX0_minutesOf_0 rfl 0 rfl ?_
  refine g_iload_n dX0_minutesOf_1 rfl 1 rfl ?_
  obtain ⟨c2, F⟩ := F
  refine h_callVV (ci := 0) (C := RX0) (T := TX0) (N := 25) (As := [.int p1]) (rest := []) F 1 rfl rfl (lw_V q1130 q1132 qs13 q108 q1133) vm_X0_loadRow (by decide) rfl c2 rfl (room_of sc_nil (Nat.le_of_ble_eq_true rfl)) dX0_minutesOf_2 (fun Gr1 br1 sr1 F => ?_)
  refine g_iconst (v := 0) dX0_minutesOf_5 (by decide) ?_
  refine s_istore_n (lv' := [(0, va_rf (some x)), (1, .int p1), (2, .int 0)]) (cat_R (cat_I cat_nil)) dX0_minutesOf_6 rfl (by decide) rfl [1, 2, 0] rfl ?_
  refine g_iconst (v := 0) dX0_minutesOf_7 (by decide) ?_
  refine s_istore_n (lv' := [(0, va_rf (some x)), (1, .int p1), (2, .int 0), (3, .int 0)]) (cat_R (cat_I (cat_I cat_nil))) dX0_minutesOf_8 rfl (by decide) rfl [1, 2, 3, 0] rfl ?_
  exact F
theorem rX0_minutesOf_9 {Γ : GE} {l : Launch} {h MC MS : Nat} {Q : Option Value → GH → Prop} {bc bs : Nat} {G : GH} (x : Nat) (p1 : Int32) (p2 : Int32) (p3 : Int32) (F : (gC G x = kO 0 ∧ (((gI G x 8) ≤ p3 → (Q (some (.int p2)) G)) ∧ (¬ (gI G x 8) ≤ p3 → (∃ a2, (gR G x 7) = some a2 ∧ gC G a2 = kA 1 ∧ vp_in p3 (gL G a2) ∧ (((gI G a2 p3.toNatClampNeg) = 0 → (GW Γ l mX0_minutesOf h MC MS Q 9 [(0, va_rf (some x)), (1, .int p1), (2, .int (p2 + 0)), (3, .int (p3 + 1))] [] G bc bs)) ∧ (¬ (gI G a2 p3.toNatClampNeg) = 0 → (cR Γ l h mX0_at [.ref x, .int p3] G bc bs fun r6 Gr6 br6 sr6 => ∃ a9, r6 = some a9 ∧ gC Gr6 a9 = kO 3 ∧ cI Γ l h mX8_length [.ref a9] Gr6 br6 sr6 fun r8 Gr8 br8 sr8 => GW Γ l mX0_minutesOf h MC MS Q 9 [(0, va_rf (some x)), (1, .int p1), (2, .int (p2 + r8)), (3, .int (p3 + 1))] [] Gr8 br8 sr8)))))))) : GW Γ l mX0_minutesOf h MC MS Q 9 [(0, va_rf (some x)), (1, .int p1), (2, .int p2), (3, .int p3)] [] G bc bs := by
  refine g_iload_n dX0_minutesOf_9 rfl 3 rfl ?_
  refine g_aload_n dX0_minutesOf_10 rfl 0 rfl ?_
  obtain ⟨c1, F⟩ := F
  refine h_get (v := .int (gI G x 8)) 0 8 (C := RX0) (T := TX0) (N := 25) rfl in_X0 (by decide) q245 (Or.inl rfl) rfl c1 rfl dX0_minutesOf_11 ?_
  refine g_icmp_ge 47 dX0_minutesOf_14 (by decide) (fun h14 => ?_) (fun h14 => ?_)
  · have F := F.1 h14
    refine g_iload_n dX0_minutesOf_47 rfl 2 rfl ?_
    exact g_iret rfl dX0_minutesOf_48 F
  · have F := F.2 h14
    refine g_iload_n dX0_minutesOf_17 rfl 2 rfl ?_
    refine g_aload_n dX0_minutesOf_18 rfl 0 rfl ?_
    refine h_get (v := va_rf (gR G x 7)) 0 7 (C := RX0) (T := TX0) (N := 25) rfl in_X0 (by decide) q244 (Or.inl rfl) rfl c1 rfl dX0_minutesOf_19 ?_
    refine g_iload_n dX0_minutesOf_22 rfl 3 rfl ?_
    obtain ⟨a2, e3, F⟩ := F
    obtain ⟨c4, F⟩ := F
    obtain ⟨k5, F⟩ := F
    refine h_zald e3 c4 k5 dX0_minutesOf_23 ?_
    refine g_if_eq 38 dX0_minutesOf_24 (by decide) (fun h13 => ?_) (fun h13 => ?_)
    · have F := F.1 h13
      refine g_iconst (v := 0) dX0_minutesOf_38 (by decide) ?_
      refine g_iadd dX0_minutesOf_39 ?_
      refine s_istore_n (lv' := [(0, va_rf (some x)), (1, .int p1), (2, .int (p2 + 0)), (3, .int p3)]) (cat_R (cat_I (cat_I (cat_I cat_nil)))) dX0_minutesOf_40 rfl (by decide) rfl [1, 2, 0, 3] rfl ?_
      refine s_iinc (v := (p3 + 1)) (lv' := [(0, va_rf (some x)), (1, .int p1), (2, .int (p2 + 0)), (3, .int (p3 + 1))]) (cat_R (cat_I (cat_I (cat_I cat_nil)))) dX0_minutesOf_41 (k0 := 3) rfl rfl (by decide) rfl [1, 2, 3, 0] rfl ?_
      refine g_goto 9 dX0_minutesOf_44 (by decide) ?_
      exact F
    · have F := F.2 h13
      refine g_aload_n dX0_minutesOf_27 rfl 0 rfl ?_
      refine g_iload_n dX0_minutesOf_28 rfl 3 rfl ?_
      refine h_callVR (ci := 0) (C := RX0) (T := TX0) (N := 25) (As := [.int p3]) (rest := [.int p2]) F 1 rfl rfl (lw_V q1162 q1164 qs21 q108 q1165) vm_X0_at (by decide) rfl c1 rfl (room_of (sc_I sc_nil) (Nat.le_of_ble_eq_true rfl)) dX0_minutesOf_29 (fun r6 Gr6 br6 sr6 F => ?_)
      obtain ⟨a9, e10, F⟩ := F
      obtain ⟨c11, F⟩ := F
      refine h_callDI (ci := 3) (x := ⟨"CrewPairer$Leg", "length", "()I"⟩) (C := RX4) (T := TX4) (N := 5) (As := []) (rest := [.int p2]) F 0 rfl rfl (by decide +kernel) (by decide +kernel) (by decide +kernel) (by decide +kernel) q1188 q142 q1190 vm_X8_length.2 (by decide) e10 c11 rfl (room_of (sc_I sc_nil) (Nat.le_of_ble_eq_true rfl)) dX0_minutesOf_32 (fun r8 Gr8 br8 sr8 F => ?_)
      refine g_goto 39 dX0_minutesOf_35 (by decide) ?_
      refine g_iadd dX0_minutesOf_39 ?_
      refine s_istore_n (lv' := [(0, va_rf (some x)), (1, .int p1), (2, .int (p2 + r8)), (3, .int p3)]) (cat_R (cat_I (cat_I (cat_I cat_nil)))) dX0_minutesOf_40 rfl (by decide) rfl [1, 2, 0, 3] rfl ?_
      refine s_iinc (v := (p3 + 1)) (lv' := [(0, va_rf (some x)), (1, .int p1), (2, .int (p2 + r8)), (3, .int (p3 + 1))]) (cat_R (cat_I (cat_I (cat_I cat_nil)))) dX0_minutesOf_41 (k0 := 3) rfl rfl (by decide) rfl [1, 2, 3, 0] rfl ?_
      refine g_goto 9 dX0_minutesOf_44 (by decide) ?_
      exact F
theorem rX0_within_0 {Γ : GE} {l : Launch} {h MC MS : Nat} {Q : Option Value → GH → Prop} {bc bs : Nat} {G : GH} (x : Nat) (p1 : Int32) (p2 : Int32) (p3 : Int32) (F : (gC G x = kO 0 ∧ cI Γ l h mX0_isCrew [.ref x, .int p1] G bc bs fun r1 Gr1 br1 sr1 => ((r1 = 0 → (Q (some (.int (-1))) Gr1)) ∧ (¬ r1 = 0 → (cI Γ l h mX0_isBetween [.int p2, .int 0, .int 5999] Gr1 br1 sr1 fun r4 Gr4 br4 sr4 => ((r4 = 0 → (Q (some (.int (-1))) Gr4)) ∧ (¬ r4 = 0 → (cI Γ l h mX0_isBetween [.int p3, .int 1, .int 6000] Gr4 br4 sr4 fun r6 Gr6 br6 sr6 => ((¬ r6 = 0 → (gC Gr6 x = kO 0 ∧ cV Γ l h mX0_loadRow [.ref x, .int p1] Gr6 br6 sr6 fun Gr8 br8 sr8 => gC Gr8 x = kO 0 ∧ cI Γ l h mX0_rowWithin [.ref x, .int p2, .int p3] Gr8 br8 sr8 fun r11 Gr11 br11 sr11 => Q (some (.int r11)) Gr11)) ∧ (r6 = 0 → (Q (some (.int (-1))) Gr6))))))))))) : GW Γ l mX0_within h MC MS Q 0 [(0, va_rf (some x)), (1, .int p1), (2, .int p2), (3, .int p3)] [] G bc bs := by
  refine g_aload_n dX0_within_0 rfl 0 rfl ?_
  refine g_iload_n dX0_within_1 rfl 1 rfl ?_
  obtain ⟨c2, F⟩ := F
  refine h_callVI (ci := 0) (C := RX0) (T := TX0) (N := 25) (As := [.int p1]) (rest := []) F 1 rfl rfl (lw_V q1122 q1124 qs11 q108 q1125) vm_X0_isCrew (by decide) rfl c2 rfl (room_of sc_nil (Nat.le_of_ble_eq_true rfl)) dX0_within_2 (fun r1 Gr1 br1 sr1 F => ?_)
  refine g_if_eq 30 dX0_within_5 (by decide) (fun h16 => ?_) (fun h16 => ?_)
  · have F := F.1 h16
    refine g_iconst (v := (-1)) dX0_within_30 (by decide) ?_
    exact g_iret rfl dX0_within_31 F
  · have F := F.2 h16
    refine g_iload_n dX0_within_8 rfl 2 rfl ?_
    refine g_iconst (v := 0) dX0_within_9 (by decide) ?_
    refine g_sipush (v := 5999) dX0_within_10 (by decide) ?_
    refine h_callSI (As := [.int p2, .int 0, .int 5999]) (rest := []) F 3 rfl (lw_S q498 q499 q108 q500) vm_X0_isBetween.2 (by decide) rfl (room_of sc_nil (Nat.le_of_ble_eq_true rfl)) dX0_within_13 (fun r4 Gr4 br4 sr4 F => ?_)
    refine g_if_eq 30 dX0_within_16 (by decide) (fun h15 => ?_) (fun h15 => ?_)
    · have F := F.1 h15
      refine g_iconst (v := (-1)) dX0_within_30 (by decide) ?_
      exact g_iret rfl dX0_within_31 F
    · have F := F.2 h15
      refine g_iload_n dX0_within_19 rfl 3 rfl ?_
      refine g_iconst (v := 1) dX0_within_20 (by decide) ?_
      refine g_sipush (v := 6000) dX0_within_21 (by decide) ?_
      refine h_callSI (As := [.int p3, .int 1, .int 6000]) (rest := []) F 3 rfl (lw_S q498 q499 q108 q500) vm_X0_isBetween.2 (by decide) rfl (room_of sc_nil (Nat.le_of_ble_eq_true rfl)) dX0_within_24 (fun r6 Gr6 br6 sr6 F => ?_)
      refine g_if_ne 32 dX0_within_27 (by decide) (fun h14 => ?_) (fun h14 => ?_)
      · have F := F.1 h14
        refine g_aload_n dX0_within_32 rfl 0 rfl ?_
        refine g_iload_n dX0_within_33 rfl 1 rfl ?_
        obtain ⟨c9, F⟩ := F
        refine h_callVV (ci := 0) (C := RX0) (T := TX0) (N := 25) (As := [.int p1]) (rest := []) F 1 rfl rfl (lw_V q1130 q1132 qs13 q108 q1133) vm_X0_loadRow (by decide) rfl c9 rfl (room_of sc_nil (Nat.le_of_ble_eq_true rfl)) dX0_within_34 (fun Gr8 br8 sr8 F => ?_)
        refine g_aload_n dX0_within_37 rfl 0 rfl ?_
        refine g_iload_n dX0_within_38 rfl 2 rfl ?_
        refine g_iload_n dX0_within_39 rfl 3 rfl ?_
        obtain ⟨c12, F⟩ := F
        refine h_callVI (ci := 0) (C := RX0) (T := TX0) (N := 25) (As := [.int p2, .int p3]) (rest := []) F 2 rfl rfl (lw_V q1210 q1212 qs27 q108 q1213) vm_X0_rowWithin (by decide) rfl c12 rfl (room_of sc_nil (Nat.le_of_ble_eq_true rfl)) dX0_within_40 (fun r11 Gr11 br11 sr11 F => ?_)
        exact g_iret rfl dX0_within_43 F
      · have F := F.2 h14
        refine g_iconst (v := (-1)) dX0_within_30 (by decide) ?_
        exact g_iret rfl dX0_within_31 F
theorem rX0_home_0 {Γ : GE} {l : Launch} {h MC MS : Nat} {Q : Option Value → GH → Prop} {bc bs : Nat} {G : GH} (x : Nat) (p1 : Int32) (F : (gC G x = kO 0 ∧ cI Γ l h mX0_isCrew [.ref x, .int p1] G bc bs fun r1 Gr1 br1 sr1 => ((¬ r1 = 0 → (gC Gr1 x = kO 0 ∧ cV Γ l h mX0_loadRow [.ref x, .int p1] Gr1 br1 sr1 fun Gr4 br4 sr4 => gC Gr4 x = kO 0 ∧ cI Γ l h mX0_isRowHome [.ref x] Gr4 br4 sr4 fun r7 Gr7 br7 sr7 => ((r7 = 0 → (Q (some (.int 0)) Gr7)) ∧ (¬ r7 = 0 → (Q (some (.int 1)) Gr7))))) ∧ (r1 = 0 → (Q (some (.int (-1))) Gr1))))) : GW Γ l mX0_home h MC MS Q 0 [(0, va_rf (some x)), (1, .int p1)] [] G bc bs := by
  refine g_aload_n dX0_home_0 rfl 0 rfl ?_
  refine g_iload_n dX0_home_1 rfl 1 rfl ?_
  obtain ⟨c2, F⟩ := F
  refine h_callVI (ci := 0) (C := RX0) (T := TX0) (N := 25) (As := [.int p1]) (rest := []) F 1 rfl rfl (lw_V q1122 q1124 qs11 q108 q1125) vm_X0_isCrew (by decide) rfl c2 rfl (room_of sc_nil (Nat.le_of_ble_eq_true rfl)) dX0_home_2 (fun r1 Gr1 br1 sr1 F => ?_)
  refine g_if_ne 10 dX0_home_5 (by decide) (fun h11 => ?_) (fun h11 => ?_)
  · have F := F.1 h11
    refine g_aload_n dX0_home_10 rfl 0 rfl ?_
    refine g_iload_n dX0_home_11 rfl 1 rfl ?_
    obtain ⟨c5, F⟩ := F
    refine h_callVV (ci := 0) (C := RX0) (T := TX0) (N := 25) (As := [.int p1]) (rest := []) F 1 rfl rfl (lw_V q1130 q1132 qs13 q108 q1133) vm_X0_loadRow (by decide) rfl c5 rfl (room_of sc_nil (Nat.le_of_ble_eq_true rfl)) dX0_home_12 (fun Gr4 br4 sr4 F => ?_)
    refine g_aload_n dX0_home_15 rfl 0 rfl ?_
    obtain ⟨c8, F⟩ := F
    refine h_callVI (ci := 0) (C := RX0) (T := TX0) (N := 25) (As := []) (rest := []) F 0 rfl rfl (lw_V q1289 q1291 qs31 q108 q1292) vm_X0_isRowHome (by decide) rfl c8 rfl (room_of sc_nil (Nat.le_of_ble_eq_true rfl)) dX0_home_16 (fun r7 Gr7 br7 sr7 F => ?_)
    refine g_if_eq 26 dX0_home_19 (by decide) (fun h10 => ?_) (fun h10 => ?_)
    · have F := F.1 h10
      refine g_iconst (v := 0) dX0_home_26 (by decide) ?_
      exact g_iret rfl dX0_home_27 F
    · have F := F.2 h10
      refine g_iconst (v := 1) dX0_home_22 (by decide) ?_
      refine g_goto 27 dX0_home_23 (by decide) ?_
      exact g_iret rfl dX0_home_27 F
  · have F := F.2 h11
    refine g_iconst (v := (-1)) dX0_home_8 (by decide) ?_
    exact g_iret rfl dX0_home_9 F
theorem rX0_isRowHome_0 {Γ : GE} {l : Launch} {h MC MS : Nat} {Q : Option Value → GH → Prop} {bc bs : Nat} {G : GH} (x : Nat) (F : (gC G x = kO 0 ∧ (((gI G x 8) = 0 → (Q (some (.int 1)) G)) ∧ (¬ (gI G x 8) = 0 → (cR Γ l h mX0_at [.ref x, .int ((gI G x 8) - 1)] G bc bs fun r2 Gr2 br2 sr2 => ∃ a4, r2 = some a4 ∧ gC Gr2 a4 = kO 3 ∧ gM Gr2 a4 = true ∧ gC Gr2 x = kO 0 ∧ ((¬ (gI Gr2 a4 1) = (gI Gr2 x 9) → (Q (some (.int 0)) Gr2)) ∧ ((gI Gr2 a4 1) = (gI Gr2 x 9) → (Q (some (.int 1)) Gr2)))))))) : GW Γ l mX0_isRowHome h MC MS Q 0 [(0, va_rf (some x))] [] G bc bs := by
  refine g_aload_n dX0_isRowHome_0 rfl 0 rfl ?_
  obtain ⟨c1, F⟩ := F
  refine h_get (v := .int (gI G x 8)) 0 8 (C := RX0) (T := TX0) (N := 25) rfl in_X0 (by decide) q245 (Or.inl rfl) rfl c1 rfl dX0_isRowHome_1 ?_
  refine g_if_eq 27 dX0_isRowHome_4 (by decide) (fun h10 => ?_) (fun h10 => ?_)
  · have F := F.1 h10
    refine g_iconst (v := 1) dX0_isRowHome_27 (by decide) ?_
    refine g_goto 32 dX0_isRowHome_28 (by decide) ?_
    exact g_zret rfl rfl dX0_isRowHome_32 F
  · have F := F.2 h10
    refine g_aload_n dX0_isRowHome_7 rfl 0 rfl ?_
    refine g_aload_n dX0_isRowHome_8 rfl 0 rfl ?_
    refine h_get (v := .int (gI G x 8)) 0 8 (C := RX0) (T := TX0) (N := 25) rfl in_X0 (by decide) q245 (Or.inl rfl) rfl c1 rfl dX0_isRowHome_9 ?_
    refine g_iconst (v := 1) dX0_isRowHome_12 (by decide) ?_
    refine g_isub dX0_isRowHome_13 ?_
    refine h_callVR (ci := 0) (C := RX0) (T := TX0) (N := 25) (As := [.int ((gI G x 8) - 1)]) (rest := []) F 1 rfl rfl (lw_V q1162 q1164 qs21 q108 q1165) vm_X0_at (by decide) rfl c1 rfl (room_of sc_nil (Nat.le_of_ble_eq_true rfl)) dX0_isRowHome_14 (fun r2 Gr2 br2 sr2 F => ?_)
    obtain ⟨a4, e5, F⟩ := F
    obtain ⟨c6, F⟩ := F
    obtain ⟨m7, F⟩ := F
    refine h_getN (host := "CrewPairer") (v := .int (gI Gr2 a4 1)) 3 1 (C := RX4) (T := TX4) (N := 5) rfl in_X4 (by decide) (by decide +kernel) rfl e5 c6 m7 rfl dX0_isRowHome_17 ?_
    refine g_aload_n dX0_isRowHome_20 rfl 0 rfl ?_
    obtain ⟨c8, F⟩ := F
    refine h_get (v := .int (gI Gr2 x 9)) 0 9 (C := RX0) (T := TX0) (N := 25) rfl in_X0 (by decide) q246 (Or.inl rfl) rfl c8 rfl dX0_isRowHome_21 ?_
    refine g_icmp_ne 31 dX0_isRowHome_24 (by decide) (fun h9 => ?_) (fun h9 => ?_)
    · have F := F.1 h9
      refine g_iconst (v := 0) dX0_isRowHome_31 (by decide) ?_
      exact g_zret rfl rfl dX0_isRowHome_32 F
    · have F := F.2 h9
      refine g_iconst (v := 1) dX0_isRowHome_27 (by decide) ?_
      refine g_goto 32 dX0_isRowHome_28 (by decide) ?_
      exact g_zret rfl rfl dX0_isRowHome_32 F
theorem rX0_pairings_0 {Γ : GE} {l : Launch} {h MC MS : Nat} {Q : Option Value → GH → Prop} {bc bs : Nat} {G : GH} (x : Nat) (p1 : Int32) (F : (gC G x = kO 0 ∧ cI Γ l h mX0_isCrew [.ref x, .int p1] G bc bs fun r1 Gr1 br1 sr1 => ((¬ r1 = 0 → (gC Gr1 x = kO 0 ∧ cV Γ l h mX0_loadRow [.ref x, .int p1] Gr1 br1 sr1 fun Gr4 br4 sr4 => gC Gr4 x = kO 0 ∧ cV Γ l h mX0_findDuties [.ref x] Gr4 br4 sr4 fun Gr7 br7 sr7 => GW Γ l mX0_pairings h MC MS Q 23 [(0, va_rf (some x)), (1, .int p1), (2, .int 0), (3, .int 0)] [] Gr7 br7 sr7)) ∧ (r1 = 0 → (Q (some (.int (-1))) Gr1))))) : GW Γ l mX0_pairings h MC MS Q 0 [(0, va_rf (some x)), (1, .int p1)] [] G bc bs := by
  refine g_aload_n dX0_pairings_0 rfl 0 rfl ?_
  refine g_iload_n dX0_pairings_1 rfl 1 rfl ?_
  obtain ⟨c2, F⟩ := F
  refine h_callVI (ci := 0) (C := RX0) (T := TX0) (N := 25) (As := [.int p1]) (rest := []) F 1 rfl rfl (lw_V q1122 q1124 qs11 q108 q1125) vm_X0_isCrew (by decide) rfl c2 rfl (room_of sc_nil (Nat.le_of_ble_eq_true rfl)) dX0_pairings_2 (fun r1 Gr1 br1 sr1 F => ?_)
  refine g_if_ne 10 dX0_pairings_5 (by decide) (fun h10 => ?_) (fun h10 => ?_)
  · have F := F.1 h10
    refine g_aload_n dX0_pairings_10 rfl 0 rfl ?_
    refine g_iload_n dX0_pairings_11 rfl 1 rfl ?_
    obtain ⟨c5, F⟩ := F
    refine h_callVV (ci := 0) (C := RX0) (T := TX0) (N := 25) (As := [.int p1]) (rest := []) F 1 rfl rfl (lw_V q1130 q1132 qs13 q108 q1133) vm_X0_loadRow (by decide) rfl c5 rfl (room_of sc_nil (Nat.le_of_ble_eq_true rfl)) dX0_pairings_12 (fun Gr4 br4 sr4 F => ?_)
    refine g_aload_n dX0_pairings_15 rfl 0 rfl ?_
    obtain ⟨c8, F⟩ := F
    refine h_callVV (ci := 0) (C := RX0) (T := TX0) (N := 25) (As := []) (rest := []) F 0 rfl rfl (lw_V q1154 q1156 qs19 q108 q1157) vm_X0_findDuties (by decide) rfl c8 rfl (room_of sc_nil (Nat.le_of_ble_eq_true rfl)) dX0_pairings_16 (fun Gr7 br7 sr7 F => ?_)
    refine g_iconst (v := 0) dX0_pairings_19 (by decide) ?_
    refine s_istore_n (lv' := [(0, va_rf (some x)), (1, .int p1), (2, .int 0)]) (cat_R (cat_I cat_nil)) dX0_pairings_20 rfl (by decide) rfl [1, 2, 0] rfl ?_
    refine g_iconst (v := 0) dX0_pairings_21 (by decide) ?_
    refine s_istore_n (lv' := [(0, va_rf (some x)), (1, .int p1), (2, .int 0), (3, .int 0)]) (cat_R (cat_I (cat_I cat_nil))) dX0_pairings_22 rfl (by decide) rfl [1, 2, 3, 0] rfl ?_
    exact F
  · have F := F.2 h10
    refine g_iconst (v := (-1)) dX0_pairings_8 (by decide) ?_
    exact g_iret rfl dX0_pairings_9 F
theorem rX0_pairings_23 {Γ : GE} {l : Launch} {h MC MS : Nat} {Q : Option Value → GH → Prop} {bc bs : Nat} {G : GH} (x : Nat) (p1 : Int32) (p2 : Int32) (p3 : Int32) (F : (gC G x = kO 0 ∧ (((gI G x 10) ≤ p3 → (Q (some (.int p2)) G)) ∧ (¬ (gI G x 10) ≤ p3 → (cI Γ l h mX0_dutyEnd [.ref x, .int p3] G bc bs fun r2 Gr2 br2 sr2 => gC Gr2 x = kO 0 ∧ cR Γ l h mX0_at [.ref x, .int (r2 - 1)] Gr2 br2 sr2 fun r4 Gr4 br4 sr4 => ∃ a7, r4 = some a7 ∧ gC Gr4 a7 = kO 3 ∧ gM Gr4 a7 = true ∧ gC Gr4 x = kO 0 ∧ ((¬ (gI Gr4 a7 1) = (gI Gr4 x 9) → (GW Γ l mX0_pairings h MC MS Q 23 [(0, va_rf (some x)), (1, .int p1), (2, .int (p2 + 0)), (3, .int (p3 + 1))] [] Gr4 br4 sr4)) ∧ ((gI Gr4 a7 1) = (gI Gr4 x 9) → (GW Γ l mX0_pairings h MC MS Q 23 [(0, va_rf (some x)), (1, .int p1), (2, .int (p2 + 1)), (3, .int (p3 + 1))] [] Gr4 br4 sr4)))))))) : GW Γ l mX0_pairings h MC MS Q 23 [(0, va_rf (some x)), (1, .int p1), (2, .int p2), (3, .int p3)] [] G bc bs := by
  refine g_iload_n dX0_pairings_23 rfl 3 rfl ?_
  refine g_aload_n dX0_pairings_24 rfl 0 rfl ?_
  obtain ⟨c1, F⟩ := F
  refine h_get (v := .int (gI G x 10)) 0 10 (C := RX0) (T := TX0) (N := 25) rfl in_X0 (by decide) q247 (Or.inl rfl) rfl c1 rfl dX0_pairings_25 ?_
  refine g_icmp_ge 66 dX0_pairings_28 (by decide) (fun h13 => ?_) (fun h13 => ?_)
  · have F := F.1 h13
    refine g_iload_n dX0_pairings_66 rfl 2 rfl ?_
    exact g_iret rfl dX0_pairings_67 F
  · have F := F.2 h13
    refine g_iload_n dX0_pairings_31 rfl 2 rfl ?_
    refine g_aload_n dX0_pairings_32 rfl 0 rfl ?_
    refine g_aload_n dX0_pairings_33 rfl 0 rfl ?_
    refine g_iload_n dX0_pairings_34 rfl 3 rfl ?_
    refine h_callVI (ci := 0) (C := RX0) (T := TX0) (N := 25) (As := [.int p3]) (rest := [va_rf (some x), .int p2]) F 1 rfl rfl (lw_V q1178 q1180 qs25 q108 q1181) vm_X0_dutyEnd (by decide) rfl c1 rfl (room_of (sc_R (sc_I sc_nil)) (Nat.le_of_ble_eq_true rfl)) dX0_pairings_35 (fun r2 Gr2 br2 sr2 F => ?_)
    refine g_iconst (v := 1) dX0_pairings_38 (by decide) ?_
    refine g_isub dX0_pairings_39 ?_
    obtain ⟨c5, F⟩ := F
    refine h_callVR (ci := 0) (C := RX0) (T := TX0) (N := 25) (As := [.int (r2 - 1)]) (rest := [.int p2]) F 1 rfl rfl (lw_V q1162 q1164 qs21 q108 q1165) vm_X0_at (by decide) rfl c5 rfl (room_of (sc_I sc_nil) (Nat.le_of_ble_eq_true rfl)) dX0_pairings_40 (fun r4 Gr4 br4 sr4 F => ?_)
    obtain ⟨a7, e8, F⟩ := F
    obtain ⟨c9, F⟩ := F
    obtain ⟨m10, F⟩ := F
    refine h_getN (host := "CrewPairer") (v := .int (gI Gr4 a7 1)) 3 1 (C := RX4) (T := TX4) (N := 5) rfl in_X4 (by decide) (by decide +kernel) rfl e8 c9 m10 rfl dX0_pairings_43 ?_
    refine g_aload_n dX0_pairings_46 rfl 0 rfl ?_
    obtain ⟨c11, F⟩ := F
    refine h_get (v := .int (gI Gr4 x 9)) 0 9 (C := RX0) (T := TX0) (N := 25) rfl in_X0 (by decide) q246 (Or.inl rfl) rfl c11 rfl dX0_pairings_47 ?_
    refine g_icmp_ne 57 dX0_pairings_50 (by decide) (fun h12 => ?_) (fun h12 => ?_)
    · have F := F.1 h12
      refine g_iconst (v := 0) dX0_pairings_57 (by decide) ?_
      refine g_iadd dX0_pairings_58 ?_
      refine s_istore_n (lv' := [(0, va_rf (some x)), (1, .int p1), (2, .int (p2 + 0)), (3, .int p3)]) (cat_R (cat_I (cat_I (cat_I cat_nil)))) dX0_pairings_59 rfl (by decide) rfl [1, 2, 0, 3] rfl ?_
      refine s_iinc (v := (p3 + 1)) (lv' := [(0, va_rf (some x)), (1, .int p1), (2, .int (p2 + 0)), (3, .int (p3 + 1))]) (cat_R (cat_I (cat_I (cat_I cat_nil)))) dX0_pairings_60 (k0 := 3) rfl rfl (by decide) rfl [1, 2, 3, 0] rfl ?_
      refine g_goto 23 dX0_pairings_63 (by decide) ?_
      exact F
    · have F := F.2 h12
      refine g_iconst (v := 1) dX0_pairings_53 (by decide) ?_
      refine g_goto 58 dX0_pairings_54 (by decide) ?_
      refine g_iadd dX0_pairings_58 ?_
      refine s_istore_n (lv' := [(0, va_rf (some x)), (1, .int p1), (2, .int (p2 + 1)), (3, .int p3)]) (cat_R (cat_I (cat_I (cat_I cat_nil)))) dX0_pairings_59 rfl (by decide) rfl [1, 2, 0, 3] rfl ?_
      refine s_iinc (v := (p3 + 1)) (lv' := [(0, va_rf (some x)), (1, .int p1), (2, .int (p2 + 1)), (3, .int (p3 + 1))]) (cat_R (cat_I (cat_I (cat_I cat_nil)))) dX0_pairings_60 (k0 := 3) rfl rfl (by decide) rfl [1, 2, 3, 0] rfl ?_
      refine g_goto 23 dX0_pairings_63 (by decide) ?_
      exact F
theorem rX0_cost_0 {Γ : GE} {l : Launch} {h MC MS : Nat} {Q : Option Value → GH → Prop} {bc bs : Nat} {G : GH} (x : Nat) (p1 : Int32) (p2 : Int32) (F : ((p1 = (-1) → (GW Γ l mX0_cost h MC MS Q 13 [(0, va_rf (some x)), (1, .int p1), (2, .int p2)] [] G bc bs)) ∧ (¬ p1 = (-1) → (gC G x = kO 0 ∧ cI Γ l h mX0_isCrew [.ref x, .int p1] G bc bs fun r1 Gr1 br1 sr1 => ((r1 = 0 → (Q (some (.int (-1))) Gr1)) ∧ (¬ r1 = 0 → (GW Γ l mX0_cost h MC MS Q 13 [(0, va_rf (some x)), (1, .int p1), (2, .int p2)] [] Gr1 br1 sr1))))))) : GW Γ l mX0_cost h MC MS Q 0 [(0, va_rf (some x)), (1, .int p1), (2, .int p2)] [] G bc bs := by
  refine g_iload_n dX0_cost_0 rfl 1 rfl ?_
  refine g_iconst (v := (-1)) dX0_cost_1 (by decide) ?_
  refine g_icmp_eq 13 dX0_cost_2 (by decide) (fun h5 => ?_) (fun h5 => ?_)
  · have F := F.1 h5
    exact F
  · have F := F.2 h5
    refine g_aload_n dX0_cost_5 rfl 0 rfl ?_
    refine g_iload_n dX0_cost_6 rfl 1 rfl ?_
    obtain ⟨c2, F⟩ := F
    refine h_callVI (ci := 0) (C := RX0) (T := TX0) (N := 25) (As := [.int p1]) (rest := []) F 1 rfl rfl (lw_V q1122 q1124 qs11 q108 q1125) vm_X0_isCrew (by decide) rfl c2 rfl (room_of sc_nil (Nat.le_of_ble_eq_true rfl)) dX0_cost_7 (fun r1 Gr1 br1 sr1 F => ?_)
    refine g_if_eq 22 dX0_cost_10 (by decide) (fun h4 => ?_) (fun h4 => ?_)
    · have F := F.1 h4
      refine g_iconst (v := (-1)) dX0_cost_22 (by decide) ?_
      exact g_iret rfl dX0_cost_23 F
    · have F := F.2 h4
      exact F
theorem rX0_cost_13 {Γ : GE} {l : Launch} {h MC MS : Nat} {Q : Option Value → GH → Prop} {bc bs : Nat} {G : GH} (x : Nat) (p1 : Int32) (p2 : Int32) (F : (cI Γ l h mX0_isBetween [.int p2, .int 0, .int 2] G bc bs fun r1 Gr1 br1 sr1 => ((¬ r1 = 0 → ((p1 < 0 → (GW Γ l mX0_cost h MC MS Q 40 [(0, va_rf (some x)), (1, .int p1), (2, .int p2), (3, .int 0), (4, .int 0)] [] Gr1 br1 sr1)) ∧ (¬ p1 < 0 → (gC Gr1 x = kO 0 ∧ cI Γ l h mX0_costOf [.ref x, .int p1, .int p2] Gr1 br1 sr1 fun r3 Gr3 br3 sr3 => Q (some (.int r3)) Gr3)))) ∧ (r1 = 0 → (Q (some (.int (-1))) Gr1))))) : GW Γ l mX0_cost h MC MS Q 13 [(0, va_rf (some x)), (1, .int p1), (2, .int p2)] [] G bc bs := by
  refine g_iload_n dX0_cost_13 rfl 2 rfl ?_
  refine g_iconst (v := 0) dX0_cost_14 (by decide) ?_
  refine g_iconst (v := 2) dX0_cost_15 (by decide) ?_
  refine h_callSI (As := [.int p2, .int 0, .int 2]) (rest := []) F 3 rfl (lw_S q498 q499 q108 q500) vm_X0_isBetween.2 (by decide) rfl (room_of sc_nil (Nat.le_of_ble_eq_true rfl)) dX0_cost_16 (fun r1 Gr1 br1 sr1 F => ?_)
  refine g_if_ne 24 dX0_cost_19 (by decide) (fun h7 => ?_) (fun h7 => ?_)
  · have F := F.1 h7
    refine g_iload_n dX0_cost_24 rfl 1 rfl ?_
    refine g_if_lt 35 dX0_cost_25 (by decide) (fun h6 => ?_) (fun h6 => ?_)
    · have F := F.1 h6
      refine g_iconst (v := 0) dX0_cost_35 (by decide) ?_
      refine s_istore_n (lv' := [(0, va_rf (some x)), (1, .int p1), (2, .int p2), (3, .int 0)]) (cat_R (cat_I (cat_I cat_nil))) dX0_cost_36 rfl (by decide) rfl [1, 2, 3, 0] rfl ?_
      refine g_iconst (v := 0) dX0_cost_37 (by decide) ?_
      refine s_istore (lv' := [(0, va_rf (some x)), (1, .int p1), (2, .int p2), (3, .int 0), (4, .int 0)]) (cat_R (cat_I (cat_I (cat_I cat_nil)))) dX0_cost_38 (by decide) rfl [1, 2, 3, 4, 0] rfl ?_
      exact F
    · have F := F.2 h6
      refine g_aload_n dX0_cost_28 rfl 0 rfl ?_
      refine g_iload_n dX0_cost_29 rfl 1 rfl ?_
      refine g_iload_n dX0_cost_30 rfl 2 rfl ?_
      obtain ⟨c4, F⟩ := F
      refine h_callVI (ci := 0) (C := RX0) (T := TX0) (N := 25) (As := [.int p1, .int p2]) (rest := []) F 2 rfl rfl (lw_V q1301 q1303 qs32 q108 q1304) vm_X0_costOf (by decide) rfl c4 rfl (room_of sc_nil (Nat.le_of_ble_eq_true rfl)) dX0_cost_31 (fun r3 Gr3 br3 sr3 F => ?_)
      exact g_iret rfl dX0_cost_34 F
  · have F := F.2 h7
    refine g_iconst (v := (-1)) dX0_cost_22 (by decide) ?_
    exact g_iret rfl dX0_cost_23 F
theorem rX0_cost_40 {Γ : GE} {l : Launch} {h MC MS : Nat} {Q : Option Value → GH → Prop} {bc bs : Nat} {G : GH} (x : Nat) (p1 : Int32) (p2 : Int32) (p3 : Int32) (p4 : Int32) (F : (gC G x = kO 0 ∧ ∃ a2, (gR G x 0) = some a2 ∧ gC G a2 = kO 2 ∧ gM G a2 = true ∧ ∃ a7, (gR G a2 1) = some a7 ∧ gC G a7 = kO 9 ∧ cI Γ l h mJ2_size [.ref a7] G bc bs fun r6 Gr6 br6 sr6 => ((r6 ≤ p4 → (Q (some (.int p3)) Gr6)) ∧ (¬ r6 ≤ p4 → (gC Gr6 x = kO 0 ∧ cI Γ l h mX0_costOf [.ref x, .int p4, .int p2] Gr6 br6 sr6 fun r11 Gr11 br11 sr11 => GW Γ l mX0_cost h MC MS Q 40 [(0, va_rf (some x)), (1, .int p1), (2, .int p2), (3, .int (p3 + r11)), (4, .int (p4 + 1))] [] Gr11 br11 sr11))))) : GW Γ l mX0_cost h MC MS Q 40 [(0, va_rf (some x)), (1, .int p1), (2, .int p2), (3, .int p3), (4, .int p4)] [] G bc bs := by
  refine g_iload dX0_cost_40 4 rfl ?_
  refine g_aload_n dX0_cost_42 rfl 0 rfl ?_
  obtain ⟨c1, F⟩ := F
  refine h_get (v := va_rf (gR G x 0)) 0 0 (C := RX0) (T := TX0) (N := 25) rfl in_X0 (by decide) q237 (Or.inl rfl) rfl c1 rfl dX0_cost_43 ?_
  obtain ⟨a2, e3, F⟩ := F
  obtain ⟨c4, F⟩ := F
  obtain ⟨m5, F⟩ := F
  refine h_getN (host := "CrewPairer") (v := va_rf (gR G a2 1)) 2 1 (C := RX1) (T := TX1) (N := 3) rfl in_X1 (by decide) (by decide +kernel) rfl e3 c4 m5 rfl dX0_cost_46 ?_
  obtain ⟨a7, e8, F⟩ := F
  obtain ⟨c9, F⟩ := F
  refine h_callVI (ci := 9) (C := RJ2) (T := TJ2) (N := 3) (As := []) (rest := [.int p4]) F 0 rfl rfl (lw_V q480 q328 q329 q112 q330) vm_J2_size (by decide) e8 c9 rfl (room_of (sc_I sc_nil) (Nat.le_of_ble_eq_true rfl)) dX0_cost_49 (fun r6 Gr6 br6 sr6 F => ?_)
  refine g_icmp_ge 71 dX0_cost_52 (by decide) (fun h14 => ?_) (fun h14 => ?_)
  · have F := F.1 h14
    refine g_iload_n dX0_cost_71 rfl 3 rfl ?_
    exact g_iret rfl dX0_cost_72 F
  · have F := F.2 h14
    refine g_iload_n dX0_cost_55 rfl 3 rfl ?_
    refine g_aload_n dX0_cost_56 rfl 0 rfl ?_
    refine g_iload dX0_cost_57 4 rfl ?_
    refine g_iload_n dX0_cost_59 rfl 2 rfl ?_
    obtain ⟨c12, F⟩ := F
    refine h_callVI (ci := 0) (C := RX0) (T := TX0) (N := 25) (As := [.int p4, .int p2]) (rest := [.int p3]) F 2 rfl rfl (lw_V q1301 q1303 qs32 q108 q1304) vm_X0_costOf (by decide) rfl c12 rfl (room_of (sc_I sc_nil) (Nat.le_of_ble_eq_true rfl)) dX0_cost_60 (fun r11 Gr11 br11 sr11 F => ?_)
    refine g_iadd dX0_cost_63 ?_
    refine s_istore_n (lv' := [(0, va_rf (some x)), (1, .int p1), (2, .int p2), (3, .int (p3 + r11)), (4, .int p4)]) (cat_R (cat_I (cat_I (cat_I (cat_I cat_nil))))) dX0_cost_64 rfl (by decide) rfl [1, 2, 3, 0, 4] rfl ?_
    refine s_iinc (v := (p4 + 1)) (lv' := [(0, va_rf (some x)), (1, .int p1), (2, .int p2), (3, .int (p3 + r11)), (4, .int (p4 + 1))]) (cat_R (cat_I (cat_I (cat_I (cat_I cat_nil))))) dX0_cost_65 (k0 := 4) rfl rfl (by decide) rfl [1, 2, 3, 4, 0] rfl ?_
    refine g_goto 40 dX0_cost_68 (by decide) ?_
    exact F
theorem rX0_costOf_0 {Γ : GE} {l : Launch} {h MC MS : Nat} {Q : Option Value → GH → Prop} {bc bs : Nat} {G : GH} (x : Nat) (p1 : Int32) (p2 : Int32) (F : (gC G x = kO 0 ∧ cV Γ l h mX0_loadRow [.ref x, .int p1] G bc bs fun Gr1 br1 sr1 => GW Γ l mX0_costOf h MC MS Q 10 [(0, va_rf (some x)), (1, .int p1), (2, .int p2), (3, .int 0), (4, .int 0)] [] Gr1 br1 sr1)) : GW Γ l mX0_costOf h MC MS Q 0 [(0, va_rf (some x)), (1, .int p1), (2, .int p2)] [] G bc bs := by
  refine g_aload_n dX0_costOf_0 rfl 0 rfl ?_
  refine g_iload_n dX0_costOf_1 rfl 1 rfl ?_
  obtain ⟨c2, F⟩ := F
  refine h_callVV (ci := 0) (C := RX0) (T := TX0) (N := 25) (As := [.int p1]) (rest := []) F 1 rfl rfl (lw_V q1130 q1132 qs13 q108 q1133) vm_X0_loadRow (by decide) rfl c2 rfl (room_of sc_nil (Nat.le_of_ble_eq_true rfl)) dX0_costOf_2 (fun Gr1 br1 sr1 F => ?_)
  refine g_iconst (v := 0) dX0_costOf_5 (by decide) ?_
  refine s_istore_n (lv' := [(0, va_rf (some x)), (1, .int p1), (2, .int p2), (3, .int 0)]) (cat_R (cat_I (cat_I cat_nil))) dX0_costOf_6 rfl (by decide) rfl [1, 2, 3, 0] rfl ?_
  refine g_iconst (v := 0) dX0_costOf_7 (by decide) ?_
  refine s_istore (lv' := [(0, va_rf (some x)), (1, .int p1), (2, .int p2), (3, .int 0), (4, .int 0)]) (cat_R (cat_I (cat_I (cat_I cat_nil)))) dX0_costOf_8 (by decide) rfl [1, 2, 3, 4, 0] rfl ?_
  exact F
theorem rX0_costOf_10 {Γ : GE} {l : Launch} {h MC MS : Nat} {Q : Option Value → GH → Prop} {bc bs : Nat} {G : GH} (x : Nat) (p1 : Int32) (p2 : Int32) (p3 : Int32) (p4 : Int32) (F : (gC G x = kO 0 ∧ (((gI G x 8) ≤ p4 → (cV Γ l h mX0_findDuties [.ref x] G bc bs fun Gr2 br2 sr2 => GW Γ l mX0_costOf h MC MS Q 72 [(0, va_rf (some x)), (1, .int p1), (2, .int p2), (3, .int p3), (4, .int 0), (5, .int 1)] [] Gr2 br2 sr2)) ∧ (¬ (gI G x 8) ≤ p4 → (∃ a4, (gR G x 7) = some a4 ∧ gC G a4 = kA 1 ∧ vp_in p4 (gL G a4) ∧ (((gI G a4 p4.toNatClampNeg) = 0 → (cR Γ l h mX0_at [.ref x, .int p4] G bc bs fun r8 Gr8 br8 sr8 => ∃ a11, r8 = some a11 ∧ gC Gr8 a11 = kO 3 ∧ cI Γ l h mX8_length [.ref a11] Gr8 br8 sr8 fun r10 Gr10 br10 sr10 => gC Gr10 x = kO 0 ∧ ∃ a16, (gR Gr10 x 0) = some a16 ∧ gC Gr10 a16 = kO 2 ∧ gM Gr10 a16 = true ∧ ∃ a20, (gR Gr10 a16 2) = some a20 ∧ gC Gr10 a20 = kA 0 ∧ vp_in 6 (gL Gr10 a20) ∧ GW Γ l mX0_costOf h MC MS Q 10 [(0, va_rf (some x)), (1, .int p1), (2, .int p2), (3, .int (p3 + (r10 * (gI Gr10 a20 (6 : Int32).toNatClampNeg)))), (4, .int (p4 + 1))] [] Gr10 br10 sr10)) ∧ (¬ (gI G a4 p4.toNatClampNeg) = 0 → (GW Γ l mX0_costOf h MC MS Q 10 [(0, va_rf (some x)), (1, .int p1), (2, .int p2), (3, .int (p3 + 0)), (4, .int (p4 + 1))] [] G bc bs)))))))) : GW Γ l mX0_costOf h MC MS Q 10 [(0, va_rf (some x)), (1, .int p1), (2, .int p2), (3, .int p3), (4, .int p4)] [] G bc bs := by
  refine g_iload dX0_costOf_10 4 rfl ?_
  refine g_aload_n dX0_costOf_12 rfl 0 rfl ?_
  obtain ⟨c1, F⟩ := F
  refine h_get (v := .int (gI G x 8)) 0 8 (C := RX0) (T := TX0) (N := 25) rfl in_X0 (by decide) q245 (Or.inl rfl) rfl c1 rfl dX0_costOf_13 ?_
  refine g_icmp_ge 62 dX0_costOf_16 (by decide) (fun h25 => ?_) (fun h25 => ?_)
  · have F := F.1 h25
    refine g_aload_n dX0_costOf_62 rfl 0 rfl ?_
    refine h_callVV (ci := 0) (C := RX0) (T := TX0) (N := 25) (As := []) (rest := []) F 0 rfl rfl (lw_V q1154 q1156 qs19 q108 q1157) vm_X0_findDuties (by decide) rfl c1 rfl (room_of sc_nil (Nat.le_of_ble_eq_true rfl)) dX0_costOf_63 (fun Gr2 br2 sr2 F => ?_)
    refine g_iconst (v := 0) dX0_costOf_66 (by decide) ?_
    refine s_istore (lv' := [(0, va_rf (some x)), (1, .int p1), (2, .int p2), (3, .int p3), (4, .int 0)]) (cat_R (cat_I (cat_I (cat_I (cat_I cat_nil))))) dX0_costOf_67 (by decide) rfl [1, 2, 3, 4, 0] rfl ?_
    refine g_iconst (v := 1) dX0_costOf_69 (by decide) ?_
    refine s_istore (lv' := [(0, va_rf (some x)), (1, .int p1), (2, .int p2), (3, .int p3), (4, .int 0), (5, .int 1)]) (cat_R (cat_I (cat_I (cat_I (cat_I cat_nil))))) dX0_costOf_70 (by decide) rfl [1, 2, 3, 4, 5, 0] rfl ?_
    exact F
  · have F := F.2 h25
    refine g_iload_n dX0_costOf_19 rfl 3 rfl ?_
    refine g_aload_n dX0_costOf_20 rfl 0 rfl ?_
    refine h_get (v := va_rf (gR G x 7)) 0 7 (C := RX0) (T := TX0) (N := 25) rfl in_X0 (by decide) q244 (Or.inl rfl) rfl c1 rfl dX0_costOf_21 ?_
    refine g_iload dX0_costOf_24 4 rfl ?_
    obtain ⟨a4, e5, F⟩ := F
    obtain ⟨c6, F⟩ := F
    obtain ⟨k7, F⟩ := F
    refine h_zald e5 c6 k7 dX0_costOf_26 ?_
    refine g_if_eq 34 dX0_costOf_27 (by decide) (fun h24 => ?_) (fun h24 => ?_)
    · have F := F.1 h24
      refine g_aload_n dX0_costOf_34 rfl 0 rfl ?_
      refine g_iload dX0_costOf_35 4 rfl ?_
      refine h_callVR (ci := 0) (C := RX0) (T := TX0) (N := 25) (As := [.int p4]) (rest := [.int p3]) F 1 rfl rfl (lw_V q1162 q1164 qs21 q108 q1165) vm_X0_at (by decide) rfl c1 rfl (room_of (sc_I sc_nil) (Nat.le_of_ble_eq_true rfl)) dX0_costOf_37 (fun r8 Gr8 br8 sr8 F => ?_)
      obtain ⟨a11, e12, F⟩ := F
      obtain ⟨c13, F⟩ := F
      refine h_callDI (ci := 3) (x := ⟨"CrewPairer$Leg", "length", "()I"⟩) (C := RX4) (T := TX4) (N := 5) (As := []) (rest := [.int p3]) F 0 rfl rfl (by decide +kernel) (by decide +kernel) (by decide +kernel) (by decide +kernel) q1188 q142 q1190 vm_X8_length.2 (by decide) e12 c13 rfl (room_of (sc_I sc_nil) (Nat.le_of_ble_eq_true rfl)) dX0_costOf_40 (fun r10 Gr10 br10 sr10 F => ?_)
      refine g_aload_n dX0_costOf_43 rfl 0 rfl ?_
      obtain ⟨c15, F⟩ := F
      refine h_get (v := va_rf (gR Gr10 x 0)) 0 0 (C := RX0) (T := TX0) (N := 25) rfl in_X0 (by decide) q237 (Or.inl rfl) rfl c15 rfl dX0_costOf_44 ?_
      obtain ⟨a16, e17, F⟩ := F
      obtain ⟨c18, F⟩ := F
      obtain ⟨m19, F⟩ := F
      refine h_getN (host := "CrewPairer") (v := va_rf (gR Gr10 a16 2)) 2 2 (C := RX1) (T := TX1) (N := 3) rfl in_X1 (by decide) (by decide +kernel) rfl e17 c18 m19 rfl dX0_costOf_47 ?_
      refine g_bipush (v := 6) dX0_costOf_50 (by decide) ?_
      obtain ⟨a20, e21, F⟩ := F
      obtain ⟨c22, F⟩ := F
      obtain ⟨k23, F⟩ := F
      refine h_iald e21 c22 k23 dX0_costOf_52 ?_
      refine g_imul dX0_costOf_53 ?_
      refine g_iadd dX0_costOf_54 ?_
      refine s_istore_n (lv' := [(0, va_rf (some x)), (1, .int p1), (2, .int p2), (3, .int (p3 + (r10 * (gI Gr10 a20 (6 : Int32).toNatClampNeg)))), (4, .int p4)]) (cat_R (cat_I (cat_I (cat_I (cat_I cat_nil))))) dX0_costOf_55 rfl (by decide) rfl [1, 2, 3, 0, 4] rfl ?_
      refine s_iinc (v := (p4 + 1)) (lv' := [(0, va_rf (some x)), (1, .int p1), (2, .int p2), (3, .int (p3 + (r10 * (gI Gr10 a20 (6 : Int32).toNatClampNeg)))), (4, .int (p4 + 1))]) (cat_R (cat_I (cat_I (cat_I (cat_I cat_nil))))) dX0_costOf_56 (k0 := 4) rfl rfl (by decide) rfl [1, 2, 3, 4, 0] rfl ?_
      refine g_goto 10 dX0_costOf_59 (by decide) ?_
      exact F
    · have F := F.2 h24
      refine g_iconst (v := 0) dX0_costOf_30 (by decide) ?_
      refine g_goto 54 dX0_costOf_31 (by decide) ?_
      refine g_iadd dX0_costOf_54 ?_
      refine s_istore_n (lv' := [(0, va_rf (some x)), (1, .int p1), (2, .int p2), (3, .int (p3 + 0)), (4, .int p4)]) (cat_R (cat_I (cat_I (cat_I (cat_I cat_nil))))) dX0_costOf_55 rfl (by decide) rfl [1, 2, 3, 0, 4] rfl ?_
      refine s_iinc (v := (p4 + 1)) (lv' := [(0, va_rf (some x)), (1, .int p1), (2, .int p2), (3, .int (p3 + 0)), (4, .int (p4 + 1))]) (cat_R (cat_I (cat_I (cat_I (cat_I cat_nil))))) dX0_costOf_56 (k0 := 4) rfl rfl (by decide) rfl [1, 2, 3, 4, 0] rfl ?_
      refine g_goto 10 dX0_costOf_59 (by decide) ?_
      exact F
theorem rX0_costOf_72 {Γ : GE} {l : Launch} {h MC MS : Nat} {Q : Option Value → GH → Prop} {bc bs : Nat} {G : GH} (x : Nat) (p1 : Int32) (p2 : Int32) (p3 : Int32) (p4 : Int32) (p5 : Int32) (F : (gC G x = kO 0 ∧ (((gI G x 10) ≤ p5 → ((¬ p2 = 0 → ((¬ p2 = 1 → (Q (some (.int (p3 + p4))) G)) ∧ (p2 = 1 → (Q (some (.int p4)) G)))) ∧ (p2 = 0 → (Q (some (.int p3)) G)))) ∧ (¬ (gI G x 10) ≤ p5 → (∃ a4, (gR G x 6) = some a4 ∧ gC G a4 = kA 0 ∧ vp_in p5 (gL G a4) ∧ cR Γ l h mX0_at [.ref x, .int ((gI G a4 p5.toNatClampNeg) - 1)] G bc bs fun r8 Gr8 br8 sr8 => ∃ a10, r8 = some a10 ∧ gC Gr8 a10 = kO 3 ∧ gM Gr8 a10 = true ∧ gC Gr8 x = kO 0 ∧ ((¬ (gI Gr8 a10 1) = (gI Gr8 x 9) → (∃ a15, (gR Gr8 x 0) = some a15 ∧ gC Gr8 a15 = kO 2 ∧ gM Gr8 a15 = true ∧ ∃ a19, (gR Gr8 a15 2) = some a19 ∧ gC Gr8 a19 = kA 0 ∧ vp_in 7 (gL Gr8 a19) ∧ GW Γ l mX0_costOf h MC MS Q 72 [(0, va_rf (some x)), (1, .int p1), (2, .int p2), (3, .int p3), (4, .int (p4 + (gI Gr8 a19 (7 : Int32).toNatClampNeg))), (5, .int (p5 + 1))] [] Gr8 br8 sr8)) ∧ ((gI Gr8 a10 1) = (gI Gr8 x 9) → (GW Γ l mX0_costOf h MC MS Q 72 [(0, va_rf (some x)), (1, .int p1), (2, .int p2), (3, .int p3), (4, .int (p4 + 0)), (5, .int (p5 + 1))] [] Gr8 br8 sr8)))))))) : GW Γ l mX0_costOf h MC MS Q 72 [(0, va_rf (some x)), (1, .int p1), (2, .int p2), (3, .int p3), (4, .int p4), (5, .int p5)] [] G bc bs := by
  refine g_iload dX0_costOf_72 5 rfl ?_
  refine g_aload_n dX0_costOf_74 rfl 0 rfl ?_
  obtain ⟨c1, F⟩ := F
  refine h_get (v := .int (gI G x 10)) 0 10 (C := RX0) (T := TX0) (N := 25) rfl in_X0 (by decide) q247 (Or.inl rfl) rfl c1 rfl dX0_costOf_75 ?_
  refine g_icmp_ge 129 dX0_costOf_78 (by decide) (fun h24 => ?_) (fun h24 => ?_)
  · have F := F.1 h24
    refine g_iload_n dX0_costOf_129 rfl 2 rfl ?_
    refine g_if_ne 137 dX0_costOf_130 (by decide) (fun h3 => ?_) (fun h3 => ?_)
    · have F := F.1 h3
      refine g_iload_n dX0_costOf_137 rfl 2 rfl ?_
      refine g_iconst (v := 1) dX0_costOf_138 (by decide) ?_
      refine g_icmp_ne 147 dX0_costOf_139 (by decide) (fun h2 => ?_) (fun h2 => ?_)
      · have F := F.1 h2
        refine g_iload_n dX0_costOf_147 rfl 3 rfl ?_
        refine g_iload dX0_costOf_148 4 rfl ?_
        refine g_iadd dX0_costOf_150 ?_
        exact g_iret rfl dX0_costOf_151 F
      · have F := F.2 h2
        refine g_iload dX0_costOf_142 4 rfl ?_
        refine g_goto 151 dX0_costOf_144 (by decide) ?_
        exact g_iret rfl dX0_costOf_151 F
    · have F := F.2 h3
      refine g_iload_n dX0_costOf_133 rfl 3 rfl ?_
      refine g_goto 151 dX0_costOf_134 (by decide) ?_
      exact g_iret rfl dX0_costOf_151 F
  · have F := F.2 h24
    refine g_iload dX0_costOf_81 4 rfl ?_
    refine g_aload_n dX0_costOf_83 rfl 0 rfl ?_
    refine g_aload_n dX0_costOf_84 rfl 0 rfl ?_
    refine h_get (v := va_rf (gR G x 6)) 0 6 (C := RX0) (T := TX0) (N := 25) rfl in_X0 (by decide) q243 (Or.inl rfl) rfl c1 rfl dX0_costOf_85 ?_
    refine g_iload dX0_costOf_88 5 rfl ?_
    obtain ⟨a4, e5, F⟩ := F
    obtain ⟨c6, F⟩ := F
    obtain ⟨k7, F⟩ := F
    refine h_iald e5 c6 k7 dX0_costOf_90 ?_
    refine g_iconst (v := 1) dX0_costOf_91 (by decide) ?_
    refine g_isub dX0_costOf_92 ?_
    refine h_callVR (ci := 0) (C := RX0) (T := TX0) (N := 25) (As := [.int ((gI G a4 p5.toNatClampNeg) - 1)]) (rest := [.int p4]) F 1 rfl rfl (lw_V q1162 q1164 qs21 q108 q1165) vm_X0_at (by decide) rfl c1 rfl (room_of (sc_I sc_nil) (Nat.le_of_ble_eq_true rfl)) dX0_costOf_93 (fun r8 Gr8 br8 sr8 F => ?_)
    obtain ⟨a10, e11, F⟩ := F
    obtain ⟨c12, F⟩ := F
    obtain ⟨m13, F⟩ := F
    refine h_getN (host := "CrewPairer") (v := .int (gI Gr8 a10 1)) 3 1 (C := RX4) (T := TX4) (N := 5) rfl in_X4 (by decide) (by decide +kernel) rfl e11 c12 m13 rfl dX0_costOf_96 ?_
    refine g_aload_n dX0_costOf_99 rfl 0 rfl ?_
    obtain ⟨c14, F⟩ := F
    refine h_get (v := .int (gI Gr8 x 9)) 0 9 (C := RX0) (T := TX0) (N := 25) rfl in_X0 (by decide) q246 (Or.inl rfl) rfl c14 rfl dX0_costOf_100 ?_
    refine g_icmp_ne 110 dX0_costOf_103 (by decide) (fun h23 => ?_) (fun h23 => ?_)
    · have F := F.1 h23
      refine g_aload_n dX0_costOf_110 rfl 0 rfl ?_
      refine h_get (v := va_rf (gR Gr8 x 0)) 0 0 (C := RX0) (T := TX0) (N := 25) rfl in_X0 (by decide) q237 (Or.inl rfl) rfl c14 rfl dX0_costOf_111 ?_
      obtain ⟨a15, e16, F⟩ := F
      obtain ⟨c17, F⟩ := F
      obtain ⟨m18, F⟩ := F
      refine h_getN (host := "CrewPairer") (v := va_rf (gR Gr8 a15 2)) 2 2 (C := RX1) (T := TX1) (N := 3) rfl in_X1 (by decide) (by decide +kernel) rfl e16 c17 m18 rfl dX0_costOf_114 ?_
      refine g_bipush (v := 7) dX0_costOf_117 (by decide) ?_
      obtain ⟨a19, e20, F⟩ := F
      obtain ⟨c21, F⟩ := F
      obtain ⟨k22, F⟩ := F
      refine h_iald e20 c21 k22 dX0_costOf_119 ?_
      refine g_iadd dX0_costOf_120 ?_
      refine s_istore (lv' := [(0, va_rf (some x)), (1, .int p1), (2, .int p2), (3, .int p3), (4, .int (p4 + (gI Gr8 a19 (7 : Int32).toNatClampNeg))), (5, .int p5)]) (cat_R (cat_I (cat_I (cat_I (cat_I (cat_I cat_nil)))))) dX0_costOf_121 (by decide) rfl [1, 2, 3, 4, 0, 5] rfl ?_
      refine s_iinc (v := (p5 + 1)) (lv' := [(0, va_rf (some x)), (1, .int p1), (2, .int p2), (3, .int p3), (4, .int (p4 + (gI Gr8 a19 (7 : Int32).toNatClampNeg))), (5, .int (p5 + 1))]) (cat_R (cat_I (cat_I (cat_I (cat_I (cat_I cat_nil)))))) dX0_costOf_123 (k0 := 5) rfl rfl (by decide) rfl [1, 2, 3, 4, 5, 0] rfl ?_
      refine g_goto 72 dX0_costOf_126 (by decide) ?_
      exact F
    · have F := F.2 h23
      refine g_iconst (v := 0) dX0_costOf_106 (by decide) ?_
      refine g_goto 120 dX0_costOf_107 (by decide) ?_
      refine g_iadd dX0_costOf_120 ?_
      refine s_istore (lv' := [(0, va_rf (some x)), (1, .int p1), (2, .int p2), (3, .int p3), (4, .int (p4 + 0)), (5, .int p5)]) (cat_R (cat_I (cat_I (cat_I (cat_I (cat_I cat_nil)))))) dX0_costOf_121 (by decide) rfl [1, 2, 3, 4, 0, 5] rfl ?_
      refine s_iinc (v := (p5 + 1)) (lv' := [(0, va_rf (some x)), (1, .int p1), (2, .int p2), (3, .int p3), (4, .int (p4 + 0)), (5, .int (p5 + 1))]) (cat_R (cat_I (cat_I (cat_I (cat_I (cat_I cat_nil)))))) dX0_costOf_123 (k0 := 5) rfl rfl (by decide) rfl [1, 2, 3, 4, 5, 0] rfl ?_
      refine g_goto 72 dX0_costOf_126 (by decide) ?_
      exact F
theorem rX0_openCount_0 {Γ : GE} {l : Launch} {h MC MS : Nat} {Q : Option Value → GH → Prop} {bc bs : Nat} {G : GH} (x : Nat) (F : (gC G x = kO 0 ∧ cI Γ l h mX0_findOpen [.ref x] G bc bs fun r1 Gr1 br1 sr1 => Q (some (.int r1)) Gr1)) : GW Γ l mX0_openCount h MC MS Q 0 [(0, va_rf (some x))] [] G bc bs := by
  refine g_aload_n dX0_openCount_0 rfl 0 rfl ?_
  obtain ⟨c2, F⟩ := F
  refine h_callVI (ci := 0) (C := RX0) (T := TX0) (N := 25) (As := []) (rest := []) F 0 rfl rfl (lw_V q1309 q1311 qs33 q108 q1312) vm_X0_findOpen (by decide) rfl c2 rfl (room_of sc_nil (Nat.le_of_ble_eq_true rfl)) dX0_openCount_1 (fun r1 Gr1 br1 sr1 F => ?_)
  exact g_iret rfl dX0_openCount_4 F
theorem rX0_findOpen_0 {Γ : GE} {l : Launch} {h MC MS : Nat} {Q : Option Value → GH → Prop} {bc bs : Nat} {G : GH} (x : Nat) (F : (GW Γ l mX0_findOpen h MC MS Q 4 [(0, va_rf (some x)), (1, .int 0), (2, .int 0)] [] G bc bs)) : GW Γ l mX0_findOpen h MC MS Q 0 [(0, va_rf (some x))] [] G bc bs := by
  refine g_iconst (v := 0) dX0_findOpen_0 (by decide) ?_
  refine s_istore_n (lv' := [(0, va_rf (some x)), (1, .int 0)]) (cat_R cat_nil) dX0_findOpen_1 rfl (by decide) rfl [1, 0] rfl ?_
  refine g_iconst (v := 0) dX0_findOpen_2 (by decide) ?_
  refine s_istore_n (lv' := [(0, va_rf (some x)), (1, .int 0), (2, .int 0)]) (cat_R (cat_I cat_nil)) dX0_findOpen_3 rfl (by decide) rfl [1, 2, 0] rfl ?_
  exact F
theorem rX0_findOpen_4 {Γ : GE} {l : Launch} {h MC MS : Nat} {Q : Option Value → GH → Prop} {bc bs : Nat} {G : GH} (x : Nat) (p1 : Int32) (p2 : Int32) (F : (gC G x = kO 0 ∧ ∃ a2, (gR G x 0) = some a2 ∧ gC G a2 = kO 2 ∧ gM G a2 = true ∧ ∃ a7, (gR G a2 0) = some a7 ∧ gC G a7 = kO 9 ∧ cI Γ l h mJ2_size [.ref a7] G bc bs fun r6 Gr6 br6 sr6 => ((r6 ≤ p2 → (Q (some (.int p1)) Gr6)) ∧ (¬ r6 ≤ p2 → (gC Gr6 x = kO 0 ∧ cI Γ l h mX0_isOpen [.ref x, .int p2] Gr6 br6 sr6 fun r11 Gr11 br11 sr11 => ((¬ r11 = 0 → (GW Γ l mX0_findOpen h MC MS Q 31 [(0, va_rf (some x)), (1, .int p1), (2, .int p2), (3, .int p1)] [] Gr11 br11 sr11)) ∧ (r11 = 0 → (GW Γ l mX0_findOpen h MC MS Q 4 [(0, va_rf (some x)), (1, .int p1), (2, .int (p2 + 1))] [] Gr11 br11 sr11)))))))) : GW Γ l mX0_findOpen h MC MS Q 4 [(0, va_rf (some x)), (1, .int p1), (2, .int p2)] [] G bc bs := by
  refine g_iload_n dX0_findOpen_4 rfl 2 rfl ?_
  refine g_aload_n dX0_findOpen_5 rfl 0 rfl ?_
  obtain ⟨c1, F⟩ := F
  refine h_get (v := va_rf (gR G x 0)) 0 0 (C := RX0) (T := TX0) (N := 25) rfl in_X0 (by decide) q237 (Or.inl rfl) rfl c1 rfl dX0_findOpen_6 ?_
  obtain ⟨a2, e3, F⟩ := F
  obtain ⟨c4, F⟩ := F
  obtain ⟨m5, F⟩ := F
  refine h_getN (host := "CrewPairer") (v := va_rf (gR G a2 0)) 2 0 (C := RX1) (T := TX1) (N := 3) rfl in_X1 (by decide) (by decide +kernel) rfl e3 c4 m5 rfl dX0_findOpen_9 ?_
  obtain ⟨a7, e8, F⟩ := F
  obtain ⟨c9, F⟩ := F
  refine h_callVI (ci := 9) (C := RJ2) (T := TJ2) (N := 3) (As := []) (rest := [.int p2]) F 0 rfl rfl (lw_V q480 q328 q329 q112 q330) vm_J2_size (by decide) e8 c9 rfl (room_of (sc_I sc_nil) (Nat.le_of_ble_eq_true rfl)) dX0_findOpen_12 (fun r6 Gr6 br6 sr6 F => ?_)
  refine g_icmp_ge 87 dX0_findOpen_15 (by decide) (fun h15 => ?_) (fun h15 => ?_)
  · have F := F.1 h15
    refine g_iload_n dX0_findOpen_87 rfl 1 rfl ?_
    exact g_iret rfl dX0_findOpen_88 F
  · have F := F.2 h15
    refine g_aload_n dX0_findOpen_18 rfl 0 rfl ?_
    refine g_iload_n dX0_findOpen_19 rfl 2 rfl ?_
    obtain ⟨c12, F⟩ := F
    refine h_callVI (ci := 0) (C := RX0) (T := TX0) (N := 25) (As := [.int p2]) (rest := []) F 1 rfl rfl (lw_V q1313 q1315 qs34 q108 q1316) vm_X0_isOpen (by decide) rfl c12 rfl (room_of sc_nil (Nat.le_of_ble_eq_true rfl)) dX0_findOpen_20 (fun r11 Gr11 br11 sr11 F => ?_)
    refine g_if_ne 29 dX0_findOpen_23 (by decide) (fun h14 => ?_) (fun h14 => ?_)
    · have F := F.1 h14
      refine g_iload_n dX0_findOpen_29 rfl 1 rfl ?_
      refine s_istore_n (lv' := [(0, va_rf (some x)), (1, .int p1), (2, .int p2), (3, .int p1)]) (cat_R (cat_I (cat_I cat_nil))) dX0_findOpen_30 rfl (by decide) rfl [1, 2, 3, 0] rfl ?_
      exact F
    · have F := F.2 h14
      refine g_goto 81 dX0_findOpen_26 (by decide) ?_
      refine s_iinc (v := (p2 + 1)) (lv' := [(0, va_rf (some x)), (1, .int p1), (2, .int (p2 + 1))]) (cat_R (cat_I (cat_I cat_nil))) dX0_findOpen_81 (k0 := 2) rfl rfl (by decide) rfl [1, 2, 0] rfl ?_
      refine g_goto 4 dX0_findOpen_84 (by decide) ?_
      exact F
theorem rX0_findOpen_31 {Γ : GE} {l : Launch} {h MC MS : Nat} {Q : Option Value → GH → Prop} {bc bs : Nat} {G : GH} (x : Nat) (p1 : Int32) (p2 : Int32) (p3 : Int32) (F : ((p3 ≤ 0 → (gC G x = kO 0 ∧ ∃ a2, (gR G x 13) = some a2 ∧ gC G a2 = kA 0 ∧ gM G a2 = true ∧ vp_in p3 (gL G a2) ∧ GW Γ l mX0_findOpen h MC MS Q 4 [(0, va_rf (some x)), (1, .int (p1 + 1)), (2, .int (p2 + 1))] [] (sI G a2 p3.toNatClampNeg p2) bc bs)) ∧ (¬ p3 ≤ 0 → (gC G x = kO 0 ∧ ∃ a8, (gR G x 13) = some a8 ∧ gC G a8 = kA 0 ∧ vp_in (p3 - 1) (gL G a8) ∧ cI Γ l h mX0_isBefore [.ref x, .int p2, .int (gI G a8 (p3 - 1).toNatClampNeg)] G bc bs fun r12 Gr12 br12 sr12 => ((r12 = 0 → (gC Gr12 x = kO 0 ∧ ∃ a15, (gR Gr12 x 13) = some a15 ∧ gC Gr12 a15 = kA 0 ∧ gM Gr12 a15 = true ∧ vp_in p3 (gL Gr12 a15) ∧ GW Γ l mX0_findOpen h MC MS Q 4 [(0, va_rf (some x)), (1, .int (p1 + 1)), (2, .int (p2 + 1))] [] (sI Gr12 a15 p3.toNatClampNeg p2) br12 sr12)) ∧ (¬ r12 = 0 → (gC Gr12 x = kO 0 ∧ ∃ a21, (gR Gr12 x 13) = some a21 ∧ gC Gr12 a21 = kA 0 ∧ vp_in (p3 - 1) (gL Gr12 a21) ∧ gM Gr12 a21 = true ∧ vp_in p3 (gL Gr12 a21) ∧ GW Γ l mX0_findOpen h MC MS Q 31 [(0, va_rf (some x)), (1, .int p1), (2, .int p2), (3, .int (p3 + (-1)))] [] (sI Gr12 a21 p3.toNatClampNeg (gI Gr12 a21 (p3 - 1).toNatClampNeg)) br12 sr12))))))) : GW Γ l mX0_findOpen h MC MS Q 31 [(0, va_rf (some x)), (1, .int p1), (2, .int p2), (3, .int p3)] [] G bc bs := by
  refine g_iload_n dX0_findOpen_31 rfl 3 rfl ?_
  refine g_if_le 71 dX0_findOpen_32 (by decide) (fun h28 => ?_) (fun h28 => ?_)
  · have F := F.1 h28
    refine g_aload_n dX0_findOpen_71 rfl 0 rfl ?_
    obtain ⟨c1, F⟩ := F
    refine h_get (v := va_rf (gR G x 13)) 0 13 (C := RX0) (T := TX0) (N := 25) rfl in_X0 (by decide) q250 (Or.inl rfl) rfl c1 rfl dX0_findOpen_72 ?_
    refine g_iload_n dX0_findOpen_75 rfl 3 rfl ?_
    refine g_iload_n dX0_findOpen_76 rfl 2 rfl ?_
    obtain ⟨a2, e3, F⟩ := F
    obtain ⟨c4, F⟩ := F
    obtain ⟨m5, F⟩ := F
    obtain ⟨k6, F⟩ := F
    refine h_iast e3 c4 m5 k6 dX0_findOpen_77 ?_
    refine s_iinc (v := (p1 + 1)) (lv' := [(0, va_rf (some x)), (1, .int (p1 + 1)), (2, .int p2), (3, .int p3)]) (cat_R (cat_I (cat_I (cat_I cat_nil)))) dX0_findOpen_78 (k0 := 1) rfl rfl (by decide) rfl [1, 0, 2, 3] rfl ?_
    refine s_iinc (v := (p2 + 1)) (lv' := [(0, va_rf (some x)), (1, .int (p1 + 1)), (2, .int (p2 + 1)), (3, .int p3)]) (cat_R (cat_I (cat_I (cat_I cat_nil)))) dX0_findOpen_81 (k0 := 2) rfl rfl (by decide) rfl [1, 2, 0, 3] rfl ?_
    refine g_goto 4 dX0_findOpen_84 (by decide) ?_
    refine GW.lsub (lv' := [(0, va_rf (some x)), (1, .int (p1 + 1)), (2, .int (p2 + 1))]) [0, 1, 2] rfl ?_
    exact F
  · have F := F.2 h28
    refine g_aload_n dX0_findOpen_35 rfl 0 rfl ?_
    refine g_iload_n dX0_findOpen_36 rfl 2 rfl ?_
    refine g_aload_n dX0_findOpen_37 rfl 0 rfl ?_
    obtain ⟨c7, F⟩ := F
    refine h_get (v := va_rf (gR G x 13)) 0 13 (C := RX0) (T := TX0) (N := 25) rfl in_X0 (by decide) q250 (Or.inl rfl) rfl c7 rfl dX0_findOpen_38 ?_
    refine g_iload_n dX0_findOpen_41 rfl 3 rfl ?_
    refine g_iconst (v := 1) dX0_findOpen_42 (by decide) ?_
    refine g_isub dX0_findOpen_43 ?_
    obtain ⟨a8, e9, F⟩ := F
    obtain ⟨c10, F⟩ := F
    obtain ⟨k11, F⟩ := F
    refine h_iald e9 c10 k11 dX0_findOpen_44 ?_
    refine h_callVI (ci := 0) (C := RX0) (T := TX0) (N := 25) (As := [.int p2, .int (gI G a8 (p3 - 1).toNatClampNeg)]) (rest := []) F 2 rfl rfl (lw_V q1142 q1144 qs16 q108 q1145) vm_X0_isBefore (by decide) rfl c7 rfl (room_of sc_nil (Nat.le_of_ble_eq_true rfl)) dX0_findOpen_45 (fun r12 Gr12 br12 sr12 F => ?_)
    refine g_if_eq 71 dX0_findOpen_48 (by decide) (fun h27 => ?_) (fun h27 => ?_)
    · have F := F.1 h27
      refine g_aload_n dX0_findOpen_71 rfl 0 rfl ?_
      obtain ⟨c14, F⟩ := F
      refine h_get (v := va_rf (gR Gr12 x 13)) 0 13 (C := RX0) (T := TX0) (N := 25) rfl in_X0 (by decide) q250 (Or.inl rfl) rfl c14 rfl dX0_findOpen_72 ?_
      refine g_iload_n dX0_findOpen_75 rfl 3 rfl ?_
      refine g_iload_n dX0_findOpen_76 rfl 2 rfl ?_
      obtain ⟨a15, e16, F⟩ := F
      obtain ⟨c17, F⟩ := F
      obtain ⟨m18, F⟩ := F
      obtain ⟨k19, F⟩ := F
      refine h_iast e16 c17 m18 k19 dX0_findOpen_77 ?_
      refine s_iinc (v := (p1 + 1)) (lv' := [(0, va_rf (some x)), (1, .int (p1 + 1)), (2, .int p2), (3, .int p3)]) (cat_R (cat_I (cat_I (cat_I cat_nil)))) dX0_findOpen_78 (k0 := 1) rfl rfl (by decide) rfl [1, 0, 2, 3] rfl ?_
      refine s_iinc (v := (p2 + 1)) (lv' := [(0, va_rf (some x)), (1, .int (p1 + 1)), (2, .int (p2 + 1)), (3, .int p3)]) (cat_R (cat_I (cat_I (cat_I cat_nil)))) dX0_findOpen_81 (k0 := 2) rfl rfl (by decide) rfl [1, 2, 0, 3] rfl ?_
      refine g_goto 4 dX0_findOpen_84 (by decide) ?_
      refine GW.lsub (lv' := [(0, va_rf (some x)), (1, .int (p1 + 1)), (2, .int (p2 + 1))]) [0, 1, 2] rfl ?_
      exact F
    · have F := F.2 h27
      refine g_aload_n dX0_findOpen_51 rfl 0 rfl ?_
      obtain ⟨c20, F⟩ := F
      refine h_get (v := va_rf (gR Gr12 x 13)) 0 13 (C := RX0) (T := TX0) (N := 25) rfl in_X0 (by decide) q250 (Or.inl rfl) rfl c20 rfl dX0_findOpen_52 ?_
      refine g_iload_n dX0_findOpen_55 rfl 3 rfl ?_
      refine g_aload_n dX0_findOpen_56 rfl 0 rfl ?_
      refine h_get (v := va_rf (gR Gr12 x 13)) 0 13 (C := RX0) (T := TX0) (N := 25) rfl in_X0 (by decide) q250 (Or.inl rfl) rfl c20 rfl dX0_findOpen_57 ?_
      refine g_iload_n dX0_findOpen_60 rfl 3 rfl ?_
      refine g_iconst (v := 1) dX0_findOpen_61 (by decide) ?_
      refine g_isub dX0_findOpen_62 ?_
      obtain ⟨a21, e22, F⟩ := F
      obtain ⟨c23, F⟩ := F
      obtain ⟨k24, F⟩ := F
      refine h_iald e22 c23 k24 dX0_findOpen_63 ?_
      obtain ⟨m25, F⟩ := F
      obtain ⟨k26, F⟩ := F
      refine h_iast e22 c23 m25 k26 dX0_findOpen_64 ?_
      refine s_iinc (v := (p3 + (-1))) (lv' := [(0, va_rf (some x)), (1, .int p1), (2, .int p2), (3, .int (p3 + (-1)))]) (cat_R (cat_I (cat_I (cat_I cat_nil)))) dX0_findOpen_65 (k0 := 3) rfl rfl (by decide) rfl [1, 2, 3, 0] rfl ?_
      refine g_goto 31 dX0_findOpen_68 (by decide) ?_
      exact F
theorem rX0_isOpen_0 {Γ : GE} {l : Launch} {h MC MS : Nat} {Q : Option Value → GH → Prop} {bc bs : Nat} {G : GH} (x : Nat) (p1 : Int32) (F : (gC G x = kO 0 ∧ cR Γ l h mX0_legOf [.ref x, .int p1] G bc bs fun r1 Gr1 br1 sr1 => ∃ a4, r1 = some a4 ∧ gC Gr1 a4 = kO 3 ∧ gM Gr1 a4 = true ∧ ((¬ (gI Gr1 a4 4) = 0 → (Q (some (.int 0)) Gr1)) ∧ ((gI Gr1 a4 4) = 0 → (gC Gr1 x = kO 0 ∧ cI Γ l h mX0_flownBy [.ref x, .int p1] Gr1 br1 sr1 fun r8 Gr8 br8 sr8 => (((0 : Int32) ≤ r8 → (Q (some (.int 0)) Gr8)) ∧ (¬ (0 : Int32) ≤ r8 → (Q (some (.int 1)) Gr8)))))))) : GW Γ l mX0_isOpen h MC MS Q 0 [(0, va_rf (some x)), (1, .int p1)] [] G bc bs := by
  refine g_aload_n dX0_isOpen_0 rfl 0 rfl ?_
  refine g_iload_n dX0_isOpen_1 rfl 1 rfl ?_
  obtain ⟨c2, F⟩ := F
  refine h_callVR (ci := 0) (C := RX0) (T := TX0) (N := 25) (As := [.int p1]) (rest := []) F 1 rfl rfl (lw_V q551 q553 qs6 q108 q554) vm_X0_legOf (by decide) rfl c2 rfl (room_of sc_nil (Nat.le_of_ble_eq_true rfl)) dX0_isOpen_2 (fun r1 Gr1 br1 sr1 F => ?_)
  obtain ⟨a4, e5, F⟩ := F
  obtain ⟨c6, F⟩ := F
  obtain ⟨m7, F⟩ := F
  refine h_getN (host := "CrewPairer") (v := .int (gI Gr1 a4 4)) 3 4 (C := RX4) (T := TX4) (N := 5) rfl in_X4 (by decide) (by decide +kernel) rfl e5 c6 m7 rfl dX0_isOpen_5 ?_
  refine g_if_ne 23 dX0_isOpen_8 (by decide) (fun h12 => ?_) (fun h12 => ?_)
  · have F := F.1 h12
    refine g_iconst (v := 0) dX0_isOpen_23 (by decide) ?_
    exact g_zret rfl rfl dX0_isOpen_24 F
  · have F := F.2 h12
    refine g_aload_n dX0_isOpen_11 rfl 0 rfl ?_
    refine g_iload_n dX0_isOpen_12 rfl 1 rfl ?_
    obtain ⟨c9, F⟩ := F
    refine h_callVI (ci := 0) (C := RX0) (T := TX0) (N := 25) (As := [.int p1]) (rest := []) F 1 rfl rfl (lw_V q1088 q1090 qs8 q108 q1091) vm_X0_flownBy (by decide) rfl c9 rfl (room_of sc_nil (Nat.le_of_ble_eq_true rfl)) dX0_isOpen_13 (fun r8 Gr8 br8 sr8 F => ?_)
    refine g_if_ge 23 dX0_isOpen_16 (by decide) (fun h11 => ?_) (fun h11 => ?_)
    · have F := F.1 h11
      refine g_iconst (v := 0) dX0_isOpen_23 (by decide) ?_
      exact g_zret rfl rfl dX0_isOpen_24 F
    · have F := F.2 h11
      refine g_iconst (v := 1) dX0_isOpen_19 (by decide) ?_
      refine g_goto 24 dX0_isOpen_20 (by decide) ?_
      exact g_zret rfl rfl dX0_isOpen_24 F
theorem rX0_open_0 {Γ : GE} {l : Launch} {h MC MS : Nat} {Q : Option Value → GH → Prop} {bc bs : Nat} {G : GH} (x : Nat) (p1 : Int32) (F : (gC G x = kO 0 ∧ cI Γ l h mX0_findOpen [.ref x] G bc bs fun r1 Gr1 br1 sr1 => cI Γ l h mX0_isBetween [.int p1, .int 0, .int (r1 - 1)] Gr1 br1 sr1 fun r4 Gr4 br4 sr4 => ((r4 = 0 → (Q (some (.int (-2))) Gr4)) ∧ (¬ r4 = 0 → (gC Gr4 x = kO 0 ∧ ∃ a7, (gR Gr4 x 13) = some a7 ∧ gC Gr4 a7 = kA 0 ∧ vp_in p1 (gL Gr4 a7) ∧ Q (some (.int (gI Gr4 a7 p1.toNatClampNeg))) Gr4))))) : GW Γ l mX0_open h MC MS Q 0 [(0, va_rf (some x)), (1, .int p1)] [] G bc bs := by
  refine g_iload_n dX0_open_0 rfl 1 rfl ?_
  refine g_iconst (v := 0) dX0_open_1 (by decide) ?_
  refine g_aload_n dX0_open_2 rfl 0 rfl ?_
  obtain ⟨c2, F⟩ := F
  refine h_callVI (ci := 0) (C := RX0) (T := TX0) (N := 25) (As := []) (rest := [.int 0, .int p1]) F 0 rfl rfl (lw_V q1309 q1311 qs33 q108 q1312) vm_X0_findOpen (by decide) rfl c2 rfl (room_of (sc_I (sc_I sc_nil)) (Nat.le_of_ble_eq_true rfl)) dX0_open_3 (fun r1 Gr1 br1 sr1 F => ?_)
  refine g_iconst (v := 1) dX0_open_6 (by decide) ?_
  refine g_isub dX0_open_7 ?_
  refine h_callSI (As := [.int p1, .int 0, .int (r1 - 1)]) (rest := []) F 3 rfl (lw_S q498 q499 q108 q500) vm_X0_isBetween.2 (by decide) rfl (room_of sc_nil (Nat.le_of_ble_eq_true rfl)) dX0_open_8 (fun r4 Gr4 br4 sr4 F => ?_)
  refine g_if_eq 23 dX0_open_11 (by decide) (fun h11 => ?_) (fun h11 => ?_)
  · have F := F.1 h11
    refine g_bipush (v := (-2)) dX0_open_23 (by decide) ?_
    exact g_iret rfl dX0_open_25 F
  · have F := F.2 h11
    refine g_aload_n dX0_open_14 rfl 0 rfl ?_
    obtain ⟨c6, F⟩ := F
    refine h_get (v := va_rf (gR Gr4 x 13)) 0 13 (C := RX0) (T := TX0) (N := 25) rfl in_X0 (by decide) q250 (Or.inl rfl) rfl c6 rfl dX0_open_15 ?_
    refine g_iload_n dX0_open_18 rfl 1 rfl ?_
    obtain ⟨a7, e8, F⟩ := F
    obtain ⟨c9, F⟩ := F
    obtain ⟨k10, F⟩ := F
    refine h_iald e8 c9 k10 dX0_open_19 ?_
    refine g_goto 25 dX0_open_20 (by decide) ?_
    exact g_iret rfl dX0_open_25 F
theorem rX0_delay_0 {Γ : GE} {l : Launch} {h MC MS : Nat} {Q : Option Value → GH → Prop} {bc bs : Nat} {G : GH} (x : Nat) (p1 : Int32) (p2 : Int32) (F : (gC G x = kO 0 ∧ cI Γ l h mX0_isLeg [.ref x, .int p1] G bc bs fun r1 Gr1 br1 sr1 => ((r1 = 0 → (Q (some (.int (-1))) Gr1)) ∧ (¬ r1 = 0 → (cI Γ l h mX0_isBetween [.int p2, .int (-600), .int 600] Gr1 br1 sr1 fun r4 Gr4 br4 sr4 => ((¬ r4 = 0 → (gC Gr4 x = kO 0 ∧ cR Γ l h mX0_legOf [.ref x, .int p1] Gr4 br4 sr4 fun r6 Gr6 br6 sr6 => ∃ a9, r6 = some a9 ∧ gC Gr6 a9 = kO 3 ∧ gM Gr6 a9 = true ∧ ((((gI Gr6 a9 2) + p2) < 0 → (Q (some (.int (-5))) Gr6)) ∧ (¬ ((gI Gr6 a9 2) + p2) < 0 → ((((gI Gr6 a9 3) + p2) ≤ 5999 → (gC Gr6 x = kO 0 ∧ cR Γ l h mX0_keysWithout [.ref x, .int p1] Gr6 br6 sr6 fun r13 Gr13 br13 sr13 => 1 ≤ br13 ∧ 3 ≤ sr13 ∧ ∀ q16, gC Gr13 q16 = 0 → gA Γ q16 → gC (nO Gr13 q16 5) a9 = kO 3 ∧ gM (nO Gr13 q16 5) a9 = true ∧ cV Γ l h mX3_init [.ref q16, .int (gI (nO Gr13 q16 5) a9 0), .int (gI (nO Gr13 q16 5) a9 1), .int ((gI (nO Gr13 q16 5) a9 2) + p2)] (nO Gr13 q16 5) (br13 - 1) (sr13 - 3) fun Gr23 br23 sr23 => ∃ a26, r13 = some a26 ∧ gC Gr23 a26 = kO 10 ∧ cI Γ l h mJ9_contains [.ref a26, va_rf (some q16)] Gr23 br23 sr23 fun r25 Gr25 br25 sr25 => ((r25 = 0 → (gC Gr25 x = kO 0 ∧ cV Γ l h mX0_beginChange [.ref x] Gr25 br25 sr25 fun Gr30 br30 sr30 => gC Gr30 a9 = kO 3 ∧ gM Gr30 a9 = true ∧ GW Γ l mX0_delay h MC MS Q 118 [(0, va_rf (some x)), (1, .int p1), (2, .int p2), (3, va_rf r6), (4, .int 0), (5, .int 0)] [] (sI (sI Gr30 a9 2 ((gI Gr30 a9 2) + p2)) a9 3 ((gI (sI Gr30 a9 2 ((gI Gr30 a9 2) + p2)) a9 3) + p2)) br30 sr30)) ∧ (¬ r25 = 0 → (Q (some (.int (-4))) Gr25))))) ∧ (¬ ((gI Gr6 a9 3) + p2) ≤ 5999 → (Q (some (.int (-5))) Gr6))))))) ∧ (r4 = 0 → (Q (some (.int (-1))) Gr4)))))))) : GW Γ l mX0_delay h MC MS Q 0 [(0, va_rf (some x)), (1, .int p1), (2, .int p2)] [] G bc bs := by
  refine g_aload_n dX0_delay_0 rfl 0 rfl ?_
  refine g_iload_n dX0_delay_1 rfl 1 rfl ?_
  obtain ⟨c2, F⟩ := F
  refine h_callVI (ci := 0) (C := RX0) (T := TX0) (N := 25) (As := [.int p1]) (rest := []) F 1 rfl rfl (lw_V q1084 q1086 qs7 q108 q1087) vm_X0_isLeg (by decide) rfl c2 rfl (room_of sc_nil (Nat.le_of_ble_eq_true rfl)) dX0_delay_2 (fun r1 Gr1 br1 sr1 F => ?_)
  refine g_if_eq 21 dX0_delay_5 (by decide) (fun h39 => ?_) (fun h39 => ?_)
  · have F := F.1 h39
    refine g_iconst (v := (-1)) dX0_delay_21 (by decide) ?_
    exact g_iret rfl dX0_delay_22 F
  · have F := F.2 h39
    refine g_iload_n dX0_delay_8 rfl 2 rfl ?_
    refine g_sipush (v := (-600)) dX0_delay_9 (by decide) ?_
    refine g_sipush (v := 600) dX0_delay_12 (by decide) ?_
    refine h_callSI (As := [.int p2, .int (-600), .int 600]) (rest := []) F 3 rfl (lw_S q498 q499 q108 q500) vm_X0_isBetween.2 (by decide) rfl (room_of sc_nil (Nat.le_of_ble_eq_true rfl)) dX0_delay_15 (fun r4 Gr4 br4 sr4 F => ?_)
    refine g_if_ne 23 dX0_delay_18 (by decide) (fun h38 => ?_) (fun h38 => ?_)
    · have F := F.1 h38
      refine g_aload_n dX0_delay_23 rfl 0 rfl ?_
      refine g_iload_n dX0_delay_24 rfl 1 rfl ?_
      obtain ⟨c7, F⟩ := F
      refine h_callVR (ci := 0) (C := RX0) (T := TX0) (N := 25) (As := [.int p1]) (rest := []) F 1 rfl rfl (lw_V q551 q553 qs6 q108 q554) vm_X0_legOf (by decide) rfl c7 rfl (room_of sc_nil (Nat.le_of_ble_eq_true rfl)) dX0_delay_25 (fun r6 Gr6 br6 sr6 F => ?_)
      refine s_astore_n (lv' := [(0, va_rf (some x)), (1, .int p1), (2, .int p2), (3, va_rf r6)]) (cat_R (cat_I (cat_I cat_nil))) dX0_delay_28 rfl (by decide) rfl [1, 2, 3, 0] rfl ?_
      refine g_aload_n dX0_delay_29 rfl 3 rfl ?_
      obtain ⟨a9, e10, F⟩ := F
      obtain ⟨c11, F⟩ := F
      obtain ⟨m12, F⟩ := F
      refine h_getN (host := "CrewPairer") (v := .int (gI Gr6 a9 2)) 3 2 (C := RX4) (T := TX4) (N := 5) rfl in_X4 (by decide) (by decide +kernel) rfl e10 c11 m12 rfl dX0_delay_30 ?_
      refine g_iload_n dX0_delay_33 rfl 2 rfl ?_
      refine g_iadd dX0_delay_34 ?_
      refine g_if_lt 50 dX0_delay_35 (by decide) (fun h37 => ?_) (fun h37 => ?_)
      · have F := F.1 h37
        refine g_bipush (v := (-5)) dX0_delay_50 (by decide) ?_
        exact g_iret rfl dX0_delay_52 F
      · have F := F.2 h37
        refine g_aload_n dX0_delay_38 rfl 3 rfl ?_
        refine h_getN (host := "CrewPairer") (v := .int (gI Gr6 a9 3)) 3 3 (C := RX4) (T := TX4) (N := 5) rfl in_X4 (by decide) (by decide +kernel) rfl e10 c11 m12 rfl dX0_delay_39 ?_
        refine g_iload_n dX0_delay_42 rfl 2 rfl ?_
        refine g_iadd dX0_delay_43 ?_
        refine g_sipush (v := 5999) dX0_delay_44 (by decide) ?_
        refine g_icmp_le 53 dX0_delay_47 (by decide) (fun h36 => ?_) (fun h36 => ?_)
        · have F := F.1 h36
          refine g_aload_n dX0_delay_53 rfl 0 rfl ?_
          refine g_iload_n dX0_delay_54 rfl 1 rfl ?_
          obtain ⟨c14, F⟩ := F
          refine h_callVR (ci := 0) (C := RX0) (T := TX0) (N := 25) (As := [.int p1]) (rest := []) F 1 rfl rfl (lw_V q502 q504 qs5 q108 q505) vm_X0_keysWithout (by decide) rfl c14 rfl (room_of sc_nil (Nat.le_of_ble_eq_true rfl)) dX0_delay_55 (fun r13 Gr13 br13 sr13 F => ?_)
          obtain ⟨k18, F⟩ := F
          obtain ⟨k19, F⟩ := F
          refine g_new (C := RX3) (T := TX3) (N := 3) 5 rfl in_X3 tyX3_ok nd_X3 q557 q558 q126 k18 k19 dX0_delay_58 (fun q16 z17 z17' => ?_)
          have F := F q16 z17 z17'
          refine g_dup dX0_delay_61 (va_rf_cat _) ?_
          refine g_aload_n dX0_delay_62 rfl 3 rfl ?_
          obtain ⟨c21, F⟩ := F
          obtain ⟨m22, F⟩ := F
          refine h_getN (host := "CrewPairer") (v := .int (gI (nO Gr13 q16 5) a9 0)) 3 0 (C := RX4) (T := TX4) (N := 5) rfl in_X4 (by decide) (by decide +kernel) rfl e10 c21 m22 rfl dX0_delay_63 ?_
          refine g_aload_n dX0_delay_66 rfl 3 rfl ?_
          refine h_getN (host := "CrewPairer") (v := .int (gI (nO Gr13 q16 5) a9 1)) 3 1 (C := RX4) (T := TX4) (N := 5) rfl in_X4 (by decide) (by decide +kernel) rfl e10 c21 m22 rfl dX0_delay_67 ?_
          refine g_aload_n dX0_delay_70 rfl 3 rfl ?_
          refine h_getN (host := "CrewPairer") (v := .int (gI (nO Gr13 q16 5) a9 2)) 3 2 (C := RX4) (T := TX4) (N := 5) rfl in_X4 (by decide) (by decide +kernel) rfl e10 c21 m22 rfl dX0_delay_71 ?_
          refine g_iload_n dX0_delay_74 rfl 2 rfl ?_
          refine g_iadd dX0_delay_75 ?_
          refine h_callIV (As := [.int (gI (nO Gr13 q16 5) a9 0), .int (gI (nO Gr13 q16 5) a9 1), .int ((gI (nO Gr13 q16 5) a9 2) + p2)]) (rest := [va_rf (some q16), va_rf r13]) F 3 rfl rfl (lw_meth q561) q126 q559 q560 rfl vm_X3_init.2 (by decide) rfl rfl (room_of (sc_R (sc_R sc_nil)) (Nat.le_of_ble_eq_true rfl)) dX0_delay_76 (fun Gr23 br23 sr23 F => ?_)
          obtain ⟨a26, e27, F⟩ := F
          obtain ⟨c28, F⟩ := F
          refine h_callVI (ci := 10) (C := RJ9) (T := TJ9) (N := 1) (As := [va_rf (some q16)]) (rest := []) F 1 rfl rfl (lw_V q1048 q1049 q1050 q121 q1051) vm_J9_contains (by decide) e27 c28 rfl (room_of sc_nil (Nat.le_of_ble_eq_true rfl)) dX0_delay_79 (fun r25 Gr25 br25 sr25 F => ?_)
          refine g_if_eq 88 dX0_delay_82 (by decide) (fun h35 => ?_) (fun h35 => ?_)
          · have F := F.1 h35
            refine g_aload_n dX0_delay_88 rfl 0 rfl ?_
            obtain ⟨c31, F⟩ := F
            refine h_callVV (ci := 0) (C := RX0) (T := TX0) (N := 25) (As := []) (rest := []) F 0 rfl rfl (lw_V q485 q487 qs3 q108 q488) vm_X0_beginChange (by decide) rfl c31 rfl (room_of sc_nil (Nat.le_of_ble_eq_true rfl)) dX0_delay_89 (fun Gr30 br30 sr30 F => ?_)
            refine g_aload_n dX0_delay_92 rfl 3 rfl ?_
            refine g_dup dX0_delay_93 (va_rf_cat _) ?_
            obtain ⟨c33, F⟩ := F
            obtain ⟨m34, F⟩ := F
            refine h_getN (host := "CrewPairer") (v := .int (gI Gr30 a9 2)) 3 2 (C := RX4) (T := TX4) (N := 5) rfl in_X4 (by decide) (by decide +kernel) rfl e10 c33 m34 rfl dX0_delay_94 ?_
            refine g_iload_n dX0_delay_97 rfl 2 rfl ?_
            refine g_iadd dX0_delay_98 ?_
            refine h_putIN (host := "CrewPairer") (mi := mX0_delay) 3 2 (C := RX4) (T := TX4) (N := 5) rfl in_X4 tyX4_ok nmX4 (by decide) (by decide +kernel) rfl rfl rfl e10 c33 m34 rfl rfl dX0_delay_99 ?_
            refine g_aload_n dX0_delay_102 rfl 3 rfl ?_
            refine g_dup dX0_delay_103 (va_rf_cat _) ?_
            refine h_getN (host := "CrewPairer") (v := .int (gI (sI Gr30 a9 2 ((gI Gr30 a9 2) + p2)) a9 3)) 3 3 (C := RX4) (T := TX4) (N := 5) rfl in_X4 (by decide) (by decide +kernel) rfl e10 c33 m34 rfl dX0_delay_104 ?_
            refine g_iload_n dX0_delay_107 rfl 2 rfl ?_
            refine g_iadd dX0_delay_108 ?_
            refine h_putIN (host := "CrewPairer") (mi := mX0_delay) 3 3 (C := RX4) (T := TX4) (N := 5) rfl in_X4 tyX4_ok nmX4 (by decide) (by decide +kernel) rfl rfl rfl e10 c33 m34 rfl rfl dX0_delay_109 ?_
            refine g_iconst (v := 0) dX0_delay_112 (by decide) ?_
            refine s_istore (lv' := [(0, va_rf (some x)), (1, .int p1), (2, .int p2), (3, va_rf r6), (4, .int 0)]) (cat_R (cat_I (cat_I (cat_R cat_nil)))) dX0_delay_113 (by decide) rfl [1, 2, 3, 4, 0] rfl ?_
            refine g_iconst (v := 0) dX0_delay_115 (by decide) ?_
            refine s_istore (lv' := [(0, va_rf (some x)), (1, .int p1), (2, .int p2), (3, va_rf r6), (4, .int 0), (5, .int 0)]) (cat_R (cat_I (cat_I (cat_R (cat_I cat_nil))))) dX0_delay_116 (by decide) rfl [1, 2, 3, 4, 5, 0] rfl ?_
            exact F
          · have F := F.2 h35
            refine g_bipush (v := (-4)) dX0_delay_85 (by decide) ?_
            exact g_iret rfl dX0_delay_87 F
        · have F := F.2 h36
          refine g_bipush (v := (-5)) dX0_delay_50 (by decide) ?_
          exact g_iret rfl dX0_delay_52 F
    · have F := F.2 h38
      refine g_iconst (v := (-1)) dX0_delay_21 (by decide) ?_
      exact g_iret rfl dX0_delay_22 F
theorem rX0_delay_118 {Γ : GE} {l : Launch} {h MC MS : Nat} {Q : Option Value → GH → Prop} {bc bs : Nat} {G : GH} (x : Nat) (p1 : Int32) (p2 : Int32) (p3 : Option Nat) (p4 : Int32) (p5 : Int32) (F : (gC G x = kO 0 ∧ ∃ a2, (gR G x 0) = some a2 ∧ gC G a2 = kO 2 ∧ gM G a2 = true ∧ ∃ a7, (gR G a2 1) = some a7 ∧ gC G a7 = kO 9 ∧ cI Γ l h mJ2_size [.ref a7] G bc bs fun r6 Gr6 br6 sr6 => ((r6 ≤ p5 → (Q (some (.int p4)) Gr6)) ∧ (¬ r6 ≤ p5 → (gC Gr6 x = kO 0 ∧ cV Γ l h mX0_reorder [.ref x, .int p5] Gr6 br6 sr6 fun Gr11 br11 sr11 => gC Gr11 x = kO 0 ∧ cI Γ l h mX0_violationsOf [.ref x, .int p5] Gr11 br11 sr11 fun r14 Gr14 br14 sr14 => ((r14 ≤ 0 → (GW Γ l mX0_delay h MC MS Q 118 [(0, va_rf (some x)), (1, .int p1), (2, .int p2), (3, va_rf p3), (4, .int (p4 + 0)), (5, .int (p5 + 1))] [] Gr14 br14 sr14)) ∧ (¬ r14 ≤ 0 → (GW Γ l mX0_delay h MC MS Q 118 [(0, va_rf (some x)), (1, .int p1), (2, .int p2), (3, va_rf p3), (4, .int (p4 + 1)), (5, .int (p5 + 1))] [] Gr14 br14 sr14)))))))) : GW Γ l mX0_delay h MC MS Q 118 [(0, va_rf (some x)), (1, .int p1), (2, .int p2), (3, va_rf p3), (4, .int p4), (5, .int p5)] [] G bc bs := by
  refine g_iload dX0_delay_118 5 rfl ?_
  refine g_aload_n dX0_delay_120 rfl 0 rfl ?_
  obtain ⟨c1, F⟩ := F
  refine h_get (v := va_rf (gR G x 0)) 0 0 (C := RX0) (T := TX0) (N := 25) rfl in_X0 (by decide) q237 (Or.inl rfl) rfl c1 rfl dX0_delay_121 ?_
  obtain ⟨a2, e3, F⟩ := F
  obtain ⟨c4, F⟩ := F
  obtain ⟨m5, F⟩ := F
  refine h_getN (host := "CrewPairer") (v := va_rf (gR G a2 1)) 2 1 (C := RX1) (T := TX1) (N := 3) rfl in_X1 (by decide) (by decide +kernel) rfl e3 c4 m5 rfl dX0_delay_124 ?_
  obtain ⟨a7, e8, F⟩ := F
  obtain ⟨c9, F⟩ := F
  refine h_callVI (ci := 9) (C := RJ2) (T := TJ2) (N := 3) (As := []) (rest := [.int p5]) F 0 rfl rfl (lw_V q480 q328 q329 q112 q330) vm_J2_size (by decide) e8 c9 rfl (room_of (sc_I sc_nil) (Nat.le_of_ble_eq_true rfl)) dX0_delay_127 (fun r6 Gr6 br6 sr6 F => ?_)
  refine g_icmp_ge 164 dX0_delay_130 (by decide) (fun h18 => ?_) (fun h18 => ?_)
  · have F := F.1 h18
    refine g_iload dX0_delay_164 4 rfl ?_
    exact g_iret rfl dX0_delay_166 F
  · have F := F.2 h18
    refine g_aload_n dX0_delay_133 rfl 0 rfl ?_
    refine g_iload dX0_delay_134 5 rfl ?_
    obtain ⟨c12, F⟩ := F
    refine h_callVV (ci := 0) (C := RX0) (T := TX0) (N := 25) (As := [.int p5]) (rest := []) F 1 rfl rfl (lw_V q1325 q1327 qs35 q108 q1328) vm_X0_reorder (by decide) rfl c12 rfl (room_of sc_nil (Nat.le_of_ble_eq_true rfl)) dX0_delay_136 (fun Gr11 br11 sr11 F => ?_)
    refine g_iload dX0_delay_139 4 rfl ?_
    refine g_aload_n dX0_delay_141 rfl 0 rfl ?_
    refine g_iload dX0_delay_142 5 rfl ?_
    obtain ⟨c15, F⟩ := F
    refine h_callVI (ci := 0) (C := RX0) (T := TX0) (N := 25) (As := [.int p5]) (rest := [.int p4]) F 1 rfl rfl (lw_V q1265 q1267 qs29 q108 q1268) vm_X0_violationsOf (by decide) rfl c15 rfl (room_of (sc_I sc_nil) (Nat.le_of_ble_eq_true rfl)) dX0_delay_144 (fun r14 Gr14 br14 sr14 F => ?_)
    refine g_if_le 154 dX0_delay_147 (by decide) (fun h17 => ?_) (fun h17 => ?_)
    · have F := F.1 h17
      refine g_iconst (v := 0) dX0_delay_154 (by decide) ?_
      refine g_iadd dX0_delay_155 ?_
      refine s_istore (lv' := [(0, va_rf (some x)), (1, .int p1), (2, .int p2), (3, va_rf p3), (4, .int (p4 + 0)), (5, .int p5)]) (cat_R (cat_I (cat_I (cat_R (cat_I (cat_I cat_nil)))))) dX0_delay_156 (by decide) rfl [1, 2, 3, 4, 0, 5] rfl ?_
      refine s_iinc (v := (p5 + 1)) (lv' := [(0, va_rf (some x)), (1, .int p1), (2, .int p2), (3, va_rf p3), (4, .int (p4 + 0)), (5, .int (p5 + 1))]) (cat_R (cat_I (cat_I (cat_R (cat_I (cat_I cat_nil)))))) dX0_delay_158 (k0 := 5) rfl rfl (by decide) rfl [1, 2, 3, 4, 5, 0] rfl ?_
      refine g_goto 118 dX0_delay_161 (by decide) ?_
      exact F
    · have F := F.2 h17
      refine g_iconst (v := 1) dX0_delay_150 (by decide) ?_
      refine g_goto 155 dX0_delay_151 (by decide) ?_
      refine g_iadd dX0_delay_155 ?_
      refine s_istore (lv' := [(0, va_rf (some x)), (1, .int p1), (2, .int p2), (3, va_rf p3), (4, .int (p4 + 1)), (5, .int p5)]) (cat_R (cat_I (cat_I (cat_R (cat_I (cat_I cat_nil)))))) dX0_delay_156 (by decide) rfl [1, 2, 3, 4, 0, 5] rfl ?_
      refine s_iinc (v := (p5 + 1)) (lv' := [(0, va_rf (some x)), (1, .int p1), (2, .int p2), (3, va_rf p3), (4, .int (p4 + 1)), (5, .int (p5 + 1))]) (cat_R (cat_I (cat_I (cat_R (cat_I (cat_I cat_nil)))))) dX0_delay_158 (k0 := 5) rfl rfl (by decide) rfl [1, 2, 3, 4, 5, 0] rfl ?_
      refine g_goto 118 dX0_delay_161 (by decide) ?_
      exact F
theorem rX0_reorder_0 {Γ : GE} {l : Launch} {h MC MS : Nat} {Q : Option Value → GH → Prop} {bc bs : Nat} {G : GH} (x : Nat) (p1 : Int32) (F : (gC G x = kO 0 ∧ cR Γ l h mX0_crewOf [.ref x, .int p1] G bc bs fun r1 Gr1 br1 sr1 => gC Gr1 x = kO 0 ∧ cV Γ l h mX0_loadRow [.ref x, .int p1] Gr1 br1 sr1 fun Gr4 br4 sr4 => gC Gr4 x = kO 0 ∧ gM Gr4 x = true ∧ GW Γ l mX0_reorder h MC MS Q 18 [(0, va_rf (some x)), (1, .int p1), (2, va_rf r1), (3, .int 0)] [] (sI Gr4 x 8 0) br4 sr4)) : GW Γ l mX0_reorder h MC MS Q 0 [(0, va_rf (some x)), (1, .int p1)] [] G bc bs := by
  refine g_aload_n dX0_reorder_0 rfl 0 rfl ?_
  refine g_iload_n dX0_reorder_1 rfl 1 rfl ?_
  obtain ⟨c2, F⟩ := F
  refine h_callVR (ci := 0) (C := RX0) (T := TX0) (N := 25) (As := [.int p1]) (rest := []) F 1 rfl rfl (lw_V q1092 q1094 qs9 q108 q1095) vm_X0_crewOf (by decide) rfl c2 rfl (room_of sc_nil (Nat.le_of_ble_eq_true rfl)) dX0_reorder_2 (fun r1 Gr1 br1 sr1 F => ?_)
  refine s_astore_n (lv' := [(0, va_rf (some x)), (1, .int p1), (2, va_rf r1)]) (cat_R (cat_I cat_nil)) dX0_reorder_5 rfl (by decide) rfl [1, 2, 0] rfl ?_
  refine g_aload_n dX0_reorder_6 rfl 0 rfl ?_
  refine g_iload_n dX0_reorder_7 rfl 1 rfl ?_
  obtain ⟨c5, F⟩ := F
  refine h_callVV (ci := 0) (C := RX0) (T := TX0) (N := 25) (As := [.int p1]) (rest := []) F 1 rfl rfl (lw_V q1130 q1132 qs13 q108 q1133) vm_X0_loadRow (by decide) rfl c5 rfl (room_of sc_nil (Nat.le_of_ble_eq_true rfl)) dX0_reorder_8 (fun Gr4 br4 sr4 F => ?_)
  refine g_aload_n dX0_reorder_11 rfl 0 rfl ?_
  refine g_iconst (v := 0) dX0_reorder_12 (by decide) ?_
  obtain ⟨c7, F⟩ := F
  obtain ⟨m8, F⟩ := F
  refine h_putI (mi := mX0_reorder) 0 8 (C := RX0) (T := TX0) (N := 25) rfl in_X0 tyX0_ok nmX0 (by decide) q245 (Or.inl rfl) (Or.inl rfl) rfl rfl c7 m8 rfl rfl dX0_reorder_13 ?_
  refine g_iconst (v := 0) dX0_reorder_16 (by decide) ?_
  refine s_istore_n (lv' := [(0, va_rf (some x)), (1, .int p1), (2, va_rf r1), (3, .int 0)]) (cat_R (cat_I (cat_R cat_nil))) dX0_reorder_17 rfl (by decide) rfl [1, 2, 3, 0] rfl ?_
  exact F
theorem rX0_reorder_18 {Γ : GE} {l : Launch} {h MC MS : Nat} {Q : Option Value → GH → Prop} {bc bs : Nat} {G : GH} (x : Nat) (p1 : Int32) (p2 : Option Nat) (p3 : Int32) (F : (∃ a1, p2 = some a1 ∧ gC G a1 = kO 4 ∧ gM G a1 = true ∧ (((gI G a1 3) ≤ p3 → (gC G x = kO 0 ∧ cV Γ l h mX0_storeRow [.ref x, .int p1] G bc bs fun Gr5 br5 sr5 => Q none Gr5)) ∧ (¬ (gI G a1 3) ≤ p3 → (∃ a8, (gR G a1 1) = some a8 ∧ gC G a8 = kA 0 ∧ vp_in p3 (gL G a8) ∧ ∃ a12, (gR G a1 2) = some a12 ∧ gC G a12 = kA 1 ∧ vp_in p3 (gL G a12) ∧ gC G x = kO 0 ∧ cI Γ l h mX0_insert [.ref x, .int (gI G a8 p3.toNatClampNeg), .int (gI G a12 p3.toNatClampNeg)] G bc bs fun r16 Gr16 br16 sr16 => GW Γ l mX0_reorder h MC MS Q 18 [(0, va_rf (some x)), (1, .int p1), (2, va_rf p2), (3, .int (p3 + 1))] [] Gr16 br16 sr16))))) : GW Γ l mX0_reorder h MC MS Q 18 [(0, va_rf (some x)), (1, .int p1), (2, va_rf p2), (3, .int p3)] [] G bc bs := by
  refine g_iload_n dX0_reorder_18 rfl 3 rfl ?_
  refine g_aload_n dX0_reorder_19 rfl 2 rfl ?_
  obtain ⟨a1, e2, F⟩ := F
  obtain ⟨c3, F⟩ := F
  obtain ⟨m4, F⟩ := F
  refine h_getN (host := "CrewPairer") (v := .int (gI G a1 3)) 4 3 (C := RX5) (T := TX5) (N := 6) rfl in_X5 (by decide) (by decide +kernel) rfl e2 c3 m4 rfl dX0_reorder_20 ?_
  refine g_icmp_ge 49 dX0_reorder_23 (by decide) (fun h19 => ?_) (fun h19 => ?_)
  · have F := F.1 h19
    refine g_aload_n dX0_reorder_49 rfl 0 rfl ?_
    refine g_iload_n dX0_reorder_50 rfl 1 rfl ?_
    obtain ⟨c6, F⟩ := F
    refine h_callVV (ci := 0) (C := RX0) (T := TX0) (N := 25) (As := [.int p1]) (rest := []) F 1 rfl rfl (lw_V q1221 q1223 qs28 q108 q1224) vm_X0_storeRow (by decide) rfl c6 rfl (room_of sc_nil (Nat.le_of_ble_eq_true rfl)) dX0_reorder_51 (fun Gr5 br5 sr5 F => ?_)
    exact g_vret rfl dX0_reorder_54 F
  · have F := F.2 h19
    refine g_aload_n dX0_reorder_26 rfl 0 rfl ?_
    refine g_aload_n dX0_reorder_27 rfl 2 rfl ?_
    refine h_getN (host := "CrewPairer") (v := va_rf (gR G a1 1)) 4 1 (C := RX5) (T := TX5) (N := 6) rfl in_X5 (by decide) (by decide +kernel) rfl e2 c3 m4 rfl dX0_reorder_28 ?_
    refine g_iload_n dX0_reorder_31 rfl 3 rfl ?_
    obtain ⟨a8, e9, F⟩ := F
    obtain ⟨c10, F⟩ := F
    obtain ⟨k11, F⟩ := F
    refine h_iald e9 c10 k11 dX0_reorder_32 ?_
    refine g_aload_n dX0_reorder_33 rfl 2 rfl ?_
    refine h_getN (host := "CrewPairer") (v := va_rf (gR G a1 2)) 4 2 (C := RX5) (T := TX5) (N := 6) rfl in_X5 (by decide) (by decide +kernel) rfl e2 c3 m4 rfl dX0_reorder_34 ?_
    refine g_iload_n dX0_reorder_37 rfl 3 rfl ?_
    obtain ⟨a12, e13, F⟩ := F
    obtain ⟨c14, F⟩ := F
    obtain ⟨k15, F⟩ := F
    refine h_zald e13 c14 k15 dX0_reorder_38 ?_
    obtain ⟨c17, F⟩ := F
    refine h_callVI (ci := 0) (C := RX0) (T := TX0) (N := 25) (As := [.int (gI G a8 p3.toNatClampNeg), .int (gI G a12 p3.toNatClampNeg)]) (rest := []) F 2 rfl rfl (lw_V q1138 q1140 qs15 q108 q1141) vm_X0_insert (by decide) rfl c17 rfl (room_of sc_nil (Nat.le_of_ble_eq_true rfl)) dX0_reorder_39 (fun r16 Gr16 br16 sr16 F => ?_)
    refine g_pop dX0_reorder_42 rfl ?_
    refine s_iinc (v := (p3 + 1)) (lv' := [(0, va_rf (some x)), (1, .int p1), (2, va_rf p2), (3, .int (p3 + 1))]) (cat_R (cat_I (cat_R (cat_I cat_nil)))) dX0_reorder_43 (k0 := 3) rfl rfl (by decide) rfl [1, 2, 3, 0] rfl ?_
    refine g_goto 18 dX0_reorder_46 (by decide) ?_
    exact F
theorem rX0_cancel_0 {Γ : GE} {l : Launch} {h MC MS : Nat} {Q : Option Value → GH → Prop} {bc bs : Nat} {G : GH} (x : Nat) (p1 : Int32) (F : (gC G x = kO 0 ∧ cI Γ l h mX0_isLeg [.ref x, .int p1] G bc bs fun r1 Gr1 br1 sr1 => ((¬ r1 = 0 → (gC Gr1 x = kO 0 ∧ cR Γ l h mX0_legOf [.ref x, .int p1] Gr1 br1 sr1 fun r4 Gr4 br4 sr4 => ∃ a7, r4 = some a7 ∧ gC Gr4 a7 = kO 3 ∧ gM Gr4 a7 = true ∧ (((gI Gr4 a7 4) = 0 → (gC Gr4 x = kO 0 ∧ cV Γ l h mX0_beginChange [.ref x] Gr4 br4 sr4 fun Gr11 br11 sr11 => gC Gr11 x = kO 0 ∧ cR Γ l h mX0_legOf [.ref x, .int p1] Gr11 br11 sr11 fun r14 Gr14 br14 sr14 => ∃ a17, r14 = some a17 ∧ gC Gr14 a17 = kO 3 ∧ gM Gr14 a17 = true ∧ GW Γ l mX0_cancel h MC MS Q 41 [(0, va_rf (some x)), (1, .int p1), (2, .int 0), (3, .int 0)] [] (sI Gr14 a17 4 1) br14 sr14)) ∧ (¬ (gI Gr4 a7 4) = 0 → (Q (some (.int (-2))) Gr4))))) ∧ (r1 = 0 → (Q (some (.int (-1))) Gr1))))) : GW Γ l mX0_cancel h MC MS Q 0 [(0, va_rf (some x)), (1, .int p1)] [] G bc bs := by
  refine g_aload_n dX0_cancel_0 rfl 0 rfl ?_
  refine g_iload_n dX0_cancel_1 rfl 1 rfl ?_
  obtain ⟨c2, F⟩ := F
  refine h_callVI (ci := 0) (C := RX0) (T := TX0) (N := 25) (As := [.int p1]) (rest := []) F 1 rfl rfl (lw_V q1084 q1086 qs7 q108 q1087) vm_X0_isLeg (by decide) rfl c2 rfl (room_of sc_nil (Nat.le_of_ble_eq_true rfl)) dX0_cancel_2 (fun r1 Gr1 br1 sr1 F => ?_)
  refine g_if_ne 10 dX0_cancel_5 (by decide) (fun h22 => ?_) (fun h22 => ?_)
  · have F := F.1 h22
    refine g_aload_n dX0_cancel_10 rfl 0 rfl ?_
    refine g_iload_n dX0_cancel_11 rfl 1 rfl ?_
    obtain ⟨c5, F⟩ := F
    refine h_callVR (ci := 0) (C := RX0) (T := TX0) (N := 25) (As := [.int p1]) (rest := []) F 1 rfl rfl (lw_V q551 q553 qs6 q108 q554) vm_X0_legOf (by decide) rfl c5 rfl (room_of sc_nil (Nat.le_of_ble_eq_true rfl)) dX0_cancel_12 (fun r4 Gr4 br4 sr4 F => ?_)
    obtain ⟨a7, e8, F⟩ := F
    obtain ⟨c9, F⟩ := F
    obtain ⟨m10, F⟩ := F
    refine h_getN (host := "CrewPairer") (v := .int (gI Gr4 a7 4)) 3 4 (C := RX4) (T := TX4) (N := 5) rfl in_X4 (by decide) (by decide +kernel) rfl e8 c9 m10 rfl dX0_cancel_15 ?_
    refine g_if_eq 24 dX0_cancel_18 (by decide) (fun h21 => ?_) (fun h21 => ?_)
    · have F := F.1 h21
      refine g_aload_n dX0_cancel_24 rfl 0 rfl ?_
      obtain ⟨c12, F⟩ := F
      refine h_callVV (ci := 0) (C := RX0) (T := TX0) (N := 25) (As := []) (rest := []) F 0 rfl rfl (lw_V q485 q487 qs3 q108 q488) vm_X0_beginChange (by decide) rfl c12 rfl (room_of sc_nil (Nat.le_of_ble_eq_true rfl)) dX0_cancel_25 (fun Gr11 br11 sr11 F => ?_)
      refine g_aload_n dX0_cancel_28 rfl 0 rfl ?_
      refine g_iload_n dX0_cancel_29 rfl 1 rfl ?_
      obtain ⟨c15, F⟩ := F
      refine h_callVR (ci := 0) (C := RX0) (T := TX0) (N := 25) (As := [.int p1]) (rest := []) F 1 rfl rfl (lw_V q551 q553 qs6 q108 q554) vm_X0_legOf (by decide) rfl c15 rfl (room_of sc_nil (Nat.le_of_ble_eq_true rfl)) dX0_cancel_30 (fun r14 Gr14 br14 sr14 F => ?_)
      refine g_iconst (v := 1) dX0_cancel_33 (by decide) ?_
      obtain ⟨a17, e18, F⟩ := F
      obtain ⟨c19, F⟩ := F
      obtain ⟨m20, F⟩ := F
      refine h_putIN (host := "CrewPairer") (mi := mX0_cancel) 3 4 (C := RX4) (T := TX4) (N := 5) rfl in_X4 tyX4_ok nmX4 (by decide) (by decide +kernel) rfl rfl rfl e18 c19 m20 rfl rfl dX0_cancel_34 ?_
      refine g_iconst (v := 0) dX0_cancel_37 (by decide) ?_
      refine s_istore_n (lv' := [(0, va_rf (some x)), (1, .int p1), (2, .int 0)]) (cat_R (cat_I cat_nil)) dX0_cancel_38 rfl (by decide) rfl [1, 2, 0] rfl ?_
      refine g_iconst (v := 0) dX0_cancel_39 (by decide) ?_
      refine s_istore_n (lv' := [(0, va_rf (some x)), (1, .int p1), (2, .int 0), (3, .int 0)]) (cat_R (cat_I (cat_I cat_nil))) dX0_cancel_40 rfl (by decide) rfl [1, 2, 3, 0] rfl ?_
      exact F
    · have F := F.2 h21
      refine g_bipush (v := (-2)) dX0_cancel_21 (by decide) ?_
      exact g_iret rfl dX0_cancel_23 F
  · have F := F.2 h22
    refine g_iconst (v := (-1)) dX0_cancel_8 (by decide) ?_
    exact g_iret rfl dX0_cancel_9 F
theorem rX0_cancel_41 {Γ : GE} {l : Launch} {h MC MS : Nat} {Q : Option Value → GH → Prop} {bc bs : Nat} {G : GH} (x : Nat) (p1 : Int32) (p2 : Int32) (p3 : Int32) (F : (gC G x = kO 0 ∧ ∃ a2, (gR G x 0) = some a2 ∧ gC G a2 = kO 2 ∧ gM G a2 = true ∧ ∃ a7, (gR G a2 1) = some a7 ∧ gC G a7 = kO 9 ∧ cI Γ l h mJ2_size [.ref a7] G bc bs fun r6 Gr6 br6 sr6 => ((r6 ≤ p3 → (Q (some (.int p2)) Gr6)) ∧ (¬ r6 ≤ p3 → (gC Gr6 x = kO 0 ∧ cR Γ l h mX0_crewOf [.ref x, .int p3] Gr6 br6 sr6 fun r11 Gr11 br11 sr11 => ∃ a15, r11 = some a15 ∧ gC Gr11 a15 = kO 4 ∧ cI Γ l h mX5_find [.ref a15, .int p1] Gr11 br11 sr11 fun r14 Gr14 br14 sr14 => ((r14 < 0 → (GW Γ l mX0_cancel h MC MS Q 41 [(0, va_rf (some x)), (1, .int p1), (2, .int p2), (3, .int (p3 + 1))] [] Gr14 br14 sr14)) ∧ (¬ r14 < 0 → (gC Gr14 x = kO 0 ∧ cR Γ l h mX0_crewOf [.ref x, .int p3] Gr14 br14 sr14 fun r19 Gr19 br19 sr19 => ∃ a23, r19 = some a23 ∧ gC Gr19 a23 = kO 4 ∧ cV Γ l h mX5_removeAt [.ref a23, .int r14] Gr19 br19 sr19 fun Gr22 br22 sr22 => GW Γ l mX0_cancel h MC MS Q 41 [(0, va_rf (some x)), (1, .int p1), (2, .int (p2 + 1)), (3, .int (p3 + 1))] [] Gr22 br22 sr22)))))))) : GW Γ l mX0_cancel h MC MS Q 41 [(0, va_rf (some x)), (1, .int p1), (2, .int p2), (3, .int p3)] [] G bc bs := by
  refine g_iload_n dX0_cancel_41 rfl 3 rfl ?_
  refine g_aload_n dX0_cancel_42 rfl 0 rfl ?_
  obtain ⟨c1, F⟩ := F
  refine h_get (v := va_rf (gR G x 0)) 0 0 (C := RX0) (T := TX0) (N := 25) rfl in_X0 (by decide) q237 (Or.inl rfl) rfl c1 rfl dX0_cancel_43 ?_
  obtain ⟨a2, e3, F⟩ := F
  obtain ⟨c4, F⟩ := F
  obtain ⟨m5, F⟩ := F
  refine h_getN (host := "CrewPairer") (v := va_rf (gR G a2 1)) 2 1 (C := RX1) (T := TX1) (N := 3) rfl in_X1 (by decide) (by decide +kernel) rfl e3 c4 m5 rfl dX0_cancel_46 ?_
  obtain ⟨a7, e8, F⟩ := F
  obtain ⟨c9, F⟩ := F
  refine h_callVI (ci := 9) (C := RJ2) (T := TJ2) (N := 3) (As := []) (rest := [.int p3]) F 0 rfl rfl (lw_V q480 q328 q329 q112 q330) vm_J2_size (by decide) e8 c9 rfl (room_of (sc_I sc_nil) (Nat.le_of_ble_eq_true rfl)) dX0_cancel_49 (fun r6 Gr6 br6 sr6 F => ?_)
  refine g_icmp_ge 90 dX0_cancel_52 (by decide) (fun h28 => ?_) (fun h28 => ?_)
  · have F := F.1 h28
    refine g_iload_n dX0_cancel_90 rfl 2 rfl ?_
    exact g_iret rfl dX0_cancel_91 F
  · have F := F.2 h28
    refine g_aload_n dX0_cancel_55 rfl 0 rfl ?_
    refine g_iload_n dX0_cancel_56 rfl 3 rfl ?_
    obtain ⟨c12, F⟩ := F
    refine h_callVR (ci := 0) (C := RX0) (T := TX0) (N := 25) (As := [.int p3]) (rest := []) F 1 rfl rfl (lw_V q1092 q1094 qs9 q108 q1095) vm_X0_crewOf (by decide) rfl c12 rfl (room_of sc_nil (Nat.le_of_ble_eq_true rfl)) dX0_cancel_57 (fun r11 Gr11 br11 sr11 F => ?_)
    refine g_iload_n dX0_cancel_60 rfl 1 rfl ?_
    obtain ⟨a15, e16, F⟩ := F
    obtain ⟨c17, F⟩ := F
    refine h_callVI (ci := 4) (C := RX5) (T := TX5) (N := 6) (As := [.int p1]) (rest := []) F 1 rfl rfl (lw_V q1096 q1097 q1098 q139 q1099) vm_X5_find (by decide) e16 c17 rfl (room_of sc_nil (Nat.le_of_ble_eq_true rfl)) dX0_cancel_61 (fun r14 Gr14 br14 sr14 F => ?_)
    refine s_istore (lv' := [(0, va_rf (some x)), (1, .int p1), (2, .int p2), (3, .int p3), (4, .int r14)]) (cat_R (cat_I (cat_I (cat_I cat_nil)))) dX0_cancel_64 (by decide) rfl [1, 2, 3, 4, 0] rfl ?_
    refine g_iload dX0_cancel_66 4 rfl ?_
    refine g_if_lt 84 dX0_cancel_68 (by decide) (fun h27 => ?_) (fun h27 => ?_)
    · have F := F.1 h27
      refine s_iinc (v := (p3 + 1)) (lv' := [(0, va_rf (some x)), (1, .int p1), (2, .int p2), (3, .int (p3 + 1)), (4, .int r14)]) (cat_R (cat_I (cat_I (cat_I (cat_I cat_nil))))) dX0_cancel_84 (k0 := 3) rfl rfl (by decide) rfl [1, 2, 3, 0, 4] rfl ?_
      refine g_goto 41 dX0_cancel_87 (by decide) ?_
      refine GW.lsub (lv' := [(0, va_rf (some x)), (1, .int p1), (2, .int p2), (3, .int (p3 + 1))]) [0, 1, 2, 3] rfl ?_
      exact F
    · have F := F.2 h27
      refine g_aload_n dX0_cancel_71 rfl 0 rfl ?_
      refine g_iload_n dX0_cancel_72 rfl 3 rfl ?_
      obtain ⟨c20, F⟩ := F
      refine h_callVR (ci := 0) (C := RX0) (T := TX0) (N := 25) (As := [.int p3]) (rest := []) F 1 rfl rfl (lw_V q1092 q1094 qs9 q108 q1095) vm_X0_crewOf (by decide) rfl c20 rfl (room_of sc_nil (Nat.le_of_ble_eq_true rfl)) dX0_cancel_73 (fun r19 Gr19 br19 sr19 F => ?_)
      refine g_iload dX0_cancel_76 4 rfl ?_
      obtain ⟨a23, e24, F⟩ := F
      obtain ⟨c25, F⟩ := F
      refine h_callVV (ci := 4) (C := RX5) (T := TX5) (N := 6) (As := [.int r14]) (rest := []) F 1 rfl rfl (lw_V q1233 q1234 q1235 q139 q1236) vm_X5_removeAt (by decide) e24 c25 rfl (room_of sc_nil (Nat.le_of_ble_eq_true rfl)) dX0_cancel_78 (fun Gr22 br22 sr22 F => ?_)
      refine s_iinc (v := (p2 + 1)) (lv' := [(0, va_rf (some x)), (1, .int p1), (2, .int (p2 + 1)), (3, .int p3), (4, .int r14)]) (cat_R (cat_I (cat_I (cat_I (cat_I cat_nil))))) dX0_cancel_81 (k0 := 2) rfl rfl (by decide) rfl [1, 2, 0, 3, 4] rfl ?_
      refine s_iinc (v := (p3 + 1)) (lv' := [(0, va_rf (some x)), (1, .int p1), (2, .int (p2 + 1)), (3, .int (p3 + 1)), (4, .int r14)]) (cat_R (cat_I (cat_I (cat_I (cat_I cat_nil))))) dX0_cancel_84 (k0 := 3) rfl rfl (by decide) rfl [1, 2, 3, 0, 4] rfl ?_
      refine g_goto 41 dX0_cancel_87 (by decide) ?_
      refine GW.lsub (lv' := [(0, va_rf (some x)), (1, .int p1), (2, .int (p2 + 1)), (3, .int (p3 + 1))]) [0, 1, 2, 3] rfl ?_
      exact F
theorem rX0_setReserve_0 {Γ : GE} {l : Launch} {h MC MS : Nat} {Q : Option Value → GH → Prop} {bc bs : Nat} {G : GH} (x : Nat) (p1 : Int32) (p2 : Int32) (p3 : Int32) (F : (gC G x = kO 0 ∧ cI Γ l h mX0_isCrew [.ref x, .int p1] G bc bs fun r1 Gr1 br1 sr1 => ((r1 = 0 → (Q (some (.int (-1))) Gr1)) ∧ (¬ r1 = 0 → (cI Γ l h mX0_isBetween [.int p2, .int 0, .int 5999] Gr1 br1 sr1 fun r4 Gr4 br4 sr4 => ((r4 = 0 → (Q (some (.int (-1))) Gr4)) ∧ (¬ r4 = 0 → (cI Γ l h mX0_isBetween [.int p3, .int p2, .int 6000] Gr4 br4 sr4 fun r6 Gr6 br6 sr6 => ((¬ r6 = 0 → (gC Gr6 x = kO 0 ∧ cV Γ l h mX0_beginChange [.ref x] Gr6 br6 sr6 fun Gr8 br8 sr8 => gC Gr8 x = kO 0 ∧ cR Γ l h mX0_crewOf [.ref x, .int p1] Gr8 br8 sr8 fun r11 Gr11 br11 sr11 => ∃ a15, r11 = some a15 ∧ gC Gr11 a15 = kO 4 ∧ cI Γ l h mX5_isReserve [.ref a15] Gr11 br11 sr11 fun r14 Gr14 br14 sr14 => ((r14 = 0 → (gC Gr14 a15 = kO 4 ∧ gM Gr14 a15 = true ∧ Q (some (.int 0)) (sI (sI Gr14 a15 4 p2) a15 5 p3))) ∧ (¬ r14 = 0 → (gC Gr14 a15 = kO 4 ∧ gM Gr14 a15 = true ∧ Q (some (.int 1)) (sI (sI Gr14 a15 4 p2) a15 5 p3)))))) ∧ (r6 = 0 → (Q (some (.int (-1))) Gr6))))))))))) : GW Γ l mX0_setReserve h MC MS Q 0 [(0, va_rf (some x)), (1, .int p1), (2, .int p2), (3, .int p3)] [] G bc bs := by
  refine g_aload_n dX0_setReserve_0 rfl 0 rfl ?_
  refine g_iload_n dX0_setReserve_1 rfl 1 rfl ?_
  obtain ⟨c2, F⟩ := F
  refine h_callVI (ci := 0) (C := RX0) (T := TX0) (N := 25) (As := [.int p1]) (rest := []) F 1 rfl rfl (lw_V q1122 q1124 qs11 q108 q1125) vm_X0_isCrew (by decide) rfl c2 rfl (room_of sc_nil (Nat.le_of_ble_eq_true rfl)) dX0_setReserve_2 (fun r1 Gr1 br1 sr1 F => ?_)
  refine g_if_eq 30 dX0_setReserve_5 (by decide) (fun h26 => ?_) (fun h26 => ?_)
  · have F := F.1 h26
    refine g_iconst (v := (-1)) dX0_setReserve_30 (by decide) ?_
    exact g_iret rfl dX0_setReserve_31 F
  · have F := F.2 h26
    refine g_iload_n dX0_setReserve_8 rfl 2 rfl ?_
    refine g_iconst (v := 0) dX0_setReserve_9 (by decide) ?_
    refine g_sipush (v := 5999) dX0_setReserve_10 (by decide) ?_
    refine h_callSI (As := [.int p2, .int 0, .int 5999]) (rest := []) F 3 rfl (lw_S q498 q499 q108 q500) vm_X0_isBetween.2 (by decide) rfl (room_of sc_nil (Nat.le_of_ble_eq_true rfl)) dX0_setReserve_13 (fun r4 Gr4 br4 sr4 F => ?_)
    refine g_if_eq 30 dX0_setReserve_16 (by decide) (fun h25 => ?_) (fun h25 => ?_)
    · have F := F.1 h25
      refine g_iconst (v := (-1)) dX0_setReserve_30 (by decide) ?_
      exact g_iret rfl dX0_setReserve_31 F
    · have F := F.2 h25
      refine g_iload_n dX0_setReserve_19 rfl 3 rfl ?_
      refine g_iload_n dX0_setReserve_20 rfl 2 rfl ?_
      refine g_sipush (v := 6000) dX0_setReserve_21 (by decide) ?_
      refine h_callSI (As := [.int p3, .int p2, .int 6000]) (rest := []) F 3 rfl (lw_S q498 q499 q108 q500) vm_X0_isBetween.2 (by decide) rfl (room_of sc_nil (Nat.le_of_ble_eq_true rfl)) dX0_setReserve_24 (fun r6 Gr6 br6 sr6 F => ?_)
      refine g_if_ne 32 dX0_setReserve_27 (by decide) (fun h24 => ?_) (fun h24 => ?_)
      · have F := F.1 h24
        refine g_aload_n dX0_setReserve_32 rfl 0 rfl ?_
        obtain ⟨c9, F⟩ := F
        refine h_callVV (ci := 0) (C := RX0) (T := TX0) (N := 25) (As := []) (rest := []) F 0 rfl rfl (lw_V q485 q487 qs3 q108 q488) vm_X0_beginChange (by decide) rfl c9 rfl (room_of sc_nil (Nat.le_of_ble_eq_true rfl)) dX0_setReserve_33 (fun Gr8 br8 sr8 F => ?_)
        refine g_aload_n dX0_setReserve_36 rfl 0 rfl ?_
        refine g_iload_n dX0_setReserve_37 rfl 1 rfl ?_
        obtain ⟨c12, F⟩ := F
        refine h_callVR (ci := 0) (C := RX0) (T := TX0) (N := 25) (As := [.int p1]) (rest := []) F 1 rfl rfl (lw_V q1092 q1094 qs9 q108 q1095) vm_X0_crewOf (by decide) rfl c12 rfl (room_of sc_nil (Nat.le_of_ble_eq_true rfl)) dX0_setReserve_38 (fun r11 Gr11 br11 sr11 F => ?_)
        refine s_astore (lv' := [(0, va_rf (some x)), (1, .int p1), (2, .int p2), (3, .int p3), (4, va_rf r11)]) (cat_R (cat_I (cat_I (cat_I cat_nil)))) dX0_setReserve_41 (by decide) rfl [1, 2, 3, 4, 0] rfl ?_
        refine g_aload dX0_setReserve_43 4 rfl ?_
        obtain ⟨a15, e16, F⟩ := F
        obtain ⟨c17, F⟩ := F
        refine h_callVI (ci := 4) (C := RX5) (T := TX5) (N := 6) (As := []) (rest := []) F 0 rfl rfl (lw_V q1337 q1338 q1339 q139 q1340) vm_X5_isReserve (by decide) e16 c17 rfl (room_of sc_nil (Nat.le_of_ble_eq_true rfl)) dX0_setReserve_45 (fun r14 Gr14 br14 sr14 F => ?_)
        refine g_if_eq 55 dX0_setReserve_48 (by decide) (fun h23 => ?_) (fun h23 => ?_)
        · have F := F.1 h23
          refine g_iconst (v := 0) dX0_setReserve_55 (by decide) ?_
          refine s_istore (lv' := [(0, va_rf (some x)), (1, .int p1), (2, .int p2), (3, .int p3), (4, va_rf r11), (5, .int 0)]) (cat_R (cat_I (cat_I (cat_I (cat_R cat_nil))))) dX0_setReserve_56 (by decide) rfl [1, 2, 3, 4, 5, 0] rfl ?_
          refine g_aload dX0_setReserve_58 4 rfl ?_
          refine g_iload_n dX0_setReserve_60 rfl 2 rfl ?_
          obtain ⟨c19, F⟩ := F
          obtain ⟨m20, F⟩ := F
          refine h_putIN (host := "CrewPairer") (mi := mX0_setReserve) 4 4 (C := RX5) (T := TX5) (N := 6) rfl in_X5 tyX5_ok nmX5 (by decide) (by decide +kernel) rfl rfl rfl e16 c19 m20 rfl rfl dX0_setReserve_61 ?_
          refine g_aload dX0_setReserve_64 4 rfl ?_
          refine g_iload_n dX0_setReserve_66 rfl 3 rfl ?_
          refine h_putIN (host := "CrewPairer") (mi := mX0_setReserve) 4 5 (C := RX5) (T := TX5) (N := 6) rfl in_X5 tyX5_ok nmX5 (by decide) (by decide +kernel) rfl rfl rfl e16 c19 m20 rfl rfl dX0_setReserve_67 ?_
          refine g_iload dX0_setReserve_70 5 rfl ?_
          exact g_iret rfl dX0_setReserve_72 F
        · have F := F.2 h23
          refine g_iconst (v := 1) dX0_setReserve_51 (by decide) ?_
          refine g_goto 56 dX0_setReserve_52 (by decide) ?_
          refine s_istore (lv' := [(0, va_rf (some x)), (1, .int p1), (2, .int p2), (3, .int p3), (4, va_rf r11), (5, .int 1)]) (cat_R (cat_I (cat_I (cat_I (cat_R cat_nil))))) dX0_setReserve_56 (by decide) rfl [1, 2, 3, 4, 5, 0] rfl ?_
          refine g_aload dX0_setReserve_58 4 rfl ?_
          refine g_iload_n dX0_setReserve_60 rfl 2 rfl ?_
          obtain ⟨c21, F⟩ := F
          obtain ⟨m22, F⟩ := F
          refine h_putIN (host := "CrewPairer") (mi := mX0_setReserve) 4 4 (C := RX5) (T := TX5) (N := 6) rfl in_X5 tyX5_ok nmX5 (by decide) (by decide +kernel) rfl rfl rfl e16 c21 m22 rfl rfl dX0_setReserve_61 ?_
          refine g_aload dX0_setReserve_64 4 rfl ?_
          refine g_iload_n dX0_setReserve_66 rfl 3 rfl ?_
          refine h_putIN (host := "CrewPairer") (mi := mX0_setReserve) 4 5 (C := RX5) (T := TX5) (N := 6) rfl in_X5 tyX5_ok nmX5 (by decide) (by decide +kernel) rfl rfl rfl e16 c21 m22 rfl rfl dX0_setReserve_67 ?_
          refine g_iload dX0_setReserve_70 5 rfl ?_
          exact g_iret rfl dX0_setReserve_72 F
      · have F := F.2 h24
        refine g_iconst (v := (-1)) dX0_setReserve_30 (by decide) ?_
        exact g_iret rfl dX0_setReserve_31 F
theorem rX0_reserve_0 {Γ : GE} {l : Launch} {h MC MS : Nat} {Q : Option Value → GH → Prop} {bc bs : Nat} {G : GH} (x : Nat) (p1 : Int32) (p2 : Int32) (F : (gC G x = kO 0 ∧ cI Γ l h mX0_isCrew [.ref x, .int p1] G bc bs fun r1 Gr1 br1 sr1 => ((r1 = 0 → (Q (some (.int (-1))) Gr1)) ∧ (¬ r1 = 0 → (cI Γ l h mX0_isBetween [.int p2, .int 0, .int 1] Gr1 br1 sr1 fun r4 Gr4 br4 sr4 => ((¬ r4 = 0 → (gC Gr4 x = kO 0 ∧ cR Γ l h mX0_crewOf [.ref x, .int p1] Gr4 br4 sr4 fun r6 Gr6 br6 sr6 => ∃ a10, r6 = some a10 ∧ gC Gr6 a10 = kO 4 ∧ cI Γ l h mX5_isReserve [.ref a10] Gr6 br6 sr6 fun r9 Gr9 br9 sr9 => ((¬ r9 = 0 → ((¬ p2 = 0 → (gC Gr9 a10 = kO 4 ∧ gM Gr9 a10 = true ∧ Q (some (.int (gI Gr9 a10 5))) Gr9)) ∧ (p2 = 0 → (gC Gr9 a10 = kO 4 ∧ gM Gr9 a10 = true ∧ Q (some (.int (gI Gr9 a10 4))) Gr9)))) ∧ (r9 = 0 → (Q (some (.int (-2))) Gr9))))) ∧ (r4 = 0 → (Q (some (.int (-1))) Gr4)))))))) : GW Γ l mX0_reserve h MC MS Q 0 [(0, va_rf (some x)), (1, .int p1), (2, .int p2)] [] G bc bs := by
  refine g_aload_n dX0_reserve_0 rfl 0 rfl ?_
  refine g_iload_n dX0_reserve_1 rfl 1 rfl ?_
  obtain ⟨c2, F⟩ := F
  refine h_callVI (ci := 0) (C := RX0) (T := TX0) (N := 25) (As := [.int p1]) (rest := []) F 1 rfl rfl (lw_V q1122 q1124 qs11 q108 q1125) vm_X0_isCrew (by decide) rfl c2 rfl (room_of sc_nil (Nat.le_of_ble_eq_true rfl)) dX0_reserve_2 (fun r1 Gr1 br1 sr1 F => ?_)
  refine g_if_eq 17 dX0_reserve_5 (by decide) (fun h21 => ?_) (fun h21 => ?_)
  · have F := F.1 h21
    refine g_iconst (v := (-1)) dX0_reserve_17 (by decide) ?_
    exact g_iret rfl dX0_reserve_18 F
  · have F := F.2 h21
    refine g_iload_n dX0_reserve_8 rfl 2 rfl ?_
    refine g_iconst (v := 0) dX0_reserve_9 (by decide) ?_
    refine g_iconst (v := 1) dX0_reserve_10 (by decide) ?_
    refine h_callSI (As := [.int p2, .int 0, .int 1]) (rest := []) F 3 rfl (lw_S q498 q499 q108 q500) vm_X0_isBetween.2 (by decide) rfl (room_of sc_nil (Nat.le_of_ble_eq_true rfl)) dX0_reserve_11 (fun r4 Gr4 br4 sr4 F => ?_)
    refine g_if_ne 19 dX0_reserve_14 (by decide) (fun h20 => ?_) (fun h20 => ?_)
    · have F := F.1 h20
      refine g_aload_n dX0_reserve_19 rfl 0 rfl ?_
      refine g_iload_n dX0_reserve_20 rfl 1 rfl ?_
      obtain ⟨c7, F⟩ := F
      refine h_callVR (ci := 0) (C := RX0) (T := TX0) (N := 25) (As := [.int p1]) (rest := []) F 1 rfl rfl (lw_V q1092 q1094 qs9 q108 q1095) vm_X0_crewOf (by decide) rfl c7 rfl (room_of sc_nil (Nat.le_of_ble_eq_true rfl)) dX0_reserve_21 (fun r6 Gr6 br6 sr6 F => ?_)
      refine s_astore_n (lv' := [(0, va_rf (some x)), (1, .int p1), (2, .int p2), (3, va_rf r6)]) (cat_R (cat_I (cat_I cat_nil))) dX0_reserve_24 rfl (by decide) rfl [1, 2, 3, 0] rfl ?_
      refine g_aload_n dX0_reserve_25 rfl 3 rfl ?_
      obtain ⟨a10, e11, F⟩ := F
      obtain ⟨c12, F⟩ := F
      refine h_callVI (ci := 4) (C := RX5) (T := TX5) (N := 6) (As := []) (rest := []) F 0 rfl rfl (lw_V q1337 q1338 q1339 q139 q1340) vm_X5_isReserve (by decide) e11 c12 rfl (room_of sc_nil (Nat.le_of_ble_eq_true rfl)) dX0_reserve_26 (fun r9 Gr9 br9 sr9 F => ?_)
      refine g_if_ne 37 dX0_reserve_29 (by decide) (fun h19 => ?_) (fun h19 => ?_)
      · have F := F.1 h19
        refine g_iload_n dX0_reserve_37 rfl 2 rfl ?_
        refine g_if_ne 48 dX0_reserve_38 (by decide) (fun h18 => ?_) (fun h18 => ?_)
        · have F := F.1 h18
          refine g_aload_n dX0_reserve_48 rfl 3 rfl ?_
          obtain ⟨c14, F⟩ := F
          obtain ⟨m15, F⟩ := F
          refine h_getN (host := "CrewPairer") (v := .int (gI Gr9 a10 5)) 4 5 (C := RX5) (T := TX5) (N := 6) rfl in_X5 (by decide) (by decide +kernel) rfl e11 c14 m15 rfl dX0_reserve_49 ?_
          exact g_iret rfl dX0_reserve_52 F
        · have F := F.2 h18
          refine g_aload_n dX0_reserve_41 rfl 3 rfl ?_
          obtain ⟨c16, F⟩ := F
          obtain ⟨m17, F⟩ := F
          refine h_getN (host := "CrewPairer") (v := .int (gI Gr9 a10 4)) 4 4 (C := RX5) (T := TX5) (N := 6) rfl in_X5 (by decide) (by decide +kernel) rfl e11 c16 m17 rfl dX0_reserve_42 ?_
          refine g_goto 52 dX0_reserve_45 (by decide) ?_
          exact g_iret rfl dX0_reserve_52 F
      · have F := F.2 h19
        refine g_bipush (v := (-2)) dX0_reserve_32 (by decide) ?_
        refine g_goto 52 dX0_reserve_34 (by decide) ?_
        exact g_iret rfl dX0_reserve_52 F
    · have F := F.2 h20
      refine g_iconst (v := (-1)) dX0_reserve_17 (by decide) ?_
      exact g_iret rfl dX0_reserve_18 F
theorem rX0_called_0 {Γ : GE} {l : Launch} {h MC MS : Nat} {Q : Option Value → GH → Prop} {bc bs : Nat} {G : GH} (x : Nat) (p1 : Int32) (F : (gC G x = kO 0 ∧ cI Γ l h mX0_isLeg [.ref x, .int p1] G bc bs fun r1 Gr1 br1 sr1 => ((¬ r1 = 0 → (gC Gr1 x = kO 0 ∧ cI Γ l h mX0_isOpen [.ref x, .int p1] Gr1 br1 sr1 fun r4 Gr4 br4 sr4 => ((r4 = 0 → (Q (some (.int (-2))) Gr4)) ∧ (¬ r4 = 0 → (gC Gr4 x = kO 0 ∧ cI Γ l h mX0_reserveFor [.ref x, .int p1] Gr4 br4 sr4 fun r7 Gr7 br7 sr7 => Q (some (.int r7)) Gr7))))) ∧ (r1 = 0 → (Q (some (.int (-1))) Gr1))))) : GW Γ l mX0_called h MC MS Q 0 [(0, va_rf (some x)), (1, .int p1)] [] G bc bs := by
  refine g_aload_n dX0_called_0 rfl 0 rfl ?_
  refine g_iload_n dX0_called_1 rfl 1 rfl ?_
  obtain ⟨c2, F⟩ := F
  refine h_callVI (ci := 0) (C := RX0) (T := TX0) (N := 25) (As := [.int p1]) (rest := []) F 1 rfl rfl (lw_V q1084 q1086 qs7 q108 q1087) vm_X0_isLeg (by decide) rfl c2 rfl (room_of sc_nil (Nat.le_of_ble_eq_true rfl)) dX0_called_2 (fun r1 Gr1 br1 sr1 F => ?_)
  refine g_if_ne 10 dX0_called_5 (by decide) (fun h11 => ?_) (fun h11 => ?_)
  · have F := F.1 h11
    refine g_aload_n dX0_called_10 rfl 0 rfl ?_
    refine g_iload_n dX0_called_11 rfl 1 rfl ?_
    obtain ⟨c5, F⟩ := F
    refine h_callVI (ci := 0) (C := RX0) (T := TX0) (N := 25) (As := [.int p1]) (rest := []) F 1 rfl rfl (lw_V q1313 q1315 qs34 q108 q1316) vm_X0_isOpen (by decide) rfl c5 rfl (room_of sc_nil (Nat.le_of_ble_eq_true rfl)) dX0_called_12 (fun r4 Gr4 br4 sr4 F => ?_)
    refine g_if_eq 26 dX0_called_15 (by decide) (fun h10 => ?_) (fun h10 => ?_)
    · have F := F.1 h10
      refine g_bipush (v := (-2)) dX0_called_26 (by decide) ?_
      exact g_iret rfl dX0_called_28 F
    · have F := F.2 h10
      refine g_aload_n dX0_called_18 rfl 0 rfl ?_
      refine g_iload_n dX0_called_19 rfl 1 rfl ?_
      obtain ⟨c8, F⟩ := F
      refine h_callVI (ci := 0) (C := RX0) (T := TX0) (N := 25) (As := [.int p1]) (rest := []) F 1 rfl rfl (lw_V q1349 q1351 qs36 q108 q1352) vm_X0_reserveFor (by decide) rfl c8 rfl (room_of sc_nil (Nat.le_of_ble_eq_true rfl)) dX0_called_20 (fun r7 Gr7 br7 sr7 F => ?_)
      refine g_goto 28 dX0_called_23 (by decide) ?_
      exact g_iret rfl dX0_called_28 F
  · have F := F.2 h11
    refine g_iconst (v := (-1)) dX0_called_8 (by decide) ?_
    exact g_iret rfl dX0_called_9 F
theorem rX0_reserveFor_0 {Γ : GE} {l : Launch} {h MC MS : Nat} {Q : Option Value → GH → Prop} {bc bs : Nat} {G : GH} (x : Nat) (p1 : Int32) (F : (1 ≤ bc ∧ 1 ≤ bs ∧ ∀ q1, gC G q1 = 0 → gA Γ q1 → cV Γ l h mX6_init [.ref q1] (nO G q1 7) (bc - 1) (bs - 1) fun Gr6 br6 sr6 => GW Γ l mX0_reserveFor h MC MS Q 10 [(0, va_rf (some x)), (1, .int p1), (2, va_rf (some q1)), (3, .int 0)] [] Gr6 br6 sr6)) : GW Γ l mX0_reserveFor h MC MS Q 0 [(0, va_rf (some x)), (1, .int p1)] [] G bc bs := by
  obtain ⟨k3, F⟩ := F
  obtain ⟨k4, F⟩ := F
  refine g_new (C := RX6) (T := TX6) (N := 1) 7 rfl in_X6 tyX6_ok nd_X6 q1353 q1354 q140 k3 k4 dX0_reserveFor_0 (fun q1 z2 z2' => ?_)
  have F := F q1 z2 z2'
  refine g_dup dX0_reserveFor_3 (va_rf_cat _) ?_
  refine h_callINV (host := "CrewPairer") (As := []) (rest := [va_rf (some q1)]) F 0 rfl rfl (lw_meth q1357) q140 (by decide +kernel) q1356 rfl vm_X6_init.2 (by decide) rfl rfl (room_of (sc_R sc_nil) (Nat.le_of_ble_eq_true rfl)) dX0_reserveFor_4 (fun Gr6 br6 sr6 F => ?_)
  refine s_astore_n (lv' := [(0, va_rf (some x)), (1, .int p1), (2, va_rf (some q1))]) (cat_R (cat_I cat_nil)) dX0_reserveFor_7 rfl (by decide) rfl [1, 2, 0] rfl ?_
  refine g_iconst (v := 0) dX0_reserveFor_8 (by decide) ?_
  refine s_istore_n (lv' := [(0, va_rf (some x)), (1, .int p1), (2, va_rf (some q1)), (3, .int 0)]) (cat_R (cat_I (cat_R cat_nil))) dX0_reserveFor_9 rfl (by decide) rfl [1, 2, 3, 0] rfl ?_
  exact F
theorem rX0_reserveFor_10 {Γ : GE} {l : Launch} {h MC MS : Nat} {Q : Option Value → GH → Prop} {bc bs : Nat} {G : GH} (x : Nat) (p1 : Int32) (p2 : Option Nat) (p3 : Int32) (F : (gC G x = kO 0 ∧ ∃ a2, (gR G x 0) = some a2 ∧ gC G a2 = kO 2 ∧ gM G a2 = true ∧ ∃ a7, (gR G a2 1) = some a7 ∧ gC G a7 = kO 9 ∧ cI Γ l h mJ2_size [.ref a7] G bc bs fun r6 Gr6 br6 sr6 => ((r6 ≤ p3 → (∃ a11, p2 = some a11 ∧ gC Gr6 a11 = kO 7 ∧ gM Gr6 a11 = true ∧ ((∀ a15, (gR Gr6 a11 0) = some a15 → (okCast Gr6 (gR Gr6 a11 0) "CrewPairer$Offer" ∧ gC Gr6 a15 = kO 6 ∧ gM Gr6 a15 = true ∧ Q (some (.int (gI Gr6 a15 0))) Gr6)) ∧ ((gR Gr6 a11 0) = none → (Q (some (.int (-2))) Gr6))))) ∧ (¬ r6 ≤ p3 → (gC Gr6 x = kO 0 ∧ cI Γ l h mX0_canCall [.ref x, .int p3, .int p1] Gr6 br6 sr6 fun r20 Gr20 br20 sr20 => ((r20 = 0 → (GW Γ l mX0_reserveFor h MC MS Q 10 [(0, va_rf (some x)), (1, .int p1), (2, va_rf p2), (3, .int (p3 + 1))] [] Gr20 br20 sr20)) ∧ (¬ r20 = 0 → (1 ≤ br20 ∧ 4 ≤ sr20 ∧ ∀ q23, gC Gr20 q23 = 0 → gA Γ q23 → gC (nO Gr20 q23 6) x = kO 0 ∧ cI Γ l h mX0_minutesOf [.ref x, .int p3] (nO Gr20 q23 6) (br20 - 1) (sr20 - 4) fun r28 Gr28 br28 sr28 => cV Γ l h mX7_init [.ref q23, .int p3, .int (-2), .int 0, .int r28] Gr28 br28 sr28 fun Gr31 br31 sr31 => ∃ a34, p2 = some a34 ∧ gC Gr31 a34 = kO 7 ∧ cV Γ l h mX6_see [.ref a34, va_rf (some q23)] Gr31 br31 sr31 fun Gr33 br33 sr33 => GW Γ l mX0_reserveFor h MC MS Q 10 [(0, va_rf (some x)), (1, .int p1), (2, va_rf p2), (3, .int (p3 + 1))] [] Gr33 br33 sr33)))))))) : GW Γ l mX0_reserveFor h MC MS Q 10 [(0, va_rf (some x)), (1, .int p1), (2, va_rf p2), (3, .int p3)] [] G bc bs := by
  refine g_iload_n dX0_reserveFor_10 rfl 3 rfl ?_
  refine g_aload_n dX0_reserveFor_11 rfl 0 rfl ?_
  obtain ⟨c1, F⟩ := F
  refine h_get (v := va_rf (gR G x 0)) 0 0 (C := RX0) (T := TX0) (N := 25) rfl in_X0 (by decide) q237 (Or.inl rfl) rfl c1 rfl dX0_reserveFor_12 ?_
  obtain ⟨a2, e3, F⟩ := F
  obtain ⟨c4, F⟩ := F
  obtain ⟨m5, F⟩ := F
  refine h_getN (host := "CrewPairer") (v := va_rf (gR G a2 1)) 2 1 (C := RX1) (T := TX1) (N := 3) rfl in_X1 (by decide) (by decide +kernel) rfl e3 c4 m5 rfl dX0_reserveFor_15 ?_
  obtain ⟨a7, e8, F⟩ := F
  obtain ⟨c9, F⟩ := F
  refine h_callVI (ci := 9) (C := RJ2) (T := TJ2) (N := 3) (As := []) (rest := [.int p3]) F 0 rfl rfl (lw_V q480 q328 q329 q112 q330) vm_J2_size (by decide) e8 c9 rfl (room_of (sc_I sc_nil) (Nat.le_of_ble_eq_true rfl)) dX0_reserveFor_18 (fun r6 Gr6 br6 sr6 F => ?_)
  refine g_icmp_ge 59 dX0_reserveFor_21 (by decide) (fun h39 => ?_) (fun h39 => ?_)
  · have F := F.1 h39
    refine g_aload_n dX0_reserveFor_59 rfl 2 rfl ?_
    obtain ⟨a11, e12, F⟩ := F
    obtain ⟨c13, F⟩ := F
    obtain ⟨m14, F⟩ := F
    refine h_getN (host := "CrewPairer") (v := va_rf (gR Gr6 a11 0)) 7 0 (C := RX6) (T := TX6) (N := 1) rfl in_X6 (by decide) (by decide +kernel) rfl e12 c13 m14 rfl dX0_reserveFor_60 ?_
    refine g_ifnonnull 71 dX0_reserveFor_63 (by decide) (fun a15 e16 => ?_) (fun e16 => ?_)
    · have F := F.1 a15 e16
      refine g_aload_n dX0_reserveFor_71 rfl 2 rfl ?_
      refine h_getN (host := "CrewPairer") (v := va_rf (gR Gr6 a11 0)) 7 0 (C := RX6) (T := TX6) (N := 1) rfl in_X6 (by decide) (by decide +kernel) rfl e12 c13 m14 rfl dX0_reserveFor_72 ?_
      obtain ⟨k17, F⟩ := F
      refine h_castO q1368 k17 dX0_reserveFor_75 ?_
      obtain ⟨c18, F⟩ := F
      obtain ⟨m19, F⟩ := F
      refine h_getN (host := "CrewPairer") (v := .int (gI Gr6 a15 0)) 6 0 (C := RX7) (T := TX7) (N := 4) rfl in_X7 (by decide) (by decide +kernel) rfl e16 c18 m19 rfl dX0_reserveFor_78 ?_
      exact g_iret rfl dX0_reserveFor_81 F
    · have F := F.2 e16
      refine g_bipush (v := (-2)) dX0_reserveFor_66 (by decide) ?_
      refine g_goto 81 dX0_reserveFor_68 (by decide) ?_
      exact g_iret rfl dX0_reserveFor_81 F
  · have F := F.2 h39
    refine g_aload_n dX0_reserveFor_24 rfl 0 rfl ?_
    refine g_iload_n dX0_reserveFor_25 rfl 3 rfl ?_
    refine g_iload_n dX0_reserveFor_26 rfl 1 rfl ?_
    obtain ⟨c21, F⟩ := F
    refine h_callVI (ci := 0) (C := RX0) (T := TX0) (N := 25) (As := [.int p3, .int p1]) (rest := []) F 2 rfl rfl (lw_V q1364 q1366 qs37 q108 q1367) vm_X0_canCall (by decide) rfl c21 rfl (room_of sc_nil (Nat.le_of_ble_eq_true rfl)) dX0_reserveFor_27 (fun r20 Gr20 br20 sr20 F => ?_)
    refine g_if_eq 53 dX0_reserveFor_30 (by decide) (fun h38 => ?_) (fun h38 => ?_)
    · have F := F.1 h38
      refine s_iinc (v := (p3 + 1)) (lv' := [(0, va_rf (some x)), (1, .int p1), (2, va_rf p2), (3, .int (p3 + 1))]) (cat_R (cat_I (cat_R (cat_I cat_nil)))) dX0_reserveFor_53 (k0 := 3) rfl rfl (by decide) rfl [1, 2, 3, 0] rfl ?_
      refine g_goto 10 dX0_reserveFor_56 (by decide) ?_
      exact F
    · have F := F.2 h38
      refine g_aload_n dX0_reserveFor_33 rfl 2 rfl ?_
      obtain ⟨k25, F⟩ := F
      obtain ⟨k26, F⟩ := F
      refine g_new (C := RX7) (T := TX7) (N := 4) 6 rfl in_X7 tyX7_ok nd_X7 q1368 q1369 q141 k25 k26 dX0_reserveFor_34 (fun q23 z24 z24' => ?_)
      have F := F q23 z24 z24'
      refine g_dup dX0_reserveFor_37 (va_rf_cat _) ?_
      refine g_iload_n dX0_reserveFor_38 rfl 3 rfl ?_
      refine g_bipush (v := (-2)) dX0_reserveFor_39 (by decide) ?_
      refine g_iconst (v := 0) dX0_reserveFor_41 (by decide) ?_
      refine g_aload_n dX0_reserveFor_42 rfl 0 rfl ?_
      refine g_iload_n dX0_reserveFor_43 rfl 3 rfl ?_
      obtain ⟨c29, F⟩ := F
      refine h_callVI (ci := 0) (C := RX0) (T := TX0) (N := 25) (As := [.int p3]) (rest := [.int 0, .int (-2), .int p3, va_rf (some q23), va_rf (some q23), va_rf p2]) F 1 rfl rfl (lw_V q1277 q1279 qs30 q108 q1280) vm_X0_minutesOf (by decide) rfl c29 rfl (room_of (sc_I (sc_I (sc_I (sc_R (sc_R (sc_R sc_nil)))))) (Nat.le_of_ble_eq_true rfl)) dX0_reserveFor_44 (fun r28 Gr28 br28 sr28 F => ?_)
      refine h_callIV (As := [.int p3, .int (-2), .int 0, .int r28]) (rest := [va_rf (some q23), va_rf p2]) F 4 rfl rfl (lw_meth q1372) q141 q1370 q1371 rfl vm_X7_init.2 (by decide) rfl rfl (room_of (sc_R (sc_R sc_nil)) (Nat.le_of_ble_eq_true rfl)) dX0_reserveFor_47 (fun Gr31 br31 sr31 F => ?_)
      obtain ⟨a34, e35, F⟩ := F
      obtain ⟨c36, F⟩ := F
      refine h_callVV (ci := 7) (C := RX6) (T := TX6) (N := 1) (As := [va_rf (some q23)]) (rest := []) F 1 rfl rfl (lw_V q1390 q1391 q1392 q140 q1393) vm_X6_see (by decide) e35 c36 rfl (room_of sc_nil (Nat.le_of_ble_eq_true rfl)) dX0_reserveFor_50 (fun Gr33 br33 sr33 F => ?_)
      refine s_iinc (v := (p3 + 1)) (lv' := [(0, va_rf (some x)), (1, .int p1), (2, va_rf p2), (3, .int (p3 + 1))]) (cat_R (cat_I (cat_R (cat_I cat_nil)))) dX0_reserveFor_53 (k0 := 3) rfl rfl (by decide) rfl [1, 2, 3, 0] rfl ?_
      refine g_goto 10 dX0_reserveFor_56 (by decide) ?_
      exact F
theorem rX0_canCall_0 {Γ : GE} {l : Launch} {h MC MS : Nat} {Q : Option Value → GH → Prop} {bc bs : Nat} {G : GH} (x : Nat) (p1 : Int32) (p2 : Int32) (F : (gC G x = kO 0 ∧ cR Γ l h mX0_crewOf [.ref x, .int p1] G bc bs fun r1 Gr1 br1 sr1 => ∃ a5, r1 = some a5 ∧ gC Gr1 a5 = kO 4 ∧ cI Γ l h mX5_isReserve [.ref a5] Gr1 br1 sr1 fun r4 Gr4 br4 sr4 => ((r4 = 0 → (Q (some (.int 0)) Gr4)) ∧ (¬ r4 = 0 → (gC Gr4 x = kO 0 ∧ cR Γ l h mX0_legOf [.ref x, .int p2] Gr4 br4 sr4 fun r9 Gr9 br9 sr9 => ∃ a12, r9 = some a12 ∧ gC Gr9 a12 = kO 3 ∧ gM Gr9 a12 = true ∧ gC Gr9 a5 = kO 4 ∧ gM Gr9 a5 = true ∧ (((gI Gr9 a12 2) < ((gI Gr9 a5 4) + 120) → (Q (some (.int 0)) Gr9)) ∧ (¬ (gI Gr9 a12 2) < ((gI Gr9 a5 4) + 120) → (gC Gr9 x = kO 0 ∧ cR Γ l h mX0_legOf [.ref x, .int p2] Gr9 br9 sr9 fun r18 Gr18 br18 sr18 => ∃ a21, r18 = some a21 ∧ gC Gr18 a21 = kO 3 ∧ gM Gr18 a21 = true ∧ gC Gr18 a5 = kO 4 ∧ gM Gr18 a5 = true ∧ (((gI Gr18 a5 5) < (gI Gr18 a21 3) → (Q (some (.int 0)) Gr18)) ∧ (¬ (gI Gr18 a5 5) < (gI Gr18 a21 3) → (gC Gr18 x = kO 0 ∧ cI Γ l h mX0_reasonOf [.ref x, .int p1, .int p2, .int 1] Gr18 br18 sr18 fun r27 Gr27 br27 sr27 => ((¬ r27 = 0 → (Q (some (.int 0)) Gr27)) ∧ (r27 = 0 → (Q (some (.int 1)) Gr27)))))))))))))) : GW Γ l mX0_canCall h MC MS Q 0 [(0, va_rf (some x)), (1, .int p1), (2, .int p2)] [] G bc bs := by
  refine g_aload_n dX0_canCall_0 rfl 0 rfl ?_
  refine g_iload_n dX0_canCall_1 rfl 1 rfl ?_
  obtain ⟨c2, F⟩ := F
  refine h_callVR (ci := 0) (C := RX0) (T := TX0) (N := 25) (As := [.int p1]) (rest := []) F 1 rfl rfl (lw_V q1092 q1094 qs9 q108 q1095) vm_X0_crewOf (by decide) rfl c2 rfl (room_of sc_nil (Nat.le_of_ble_eq_true rfl)) dX0_canCall_2 (fun r1 Gr1 br1 sr1 F => ?_)
  refine s_astore_n (lv' := [(0, va_rf (some x)), (1, .int p1), (2, .int p2), (3, va_rf r1)]) (cat_R (cat_I (cat_I cat_nil))) dX0_canCall_5 rfl (by decide) rfl [1, 2, 3, 0] rfl ?_
  refine g_aload_n dX0_canCall_6 rfl 3 rfl ?_
  obtain ⟨a5, e6, F⟩ := F
  obtain ⟨c7, F⟩ := F
  refine h_callVI (ci := 4) (C := RX5) (T := TX5) (N := 6) (As := []) (rest := []) F 0 rfl rfl (lw_V q1337 q1338 q1339 q139 q1340) vm_X5_isReserve (by decide) e6 c7 rfl (room_of sc_nil (Nat.le_of_ble_eq_true rfl)) dX0_canCall_7 (fun r4 Gr4 br4 sr4 F => ?_)
  refine g_if_eq 60 dX0_canCall_10 (by decide) (fun h33 => ?_) (fun h33 => ?_)
  · have F := F.1 h33
    refine g_iconst (v := 0) dX0_canCall_60 (by decide) ?_
    exact g_zret rfl rfl dX0_canCall_61 F
  · have F := F.2 h33
    refine g_aload_n dX0_canCall_13 rfl 0 rfl ?_
    refine g_iload_n dX0_canCall_14 rfl 2 rfl ?_
    obtain ⟨c10, F⟩ := F
    refine h_callVR (ci := 0) (C := RX0) (T := TX0) (N := 25) (As := [.int p2]) (rest := []) F 1 rfl rfl (lw_V q551 q553 qs6 q108 q554) vm_X0_legOf (by decide) rfl c10 rfl (room_of sc_nil (Nat.le_of_ble_eq_true rfl)) dX0_canCall_15 (fun r9 Gr9 br9 sr9 F => ?_)
    obtain ⟨a12, e13, F⟩ := F
    obtain ⟨c14, F⟩ := F
    obtain ⟨m15, F⟩ := F
    refine h_getN (host := "CrewPairer") (v := .int (gI Gr9 a12 2)) 3 2 (C := RX4) (T := TX4) (N := 5) rfl in_X4 (by decide) (by decide +kernel) rfl e13 c14 m15 rfl dX0_canCall_18 ?_
    refine g_aload_n dX0_canCall_21 rfl 3 rfl ?_
    obtain ⟨c16, F⟩ := F
    obtain ⟨m17, F⟩ := F
    refine h_getN (host := "CrewPairer") (v := .int (gI Gr9 a5 4)) 4 4 (C := RX5) (T := TX5) (N := 6) rfl in_X5 (by decide) (by decide +kernel) rfl e6 c16 m17 rfl dX0_canCall_22 ?_
    refine g_bipush (v := 120) dX0_canCall_25 (by decide) ?_
    refine g_iadd dX0_canCall_27 ?_
    refine g_icmp_lt 60 dX0_canCall_28 (by decide) (fun h32 => ?_) (fun h32 => ?_)
    · have F := F.1 h32
      refine g_iconst (v := 0) dX0_canCall_60 (by decide) ?_
      exact g_zret rfl rfl dX0_canCall_61 F
    · have F := F.2 h32
      refine g_aload_n dX0_canCall_31 rfl 0 rfl ?_
      refine g_iload_n dX0_canCall_32 rfl 2 rfl ?_
      obtain ⟨c19, F⟩ := F
      refine h_callVR (ci := 0) (C := RX0) (T := TX0) (N := 25) (As := [.int p2]) (rest := []) F 1 rfl rfl (lw_V q551 q553 qs6 q108 q554) vm_X0_legOf (by decide) rfl c19 rfl (room_of sc_nil (Nat.le_of_ble_eq_true rfl)) dX0_canCall_33 (fun r18 Gr18 br18 sr18 F => ?_)
      obtain ⟨a21, e22, F⟩ := F
      obtain ⟨c23, F⟩ := F
      obtain ⟨m24, F⟩ := F
      refine h_getN (host := "CrewPairer") (v := .int (gI Gr18 a21 3)) 3 3 (C := RX4) (T := TX4) (N := 5) rfl in_X4 (by decide) (by decide +kernel) rfl e22 c23 m24 rfl dX0_canCall_36 ?_
      refine g_aload_n dX0_canCall_39 rfl 3 rfl ?_
      obtain ⟨c25, F⟩ := F
      obtain ⟨m26, F⟩ := F
      refine h_getN (host := "CrewPairer") (v := .int (gI Gr18 a5 5)) 4 5 (C := RX5) (T := TX5) (N := 6) rfl in_X5 (by decide) (by decide +kernel) rfl e6 c25 m26 rfl dX0_canCall_40 ?_
      refine g_icmp_gt 60 dX0_canCall_43 (by decide) (fun h31 => ?_) (fun h31 => ?_)
      · have F := F.1 h31
        refine g_iconst (v := 0) dX0_canCall_60 (by decide) ?_
        exact g_zret rfl rfl dX0_canCall_61 F
      · have F := F.2 h31
        refine g_aload_n dX0_canCall_46 rfl 0 rfl ?_
        refine g_iload_n dX0_canCall_47 rfl 1 rfl ?_
        refine g_iload_n dX0_canCall_48 rfl 2 rfl ?_
        refine g_iconst (v := 1) dX0_canCall_49 (by decide) ?_
        obtain ⟨c28, F⟩ := F
        refine h_callVI (ci := 0) (C := RX0) (T := TX0) (N := 25) (As := [.int p1, .int p2, .int 1]) (rest := []) F 3 rfl rfl (lw_V q1126 q1128 qs12 q108 q1129) vm_X0_reasonOf (by decide) rfl c28 rfl (room_of sc_nil (Nat.le_of_ble_eq_true rfl)) dX0_canCall_50 (fun r27 Gr27 br27 sr27 F => ?_)
        refine g_if_ne 60 dX0_canCall_53 (by decide) (fun h30 => ?_) (fun h30 => ?_)
        · have F := F.1 h30
          refine g_iconst (v := 0) dX0_canCall_60 (by decide) ?_
          exact g_zret rfl rfl dX0_canCall_61 F
        · have F := F.2 h30
          refine g_iconst (v := 1) dX0_canCall_56 (by decide) ?_
          refine g_goto 61 dX0_canCall_57 (by decide) ?_
          exact g_zret rfl rfl dX0_canCall_61 F
theorem rX0_offer_0 {Γ : GE} {l : Launch} {h MC MS : Nat} {Q : Option Value → GH → Prop} {bc bs : Nat} {G : GH} (x : Nat) (p1 : Int32) (p2 : Int32) (F : (gC G x = kO 0 ∧ cI Γ l h mX0_isLeg [.ref x, .int p1] G bc bs fun r1 Gr1 br1 sr1 => ((r1 = 0 → (Q (some (.int (-1))) Gr1)) ∧ (¬ r1 = 0 → (cI Γ l h mX0_isBetween [.int p2, .int 0, .int 2] Gr1 br1 sr1 fun r4 Gr4 br4 sr4 => ((¬ r4 = 0 → (gC Gr4 x = kO 0 ∧ cI Γ l h mX0_isOpen [.ref x, .int p1] Gr4 br4 sr4 fun r6 Gr6 br6 sr6 => ((r6 = 0 → (GW Γ l mX0_offer h MC MS Q 36 [(0, va_rf (some x)), (1, .int p1), (2, .int p2)] [va_rf none] Gr6 br6 sr6)) ∧ (¬ r6 = 0 → (gC Gr6 x = kO 0 ∧ cR Γ l h mX0_bestOffer [.ref x, .int p1] Gr6 br6 sr6 fun r9 Gr9 br9 sr9 => GW Γ l mX0_offer h MC MS Q 36 [(0, va_rf (some x)), (1, .int p1), (2, .int p2)] [va_rf r9] Gr9 br9 sr9))))) ∧ (r4 = 0 → (Q (some (.int (-1))) Gr4)))))))) : GW Γ l mX0_offer h MC MS Q 0 [(0, va_rf (some x)), (1, .int p1), (2, .int p2)] [] G bc bs := by
  refine g_aload_n dX0_offer_0 rfl 0 rfl ?_
  refine g_iload_n dX0_offer_1 rfl 1 rfl ?_
  obtain ⟨c2, F⟩ := F
  refine h_callVI (ci := 0) (C := RX0) (T := TX0) (N := 25) (As := [.int p1]) (rest := []) F 1 rfl rfl (lw_V q1084 q1086 qs7 q108 q1087) vm_X0_isLeg (by decide) rfl c2 rfl (room_of sc_nil (Nat.le_of_ble_eq_true rfl)) dX0_offer_2 (fun r1 Gr1 br1 sr1 F => ?_)
  refine g_if_eq 17 dX0_offer_5 (by decide) (fun h14 => ?_) (fun h14 => ?_)
  · have F := F.1 h14
    refine g_iconst (v := (-1)) dX0_offer_17 (by decide) ?_
    exact g_iret rfl dX0_offer_18 F
  · have F := F.2 h14
    refine g_iload_n dX0_offer_8 rfl 2 rfl ?_
    refine g_iconst (v := 0) dX0_offer_9 (by decide) ?_
    refine g_iconst (v := 2) dX0_offer_10 (by decide) ?_
    refine h_callSI (As := [.int p2, .int 0, .int 2]) (rest := []) F 3 rfl (lw_S q498 q499 q108 q500) vm_X0_isBetween.2 (by decide) rfl (room_of sc_nil (Nat.le_of_ble_eq_true rfl)) dX0_offer_11 (fun r4 Gr4 br4 sr4 F => ?_)
    refine g_if_ne 19 dX0_offer_14 (by decide) (fun h13 => ?_) (fun h13 => ?_)
    · have F := F.1 h13
      refine g_aload_n dX0_offer_19 rfl 0 rfl ?_
      refine g_iload_n dX0_offer_20 rfl 1 rfl ?_
      obtain ⟨c7, F⟩ := F
      refine h_callVI (ci := 0) (C := RX0) (T := TX0) (N := 25) (As := [.int p1]) (rest := []) F 1 rfl rfl (lw_V q1313 q1315 qs34 q108 q1316) vm_X0_isOpen (by decide) rfl c7 rfl (room_of sc_nil (Nat.le_of_ble_eq_true rfl)) dX0_offer_21 (fun r6 Gr6 br6 sr6 F => ?_)
      refine g_if_eq 35 dX0_offer_24 (by decide) (fun h12 => ?_) (fun h12 => ?_)
      · have F := F.1 h12
        refine g_null dX0_offer_35 ?_
        exact F
      · have F := F.2 h12
        refine g_aload_n dX0_offer_27 rfl 0 rfl ?_
        refine g_iload_n dX0_offer_28 rfl 1 rfl ?_
        obtain ⟨c10, F⟩ := F
        refine h_callVR (ci := 0) (C := RX0) (T := TX0) (N := 25) (As := [.int p1]) (rest := []) F 1 rfl rfl (lw_V q1420 q1422 qs38 q108 q1423) vm_X0_bestOffer (by decide) rfl c10 rfl (room_of sc_nil (Nat.le_of_ble_eq_true rfl)) dX0_offer_29 (fun r9 Gr9 br9 sr9 F => ?_)
        refine g_goto 36 dX0_offer_32 (by decide) ?_
        exact F
    · have F := F.2 h13
      refine g_iconst (v := (-1)) dX0_offer_17 (by decide) ?_
      exact g_iret rfl dX0_offer_18 F
theorem rX0_offer_36 {Γ : GE} {l : Launch} {h MC MS : Nat} {Q : Option Value → GH → Prop} {bc bs : Nat} {G : GH} (x : Nat) (p1 : Int32) (p2 : Int32) (s0 : Option Nat) (F : ((∀ a1, s0 = some a1 → ((¬ p2 = 0 → ((¬ p2 = 1 → (gC G a1 = kO 6 ∧ gM G a1 = true ∧ Q (some (.int (gI G a1 2))) G)) ∧ (p2 = 1 → (gC G a1 = kO 6 ∧ gM G a1 = true ∧ Q (some (.int (gI G a1 1))) G)))) ∧ (p2 = 0 → (gC G a1 = kO 6 ∧ gM G a1 = true ∧ Q (some (.int (gI G a1 0))) G)))) ∧ (s0 = none → (Q (some (.int (-2))) G)))) : GW Γ l mX0_offer h MC MS Q 36 [(0, va_rf (some x)), (1, .int p1), (2, .int p2)] [va_rf s0] G bc bs := by
  refine s_astore_n (lv' := [(0, va_rf (some x)), (1, .int p1), (2, .int p2), (3, va_rf s0)]) (cat_R (cat_I (cat_I cat_nil))) dX0_offer_36 rfl (by decide) rfl [1, 2, 3, 0] rfl ?_
  refine g_aload_n dX0_offer_37 rfl 3 rfl ?_
  refine g_ifnonnull 44 dX0_offer_38 (by decide) (fun a1 e2 => ?_) (fun e2 => ?_)
  · have F := F.1 a1 e2
    refine g_iload_n dX0_offer_44 rfl 2 rfl ?_
    refine g_if_ne 55 dX0_offer_45 (by decide) (fun h10 => ?_) (fun h10 => ?_)
    · have F := F.1 h10
      refine g_iload_n dX0_offer_55 rfl 2 rfl ?_
      refine g_iconst (v := 1) dX0_offer_56 (by decide) ?_
      refine g_icmp_ne 67 dX0_offer_57 (by decide) (fun h7 => ?_) (fun h7 => ?_)
      · have F := F.1 h7
        refine g_aload_n dX0_offer_67 rfl 3 rfl ?_
        obtain ⟨c3, F⟩ := F
        obtain ⟨m4, F⟩ := F
        refine h_getN (host := "CrewPairer") (v := .int (gI G a1 2)) 6 2 (C := RX7) (T := TX7) (N := 4) rfl in_X7 (by decide) (by decide +kernel) rfl e2 c3 m4 rfl dX0_offer_68 ?_
        exact g_iret rfl dX0_offer_71 F
      · have F := F.2 h7
        refine g_aload_n dX0_offer_60 rfl 3 rfl ?_
        obtain ⟨c5, F⟩ := F
        obtain ⟨m6, F⟩ := F
        refine h_getN (host := "CrewPairer") (v := .int (gI G a1 1)) 6 1 (C := RX7) (T := TX7) (N := 4) rfl in_X7 (by decide) (by decide +kernel) rfl e2 c5 m6 rfl dX0_offer_61 ?_
        refine g_goto 71 dX0_offer_64 (by decide) ?_
        exact g_iret rfl dX0_offer_71 F
    · have F := F.2 h10
      refine g_aload_n dX0_offer_48 rfl 3 rfl ?_
      obtain ⟨c8, F⟩ := F
      obtain ⟨m9, F⟩ := F
      refine h_getN (host := "CrewPairer") (v := .int (gI G a1 0)) 6 0 (C := RX7) (T := TX7) (N := 4) rfl in_X7 (by decide) (by decide +kernel) rfl e2 c8 m9 rfl dX0_offer_49 ?_
      refine g_goto 71 dX0_offer_52 (by decide) ?_
      exact g_iret rfl dX0_offer_71 F
  · have F := F.2 e2
    refine g_bipush (v := (-2)) dX0_offer_41 (by decide) ?_
    exact g_iret rfl dX0_offer_43 F
theorem rX0_bestOffer_0 {Γ : GE} {l : Launch} {h MC MS : Nat} {Q : Option Value → GH → Prop} {bc bs : Nat} {G : GH} (x : Nat) (p1 : Int32) (F : (1 ≤ bc ∧ 1 ≤ bs ∧ ∀ q1, gC G q1 = 0 → gA Γ q1 → cV Γ l h mX6_init [.ref q1] (nO G q1 7) (bc - 1) (bs - 1) fun Gr6 br6 sr6 => GW Γ l mX0_bestOffer h MC MS Q 10 [(0, va_rf (some x)), (1, .int p1), (2, va_rf (some q1)), (3, .int 0)] [] Gr6 br6 sr6)) : GW Γ l mX0_bestOffer h MC MS Q 0 [(0, va_rf (some x)), (1, .int p1)] [] G bc bs := by
  obtain ⟨k3, F⟩ := F
  obtain ⟨k4, F⟩ := F
  refine g_new (C := RX6) (T := TX6) (N := 1) 7 rfl in_X6 tyX6_ok nd_X6 q1353 q1354 q140 k3 k4 dX0_bestOffer_0 (fun q1 z2 z2' => ?_)
  have F := F q1 z2 z2'
  refine g_dup dX0_bestOffer_3 (va_rf_cat _) ?_
  refine h_callINV (host := "CrewPairer") (As := []) (rest := [va_rf (some q1)]) F 0 rfl rfl (lw_meth q1357) q140 (by decide +kernel) q1356 rfl vm_X6_init.2 (by decide) rfl rfl (room_of (sc_R sc_nil) (Nat.le_of_ble_eq_true rfl)) dX0_bestOffer_4 (fun Gr6 br6 sr6 F => ?_)
  refine s_astore_n (lv' := [(0, va_rf (some x)), (1, .int p1), (2, va_rf (some q1))]) (cat_R (cat_I cat_nil)) dX0_bestOffer_7 rfl (by decide) rfl [1, 2, 0] rfl ?_
  refine g_iconst (v := 0) dX0_bestOffer_8 (by decide) ?_
  refine s_istore_n (lv' := [(0, va_rf (some x)), (1, .int p1), (2, va_rf (some q1)), (3, .int 0)]) (cat_R (cat_I (cat_R cat_nil))) dX0_bestOffer_9 rfl (by decide) rfl [1, 2, 3, 0] rfl ?_
  exact F
theorem rX0_bestOffer_10 {Γ : GE} {l : Launch} {h MC MS : Nat} {Q : Option Value → GH → Prop} {bc bs : Nat} {G : GH} (x : Nat) (p1 : Int32) (p2 : Option Nat) (p3 : Int32) (F : (gC G x = kO 0 ∧ ∃ a2, (gR G x 0) = some a2 ∧ gC G a2 = kO 2 ∧ gM G a2 = true ∧ ∃ a7, (gR G a2 1) = some a7 ∧ gC G a7 = kO 9 ∧ cI Γ l h mJ2_size [.ref a7] G bc bs fun r6 Gr6 br6 sr6 => ((r6 ≤ p3 → (∃ a11, p2 = some a11 ∧ gC Gr6 a11 = kO 7 ∧ gM Gr6 a11 = true ∧ okCast Gr6 (gR Gr6 a11 0) "CrewPairer$Offer" ∧ Q (some (va_rf (gR Gr6 a11 0))) Gr6)) ∧ (¬ r6 ≤ p3 → (gC Gr6 x = kO 0 ∧ cR Γ l h mX0_crewOf [.ref x, .int p3] Gr6 br6 sr6 fun r16 Gr16 br16 sr16 => ∃ a20, r16 = some a20 ∧ gC Gr16 a20 = kO 4 ∧ cI Γ l h mX5_isReserve [.ref a20] Gr16 br16 sr16 fun r19 Gr19 br19 sr19 => ((¬ r19 = 0 → (GW Γ l mX0_bestOffer h MC MS Q 10 [(0, va_rf (some x)), (1, .int p1), (2, va_rf p2), (3, .int (p3 + 1))] [] Gr19 br19 sr19)) ∧ (r19 = 0 → (gC Gr19 x = kO 0 ∧ cR Γ l h mX0_offersOf [.ref x, .int p3, .int p1] Gr19 br19 sr19 fun r24 Gr24 br24 sr24 => ∃ a28, p2 = some a28 ∧ gC Gr24 a28 = kO 7 ∧ cV Γ l h mX6_seeAll [.ref a28, va_rf r24] Gr24 br24 sr24 fun Gr27 br27 sr27 => GW Γ l mX0_bestOffer h MC MS Q 10 [(0, va_rf (some x)), (1, .int p1), (2, va_rf p2), (3, .int (p3 + 1))] [] Gr27 br27 sr27)))))))) : GW Γ l mX0_bestOffer h MC MS Q 10 [(0, va_rf (some x)), (1, .int p1), (2, va_rf p2), (3, .int p3)] [] G bc bs := by
  refine g_iload_n dX0_bestOffer_10 rfl 3 rfl ?_
  refine g_aload_n dX0_bestOffer_11 rfl 0 rfl ?_
  obtain ⟨c1, F⟩ := F
  refine h_get (v := va_rf (gR G x 0)) 0 0 (C := RX0) (T := TX0) (N := 25) rfl in_X0 (by decide) q237 (Or.inl rfl) rfl c1 rfl dX0_bestOffer_12 ?_
  obtain ⟨a2, e3, F⟩ := F
  obtain ⟨c4, F⟩ := F
  obtain ⟨m5, F⟩ := F
  refine h_getN (host := "CrewPairer") (v := va_rf (gR G a2 1)) 2 1 (C := RX1) (T := TX1) (N := 3) rfl in_X1 (by decide) (by decide +kernel) rfl e3 c4 m5 rfl dX0_bestOffer_15 ?_
  obtain ⟨a7, e8, F⟩ := F
  obtain ⟨c9, F⟩ := F
  refine h_callVI (ci := 9) (C := RJ2) (T := TJ2) (N := 3) (As := []) (rest := [.int p3]) F 0 rfl rfl (lw_V q480 q328 q329 q112 q330) vm_J2_size (by decide) e8 c9 rfl (room_of (sc_I sc_nil) (Nat.le_of_ble_eq_true rfl)) dX0_bestOffer_18 (fun r6 Gr6 br6 sr6 F => ?_)
  refine g_icmp_ge 51 dX0_bestOffer_21 (by decide) (fun h33 => ?_) (fun h33 => ?_)
  · have F := F.1 h33
    refine g_aload_n dX0_bestOffer_51 rfl 2 rfl ?_
    obtain ⟨a11, e12, F⟩ := F
    obtain ⟨c13, F⟩ := F
    obtain ⟨m14, F⟩ := F
    refine h_getN (host := "CrewPairer") (v := va_rf (gR Gr6 a11 0)) 7 0 (C := RX6) (T := TX6) (N := 1) rfl in_X6 (by decide) (by decide +kernel) rfl e12 c13 m14 rfl dX0_bestOffer_52 ?_
    obtain ⟨k15, F⟩ := F
    refine h_castO q1368 k15 dX0_bestOffer_55 ?_
    exact g_aret (r := (gR Gr6 a11 0)) rfl (Or.inl ⟨_, rfl⟩) dX0_bestOffer_58 F
  · have F := F.2 h33
    refine g_aload_n dX0_bestOffer_24 rfl 0 rfl ?_
    refine g_iload_n dX0_bestOffer_25 rfl 3 rfl ?_
    obtain ⟨c17, F⟩ := F
    refine h_callVR (ci := 0) (C := RX0) (T := TX0) (N := 25) (As := [.int p3]) (rest := []) F 1 rfl rfl (lw_V q1092 q1094 qs9 q108 q1095) vm_X0_crewOf (by decide) rfl c17 rfl (room_of sc_nil (Nat.le_of_ble_eq_true rfl)) dX0_bestOffer_26 (fun r16 Gr16 br16 sr16 F => ?_)
    obtain ⟨a20, e21, F⟩ := F
    obtain ⟨c22, F⟩ := F
    refine h_callVI (ci := 4) (C := RX5) (T := TX5) (N := 6) (As := []) (rest := []) F 0 rfl rfl (lw_V q1337 q1338 q1339 q139 q1340) vm_X5_isReserve (by decide) e21 c22 rfl (room_of sc_nil (Nat.le_of_ble_eq_true rfl)) dX0_bestOffer_29 (fun r19 Gr19 br19 sr19 F => ?_)
    refine g_if_ne 45 dX0_bestOffer_32 (by decide) (fun h32 => ?_) (fun h32 => ?_)
    · have F := F.1 h32
      refine s_iinc (v := (p3 + 1)) (lv' := [(0, va_rf (some x)), (1, .int p1), (2, va_rf p2), (3, .int (p3 + 1))]) (cat_R (cat_I (cat_R (cat_I cat_nil)))) dX0_bestOffer_45 (k0 := 3) rfl rfl (by decide) rfl [1, 2, 3, 0] rfl ?_
      refine g_goto 10 dX0_bestOffer_48 (by decide) ?_
      exact F
    · have F := F.2 h32
      refine g_aload_n dX0_bestOffer_35 rfl 2 rfl ?_
      refine g_aload_n dX0_bestOffer_36 rfl 0 rfl ?_
      refine g_iload_n dX0_bestOffer_37 rfl 3 rfl ?_
      refine g_iload_n dX0_bestOffer_38 rfl 1 rfl ?_
      obtain ⟨c25, F⟩ := F
      refine h_callVR (ci := 0) (C := RX0) (T := TX0) (N := 25) (As := [.int p3, .int p1]) (rest := [va_rf p2]) F 2 rfl rfl (lw_V q1424 q1426 qs39 q108 q1427) vm_X0_offersOf (by decide) rfl c25 rfl (room_of (sc_R sc_nil) (Nat.le_of_ble_eq_true rfl)) dX0_bestOffer_39 (fun r24 Gr24 br24 sr24 F => ?_)
      obtain ⟨a28, e29, F⟩ := F
      obtain ⟨c30, F⟩ := F
      refine h_callVV (ci := 7) (C := RX6) (T := TX6) (N := 1) (As := [va_rf r24]) (rest := []) F 1 rfl rfl (lw_V q1434 q1435 q1436 q140 q1437) vm_X6_seeAll (by decide) e29 c30 rfl (room_of sc_nil (Nat.le_of_ble_eq_true rfl)) dX0_bestOffer_42 (fun Gr27 br27 sr27 F => ?_)
      refine s_iinc (v := (p3 + 1)) (lv' := [(0, va_rf (some x)), (1, .int p1), (2, va_rf p2), (3, .int (p3 + 1))]) (cat_R (cat_I (cat_R (cat_I cat_nil)))) dX0_bestOffer_45 (k0 := 3) rfl rfl (by decide) rfl [1, 2, 3, 0] rfl ?_
      refine g_goto 10 dX0_bestOffer_48 (by decide) ?_
      exact F
theorem rX0_offersOf_0 {Γ : GE} {l : Launch} {h MC MS : Nat} {Q : Option Value → GH → Prop} {bc bs : Nat} {G : GH} (x : Nat) (p1 : Int32) (p2 : Int32) (F : (1 ≤ bc ∧ 3 ≤ bs ∧ ∀ q1, gC G q1 = 0 → gA Γ q1 → cV Γ l h mJ2_init [.ref q1] (nO G q1 9) (bc - 1) (bs - 3) fun Gr6 br6 sr6 => gC Gr6 x = kO 0 ∧ cI Γ l h mX0_minutesOf [.ref x, .int p1] Gr6 br6 sr6 fun r8 Gr8 br8 sr8 => gC Gr8 x = kO 0 ∧ cI Γ l h mX0_reasonOf [.ref x, .int p1, .int p2, .int 1] Gr8 br8 sr8 fun r11 Gr11 br11 sr11 => ((¬ r11 = 0 → (GW Γ l mX0_offersOf h MC MS Q 46 [(0, va_rf (some x)), (1, .int p1), (2, .int p2), (3, va_rf (some q1)), (4, .int r8), (5, .int 0)] [] Gr11 br11 sr11)) ∧ (r11 = 0 → (1 ≤ br11 ∧ 4 ≤ sr11 ∧ ∀ q14, gC Gr11 q14 = 0 → gA Γ q14 → cV Γ l h mX7_init [.ref q14, .int p1, .int (-2), .int 0, .int r8] (nO Gr11 q14 6) (br11 - 1) (sr11 - 4) fun Gr19 br19 sr19 => gC Gr19 q1 = kO 9 ∧ cI Γ l h mJ2_add [.ref q1, va_rf (some q14)] Gr19 br19 sr19 fun r21 Gr21 br21 sr21 => GW Γ l mX0_offersOf h MC MS Q 46 [(0, va_rf (some x)), (1, .int p1), (2, .int p2), (3, va_rf (some q1)), (4, .int r8), (5, .int 0)] [] Gr21 br21 sr21))))) : GW Γ l mX0_offersOf h MC MS Q 0 [(0, va_rf (some x)), (1, .int p1), (2, .int p2)] [] G bc bs := by
  obtain ⟨k3, F⟩ := F
  obtain ⟨k4, F⟩ := F
  refine g_new (C := RJ2) (T := TJ2) (N := 3) 9 rfl in_J2 tyJ2_ok nd_J2 q1428 q161 q112 k3 k4 dX0_offersOf_0 (fun q1 z2 z2' => ?_)
  have F := F q1 z2 z2'
  refine g_dup dX0_offersOf_3 (va_rf_cat _) ?_
  refine h_callIV (As := []) (rest := [va_rf (some q1)]) F 0 rfl rfl (lw_meth q164) q112 q1429 q163 rfl vm_J2_init.2 (by decide) rfl rfl (room_of (sc_R sc_nil) (Nat.le_of_ble_eq_true rfl)) dX0_offersOf_4 (fun Gr6 br6 sr6 F => ?_)
  refine s_astore_n (lv' := [(0, va_rf (some x)), (1, .int p1), (2, .int p2), (3, va_rf (some q1))]) (cat_R (cat_I (cat_I cat_nil))) dX0_offersOf_7 rfl (by decide) rfl [1, 2, 3, 0] rfl ?_
  refine g_aload_n dX0_offersOf_8 rfl 0 rfl ?_
  refine g_iload_n dX0_offersOf_9 rfl 1 rfl ?_
  obtain ⟨c9, F⟩ := F
  refine h_callVI (ci := 0) (C := RX0) (T := TX0) (N := 25) (As := [.int p1]) (rest := []) F 1 rfl rfl (lw_V q1277 q1279 qs30 q108 q1280) vm_X0_minutesOf (by decide) rfl c9 rfl (room_of sc_nil (Nat.le_of_ble_eq_true rfl)) dX0_offersOf_10 (fun r8 Gr8 br8 sr8 F => ?_)
  refine s_istore (lv' := [(0, va_rf (some x)), (1, .int p1), (2, .int p2), (3, va_rf (some q1)), (4, .int r8)]) (cat_R (cat_I (cat_I (cat_R cat_nil)))) dX0_offersOf_13 (by decide) rfl [1, 2, 3, 4, 0] rfl ?_
  refine g_aload_n dX0_offersOf_15 rfl 0 rfl ?_
  refine g_iload_n dX0_offersOf_16 rfl 1 rfl ?_
  refine g_iload_n dX0_offersOf_17 rfl 2 rfl ?_
  refine g_iconst (v := 1) dX0_offersOf_18 (by decide) ?_
  obtain ⟨c12, F⟩ := F
  refine h_callVI (ci := 0) (C := RX0) (T := TX0) (N := 25) (As := [.int p1, .int p2, .int 1]) (rest := []) F 3 rfl rfl (lw_V q1126 q1128 qs12 q108 q1129) vm_X0_reasonOf (by decide) rfl c12 rfl (room_of sc_nil (Nat.le_of_ble_eq_true rfl)) dX0_offersOf_19 (fun r11 Gr11 br11 sr11 F => ?_)
  refine g_if_ne 43 dX0_offersOf_22 (by decide) (fun h24 => ?_) (fun h24 => ?_)
  · have F := F.1 h24
    refine g_iconst (v := 0) dX0_offersOf_43 (by decide) ?_
    refine s_istore (lv' := [(0, va_rf (some x)), (1, .int p1), (2, .int p2), (3, va_rf (some q1)), (4, .int r8), (5, .int 0)]) (cat_R (cat_I (cat_I (cat_R (cat_I cat_nil))))) dX0_offersOf_44 (by decide) rfl [1, 2, 3, 4, 5, 0] rfl ?_
    exact F
  · have F := F.2 h24
    refine g_aload_n dX0_offersOf_25 rfl 3 rfl ?_
    obtain ⟨k16, F⟩ := F
    obtain ⟨k17, F⟩ := F
    refine g_new (C := RX7) (T := TX7) (N := 4) 6 rfl in_X7 tyX7_ok nd_X7 q1368 q1369 q141 k16 k17 dX0_offersOf_26 (fun q14 z15 z15' => ?_)
    have F := F q14 z15 z15'
    refine g_dup dX0_offersOf_29 (va_rf_cat _) ?_
    refine g_iload_n dX0_offersOf_30 rfl 1 rfl ?_
    refine g_bipush (v := (-2)) dX0_offersOf_31 (by decide) ?_
    refine g_iconst (v := 0) dX0_offersOf_33 (by decide) ?_
    refine g_iload dX0_offersOf_34 4 rfl ?_
    refine h_callIV (As := [.int p1, .int (-2), .int 0, .int r8]) (rest := [va_rf (some q14), va_rf (some q1)]) F 4 rfl rfl (lw_meth q1372) q141 q1370 q1371 rfl vm_X7_init.2 (by decide) rfl rfl (room_of (sc_R (sc_R sc_nil)) (Nat.le_of_ble_eq_true rfl)) dX0_offersOf_36 (fun Gr19 br19 sr19 F => ?_)
    obtain ⟨c22, F⟩ := F
    refine h_callVI (ci := 9) (C := RJ2) (T := TJ2) (N := 3) (As := [va_rf (some q14)]) (rest := []) F 1 rfl rfl (lw_V q1065 q378 q379 q112 q380) vm_J2_add (by decide) rfl c22 rfl (room_of sc_nil (Nat.le_of_ble_eq_true rfl)) dX0_offersOf_39 (fun r21 Gr21 br21 sr21 F => ?_)
    refine g_pop dX0_offersOf_42 rfl ?_
    refine g_iconst (v := 0) dX0_offersOf_43 (by decide) ?_
    refine s_istore (lv' := [(0, va_rf (some x)), (1, .int p1), (2, .int p2), (3, va_rf (some q1)), (4, .int r8), (5, .int 0)]) (cat_R (cat_I (cat_I (cat_R (cat_I cat_nil))))) dX0_offersOf_44 (by decide) rfl [1, 2, 3, 4, 5, 0] rfl ?_
    exact F
theorem rX0_offersOf_46 {Γ : GE} {l : Launch} {h MC MS : Nat} {Q : Option Value → GH → Prop} {bc bs : Nat} {G : GH} (x : Nat) (p1 : Int32) (p2 : Int32) (p3 : Option Nat) (p4 : Int32) (p5 : Int32) (F : (gC G x = kO 0 ∧ ∃ a2, (gR G x 0) = some a2 ∧ gC G a2 = kO 2 ∧ gM G a2 = true ∧ ∃ a7, (gR G a2 0) = some a7 ∧ gC G a7 = kO 9 ∧ cI Γ l h mJ2_size [.ref a7] G bc bs fun r6 Gr6 br6 sr6 => ((r6 ≤ p5 → (Q (some (va_rf p3)) Gr6)) ∧ (¬ r6 ≤ p5 → (gC Gr6 x = kO 0 ∧ cI Γ l h mX0_canRideThenFly [.ref x, .int p1, .int p5, .int p2] Gr6 br6 sr6 fun r11 Gr11 br11 sr11 => ((r11 = 0 → (GW Γ l mX0_offersOf h MC MS Q 46 [(0, va_rf (some x)), (1, .int p1), (2, .int p2), (3, va_rf p3), (4, .int p4), (5, .int (p5 + 1))] [] Gr11 br11 sr11)) ∧ (¬ r11 = 0 → (1 ≤ br11 ∧ 4 ≤ sr11 ∧ ∀ q14, gC Gr11 q14 = 0 → gA Γ q14 → gC (nO Gr11 q14 6) x = kO 0 ∧ cR Γ l h mX0_legOf [.ref x, .int p5] (nO Gr11 q14 6) (br11 - 1) (sr11 - 4) fun r19 Gr19 br19 sr19 => ∃ a23, r19 = some a23 ∧ gC Gr19 a23 = kO 3 ∧ cI Γ l h mX8_length [.ref a23] Gr19 br19 sr19 fun r22 Gr22 br22 sr22 => gC Gr22 x = kO 0 ∧ ∃ a28, (gR Gr22 x 0) = some a28 ∧ gC Gr22 a28 = kO 2 ∧ gM Gr22 a28 = true ∧ ∃ a32, (gR Gr22 a28 2) = some a32 ∧ gC Gr22 a32 = kA 0 ∧ vp_in 6 (gL Gr22 a32) ∧ cV Γ l h mX7_init [.ref q14, .int p1, .int p5, .int (r22 * (gI Gr22 a32 (6 : Int32).toNatClampNeg)), .int p4] Gr22 br22 sr22 fun Gr36 br36 sr36 => ∃ a39, p3 = some a39 ∧ gC Gr36 a39 = kO 9 ∧ cI Γ l h mJ2_add [.ref a39, va_rf (some q14)] Gr36 br36 sr36 fun r38 Gr38 br38 sr38 => GW Γ l mX0_offersOf h MC MS Q 46 [(0, va_rf (some x)), (1, .int p1), (2, .int p2), (3, va_rf p3), (4, .int p4), (5, .int (p5 + 1))] [] Gr38 br38 sr38)))))))) : GW Γ l mX0_offersOf h MC MS Q 46 [(0, va_rf (some x)), (1, .int p1), (2, .int p2), (3, va_rf p3), (4, .int p4), (5, .int p5)] [] G bc bs := by
  refine g_iload dX0_offersOf_46 5 rfl ?_
  refine g_aload_n dX0_offersOf_48 rfl 0 rfl ?_
  obtain ⟨c1, F⟩ := F
  refine h_get (v := va_rf (gR G x 0)) 0 0 (C := RX0) (T := TX0) (N := 25) rfl in_X0 (by decide) q237 (Or.inl rfl) rfl c1 rfl dX0_offersOf_49 ?_
  obtain ⟨a2, e3, F⟩ := F
  obtain ⟨c4, F⟩ := F
  obtain ⟨m5, F⟩ := F
  refine h_getN (host := "CrewPairer") (v := va_rf (gR G a2 0)) 2 0 (C := RX1) (T := TX1) (N := 3) rfl in_X1 (by decide) (by decide +kernel) rfl e3 c4 m5 rfl dX0_offersOf_52 ?_
  obtain ⟨a7, e8, F⟩ := F
  obtain ⟨c9, F⟩ := F
  refine h_callVI (ci := 9) (C := RJ2) (T := TJ2) (N := 3) (As := []) (rest := [.int p5]) F 0 rfl rfl (lw_V q480 q328 q329 q112 q330) vm_J2_size (by decide) e8 c9 rfl (room_of (sc_I sc_nil) (Nat.le_of_ble_eq_true rfl)) dX0_offersOf_55 (fun r6 Gr6 br6 sr6 F => ?_)
  refine g_icmp_ge 115 dX0_offersOf_58 (by decide) (fun h44 => ?_) (fun h44 => ?_)
  · have F := F.1 h44
    refine g_aload_n dX0_offersOf_115 rfl 3 rfl ?_
    exact g_aret (r := p3) rfl (Or.inl ⟨_, rfl⟩) dX0_offersOf_116 F
  · have F := F.2 h44
    refine g_aload_n dX0_offersOf_61 rfl 0 rfl ?_
    refine g_iload_n dX0_offersOf_62 rfl 1 rfl ?_
    refine g_iload dX0_offersOf_63 5 rfl ?_
    refine g_iload_n dX0_offersOf_65 rfl 2 rfl ?_
    obtain ⟨c12, F⟩ := F
    refine h_callVI (ci := 0) (C := RX0) (T := TX0) (N := 25) (As := [.int p1, .int p5, .int p2]) (rest := []) F 3 rfl rfl (lw_V q1430 q1432 qs40 q108 q1433) vm_X0_canRideThenFly (by decide) rfl c12 rfl (room_of sc_nil (Nat.le_of_ble_eq_true rfl)) dX0_offersOf_66 (fun r11 Gr11 br11 sr11 F => ?_)
    refine g_if_eq 109 dX0_offersOf_69 (by decide) (fun h43 => ?_) (fun h43 => ?_)
    · have F := F.1 h43
      refine s_iinc (v := (p5 + 1)) (lv' := [(0, va_rf (some x)), (1, .int p1), (2, .int p2), (3, va_rf p3), (4, .int p4), (5, .int (p5 + 1))]) (cat_R (cat_I (cat_I (cat_R (cat_I (cat_I cat_nil)))))) dX0_offersOf_109 (k0 := 5) rfl rfl (by decide) rfl [1, 2, 3, 4, 5, 0] rfl ?_
      refine g_goto 46 dX0_offersOf_112 (by decide) ?_
      exact F
    · have F := F.2 h43
      refine g_aload_n dX0_offersOf_72 rfl 3 rfl ?_
      obtain ⟨k16, F⟩ := F
      obtain ⟨k17, F⟩ := F
      refine g_new (C := RX7) (T := TX7) (N := 4) 6 rfl in_X7 tyX7_ok nd_X7 q1368 q1369 q141 k16 k17 dX0_offersOf_73 (fun q14 z15 z15' => ?_)
      have F := F q14 z15 z15'
      refine g_dup dX0_offersOf_76 (va_rf_cat _) ?_
      refine g_iload_n dX0_offersOf_77 rfl 1 rfl ?_
      refine g_iload dX0_offersOf_78 5 rfl ?_
      refine g_aload_n dX0_offersOf_80 rfl 0 rfl ?_
      refine g_iload dX0_offersOf_81 5 rfl ?_
      obtain ⟨c20, F⟩ := F
      refine h_callVR (ci := 0) (C := RX0) (T := TX0) (N := 25) (As := [.int p5]) (rest := [.int p5, .int p1, va_rf (some q14), va_rf (some q14), va_rf p3]) F 1 rfl rfl (lw_V q551 q553 qs6 q108 q554) vm_X0_legOf (by decide) rfl c20 rfl (room_of (sc_I (sc_I (sc_R (sc_R (sc_R sc_nil))))) (Nat.le_of_ble_eq_true rfl)) dX0_offersOf_83 (fun r19 Gr19 br19 sr19 F => ?_)
      obtain ⟨a23, e24, F⟩ := F
      obtain ⟨c25, F⟩ := F
      refine h_callDI (ci := 3) (x := ⟨"CrewPairer$Leg", "length", "()I"⟩) (C := RX4) (T := TX4) (N := 5) (As := []) (rest := [.int p5, .int p1, va_rf (some q14), va_rf (some q14), va_rf p3]) F 0 rfl rfl (by decide +kernel) (by decide +kernel) (by decide +kernel) (by decide +kernel) q1188 q142 q1190 vm_X8_length.2 (by decide) e24 c25 rfl (room_of (sc_I (sc_I (sc_R (sc_R (sc_R sc_nil))))) (Nat.le_of_ble_eq_true rfl)) dX0_offersOf_86 (fun r22 Gr22 br22 sr22 F => ?_)
      refine g_aload_n dX0_offersOf_89 rfl 0 rfl ?_
      obtain ⟨c27, F⟩ := F
      refine h_get (v := va_rf (gR Gr22 x 0)) 0 0 (C := RX0) (T := TX0) (N := 25) rfl in_X0 (by decide) q237 (Or.inl rfl) rfl c27 rfl dX0_offersOf_90 ?_
      obtain ⟨a28, e29, F⟩ := F
      obtain ⟨c30, F⟩ := F
      obtain ⟨m31, F⟩ := F
      refine h_getN (host := "CrewPairer") (v := va_rf (gR Gr22 a28 2)) 2 2 (C := RX1) (T := TX1) (N := 3) rfl in_X1 (by decide) (by decide +kernel) rfl e29 c30 m31 rfl dX0_offersOf_93 ?_
      refine g_bipush (v := 6) dX0_offersOf_96 (by decide) ?_
      obtain ⟨a32, e33, F⟩ := F
      obtain ⟨c34, F⟩ := F
      obtain ⟨k35, F⟩ := F
      refine h_iald e33 c34 k35 dX0_offersOf_98 ?_
      refine g_imul dX0_offersOf_99 ?_
      refine g_iload dX0_offersOf_100 4 rfl ?_
      refine h_callIV (As := [.int p1, .int p5, .int (r22 * (gI Gr22 a32 (6 : Int32).toNatClampNeg)), .int p4]) (rest := [va_rf (some q14), va_rf p3]) F 4 rfl rfl (lw_meth q1372) q141 q1370 q1371 rfl vm_X7_init.2 (by decide) rfl rfl (room_of (sc_R (sc_R sc_nil)) (Nat.le_of_ble_eq_true rfl)) dX0_offersOf_102 (fun Gr36 br36 sr36 F => ?_)
      obtain ⟨a39, e40, F⟩ := F
      obtain ⟨c41, F⟩ := F
      refine h_callVI (ci := 9) (C := RJ2) (T := TJ2) (N := 3) (As := [va_rf (some q14)]) (rest := []) F 1 rfl rfl (lw_V q1065 q378 q379 q112 q380) vm_J2_add (by decide) e40 c41 rfl (room_of sc_nil (Nat.le_of_ble_eq_true rfl)) dX0_offersOf_105 (fun r38 Gr38 br38 sr38 F => ?_)
      refine g_pop dX0_offersOf_108 rfl ?_
      refine s_iinc (v := (p5 + 1)) (lv' := [(0, va_rf (some x)), (1, .int p1), (2, .int p2), (3, va_rf p3), (4, .int p4), (5, .int (p5 + 1))]) (cat_R (cat_I (cat_I (cat_R (cat_I (cat_I cat_nil)))))) dX0_offersOf_109 (k0 := 5) rfl rfl (by decide) rfl [1, 2, 3, 4, 5, 0] rfl ?_
      refine g_goto 46 dX0_offersOf_112 (by decide) ?_
      exact F
theorem rX0_canRideThenFly_0 {Γ : GE} {l : Launch} {h MC MS : Nat} {Q : Option Value → GH → Prop} {bc bs : Nat} {G : GH} (x : Nat) (p1 : Int32) (p2 : Int32) (p3 : Int32) (F : ((p2 = p3 → (Q (some (.int 0)) G)) ∧ (¬ p2 = p3 → (gC G x = kO 0 ∧ cR Γ l h mX0_legOf [.ref x, .int p2] G bc bs fun r1 Gr1 br1 sr1 => ∃ a4, r1 = some a4 ∧ gC Gr1 a4 = kO 3 ∧ gM Gr1 a4 = true ∧ gC Gr1 x = kO 0 ∧ cR Γ l h mX0_legOf [.ref x, .int p3] Gr1 br1 sr1 fun r8 Gr8 br8 sr8 => ∃ a11, r8 = some a11 ∧ gC Gr8 a11 = kO 3 ∧ gM Gr8 a11 = true ∧ (((gI Gr1 a4 2) < (gI Gr8 a11 2) → (gC Gr8 x = kO 0 ∧ cV Γ l h mX0_loadRow [.ref x, .int p1] Gr8 br8 sr8 fun Gr15 br15 sr15 => gC Gr15 x = kO 0 ∧ cI Γ l h mX0_reasonHere [.ref x, .int p2, .int 0] Gr15 br15 sr15 fun r18 Gr18 br18 sr18 => ((¬ r18 = 0 → (Q (some (.int 0)) Gr18)) ∧ (r18 = 0 → (gC Gr18 x = kO 0 ∧ cI Γ l h mX0_reasonHere [.ref x, .int p3, .int 1] Gr18 br18 sr18 fun r21 Gr21 br21 sr21 => ((¬ r21 = 0 → (Q (some (.int 0)) Gr21)) ∧ (r21 = 0 → (Q (some (.int 1)) Gr21)))))))) ∧ (¬ (gI Gr1 a4 2) < (gI Gr8 a11 2) → (Q (some (.int 0)) Gr8))))))) : GW Γ l mX0_canRideThenFly h MC MS Q 0 [(0, va_rf (some x)), (1, .int p1), (2, .int p2), (3, .int p3)] [] G bc bs := by
  refine g_iload_n dX0_canRideThenFly_0 rfl 2 rfl ?_
  refine g_iload_n dX0_canRideThenFly_1 rfl 3 rfl ?_
  refine g_icmp_eq 24 dX0_canRideThenFly_2 (by decide) (fun h27 => ?_) (fun h27 => ?_)
  · have F := F.1 h27
    refine g_iconst (v := 0) dX0_canRideThenFly_24 (by decide) ?_
    exact g_zret rfl rfl dX0_canRideThenFly_25 F
  · have F := F.2 h27
    refine g_aload_n dX0_canRideThenFly_5 rfl 0 rfl ?_
    refine g_iload_n dX0_canRideThenFly_6 rfl 2 rfl ?_
    obtain ⟨c2, F⟩ := F
    refine h_callVR (ci := 0) (C := RX0) (T := TX0) (N := 25) (As := [.int p2]) (rest := []) F 1 rfl rfl (lw_V q551 q553 qs6 q108 q554) vm_X0_legOf (by decide) rfl c2 rfl (room_of sc_nil (Nat.le_of_ble_eq_true rfl)) dX0_canRideThenFly_7 (fun r1 Gr1 br1 sr1 F => ?_)
    obtain ⟨a4, e5, F⟩ := F
    obtain ⟨c6, F⟩ := F
    obtain ⟨m7, F⟩ := F
    refine h_getN (host := "CrewPairer") (v := .int (gI Gr1 a4 2)) 3 2 (C := RX4) (T := TX4) (N := 5) rfl in_X4 (by decide) (by decide +kernel) rfl e5 c6 m7 rfl dX0_canRideThenFly_10 ?_
    refine g_aload_n dX0_canRideThenFly_13 rfl 0 rfl ?_
    refine g_iload_n dX0_canRideThenFly_14 rfl 3 rfl ?_
    obtain ⟨c9, F⟩ := F
    refine h_callVR (ci := 0) (C := RX0) (T := TX0) (N := 25) (As := [.int p3]) (rest := [.int (gI Gr1 a4 2)]) F 1 rfl rfl (lw_V q551 q553 qs6 q108 q554) vm_X0_legOf (by decide) rfl c9 rfl (room_of (sc_I sc_nil) (Nat.le_of_ble_eq_true rfl)) dX0_canRideThenFly_15 (fun r8 Gr8 br8 sr8 F => ?_)
    obtain ⟨a11, e12, F⟩ := F
    obtain ⟨c13, F⟩ := F
    obtain ⟨m14, F⟩ := F
    refine h_getN (host := "CrewPairer") (v := .int (gI Gr8 a11 2)) 3 2 (C := RX4) (T := TX4) (N := 5) rfl in_X4 (by decide) (by decide +kernel) rfl e12 c13 m14 rfl dX0_canRideThenFly_18 ?_
    refine g_icmp_lt 26 dX0_canRideThenFly_21 (by decide) (fun h26 => ?_) (fun h26 => ?_)
    · have F := F.1 h26
      refine g_aload_n dX0_canRideThenFly_26 rfl 0 rfl ?_
      refine g_iload_n dX0_canRideThenFly_27 rfl 1 rfl ?_
      obtain ⟨c16, F⟩ := F
      refine h_callVV (ci := 0) (C := RX0) (T := TX0) (N := 25) (As := [.int p1]) (rest := []) F 1 rfl rfl (lw_V q1130 q1132 qs13 q108 q1133) vm_X0_loadRow (by decide) rfl c16 rfl (room_of sc_nil (Nat.le_of_ble_eq_true rfl)) dX0_canRideThenFly_28 (fun Gr15 br15 sr15 F => ?_)
      refine g_aload_n dX0_canRideThenFly_31 rfl 0 rfl ?_
      refine g_iload_n dX0_canRideThenFly_32 rfl 2 rfl ?_
      refine g_iconst (v := 0) dX0_canRideThenFly_33 (by decide) ?_
      obtain ⟨c19, F⟩ := F
      refine h_callVI (ci := 0) (C := RX0) (T := TX0) (N := 25) (As := [.int p2, .int 0]) (rest := []) F 2 rfl rfl (lw_V q1134 q1136 qs14 q108 q1137) vm_X0_reasonHere (by decide) rfl c19 rfl (room_of sc_nil (Nat.le_of_ble_eq_true rfl)) dX0_canRideThenFly_34 (fun r18 Gr18 br18 sr18 F => ?_)
      refine g_if_ne 53 dX0_canRideThenFly_37 (by decide) (fun h25 => ?_) (fun h25 => ?_)
      · have F := F.1 h25
        refine g_iconst (v := 0) dX0_canRideThenFly_53 (by decide) ?_
        exact g_zret rfl rfl dX0_canRideThenFly_54 F
      · have F := F.2 h25
        refine g_aload_n dX0_canRideThenFly_40 rfl 0 rfl ?_
        refine g_iload_n dX0_canRideThenFly_41 rfl 3 rfl ?_
        refine g_iconst (v := 1) dX0_canRideThenFly_42 (by decide) ?_
        obtain ⟨c22, F⟩ := F
        refine h_callVI (ci := 0) (C := RX0) (T := TX0) (N := 25) (As := [.int p3, .int 1]) (rest := []) F 2 rfl rfl (lw_V q1134 q1136 qs14 q108 q1137) vm_X0_reasonHere (by decide) rfl c22 rfl (room_of sc_nil (Nat.le_of_ble_eq_true rfl)) dX0_canRideThenFly_43 (fun r21 Gr21 br21 sr21 F => ?_)
        refine g_if_ne 53 dX0_canRideThenFly_46 (by decide) (fun h24 => ?_) (fun h24 => ?_)
        · have F := F.1 h24
          refine g_iconst (v := 0) dX0_canRideThenFly_53 (by decide) ?_
          exact g_zret rfl rfl dX0_canRideThenFly_54 F
        · have F := F.2 h24
          refine g_iconst (v := 1) dX0_canRideThenFly_49 (by decide) ?_
          refine g_goto 54 dX0_canRideThenFly_50 (by decide) ?_
          exact g_zret rfl rfl dX0_canRideThenFly_54 F
    · have F := F.2 h26
      refine g_iconst (v := 0) dX0_canRideThenFly_24 (by decide) ?_
      exact g_zret rfl rfl dX0_canRideThenFly_25 F
theorem rX0_pair_0 {Γ : GE} {l : Launch} {h MC MS : Nat} {Q : Option Value → GH → Prop} {bc bs : Nat} {G : GH} (x : Nat) (F : (gC G x = kO 0 ∧ cV Γ l h mX0_beginChange [.ref x] G bc bs fun Gr1 br1 sr1 => gC Gr1 x = kO 0 ∧ cI Γ l h mX0_findOpen [.ref x] Gr1 br1 sr1 fun r4 Gr4 br4 sr4 => gC Gr4 x = kO 0 ∧ ∃ a8, (gR Gr4 x 13) = some a8 ∧ gC Gr4 a8 = kA 0 ∧ gM Gr4 a8 = true ∧ ∃ a12, (gR Gr4 x 14) = some a12 ∧ gC Gr4 a12 = kA 0 ∧ gM Gr4 a12 = true ∧ ¬ r4 < 0 ∧ (0 : Int32).toNatClampNeg + r4.toNatClampNeg ≤ gL Gr4 a8 ∧ (0 : Int32).toNatClampNeg + r4.toNatClampNeg ≤ gL Gr4 a12 ∧ 0 < h ∧ ∀ H20, H20 = (wI Gr4 a12 (va_cpy (gI Gr4 a8) (gI Gr4 a12) (0 : Int32).toNatClampNeg (0 : Int32).toNatClampNeg r4.toNatClampNeg)) → GW Γ l mX0_pair h MC MS Q 27 [(0, va_rf (some x)), (1, .int r4), (2, .int 0), (3, .int 0)] [] H20 br4 sr4)) : GW Γ l mX0_pair h MC MS Q 0 [(0, va_rf (some x))] [] G bc bs := by
  refine g_aload_n dX0_pair_0 rfl 0 rfl ?_
  obtain ⟨c2, F⟩ := F
  refine h_callVV (ci := 0) (C := RX0) (T := TX0) (N := 25) (As := []) (rest := []) F 0 rfl rfl (lw_V q485 q487 qs3 q108 q488) vm_X0_beginChange (by decide) rfl c2 rfl (room_of sc_nil (Nat.le_of_ble_eq_true rfl)) dX0_pair_1 (fun Gr1 br1 sr1 F => ?_)
  refine g_aload_n dX0_pair_4 rfl 0 rfl ?_
  obtain ⟨c5, F⟩ := F
  refine h_callVI (ci := 0) (C := RX0) (T := TX0) (N := 25) (As := []) (rest := []) F 0 rfl rfl (lw_V q1309 q1311 qs33 q108 q1312) vm_X0_findOpen (by decide) rfl c5 rfl (room_of sc_nil (Nat.le_of_ble_eq_true rfl)) dX0_pair_5 (fun r4 Gr4 br4 sr4 F => ?_)
  refine s_istore_n (lv' := [(0, va_rf (some x)), (1, .int r4)]) (cat_R cat_nil) dX0_pair_8 rfl (by decide) rfl [1, 0] rfl ?_
  refine g_aload_n dX0_pair_9 rfl 0 rfl ?_
  obtain ⟨c7, F⟩ := F
  refine h_get (v := va_rf (gR Gr4 x 13)) 0 13 (C := RX0) (T := TX0) (N := 25) rfl in_X0 (by decide) q250 (Or.inl rfl) rfl c7 rfl dX0_pair_10 ?_
  refine g_iconst (v := 0) dX0_pair_13 (by decide) ?_
  refine g_aload_n dX0_pair_14 rfl 0 rfl ?_
  refine h_get (v := va_rf (gR Gr4 x 14)) 0 14 (C := RX0) (T := TX0) (N := 25) rfl in_X0 (by decide) q251 (Or.inl rfl) rfl c7 rfl dX0_pair_15 ?_
  refine g_iconst (v := 0) dX0_pair_18 (by decide) ?_
  refine g_iload_n dX0_pair_19 rfl 1 rfl ?_
  obtain ⟨a8, e9, F⟩ := F
  obtain ⟨c10, F⟩ := F
  obtain ⟨m11, F⟩ := F
  obtain ⟨a12, e13, F⟩ := F
  obtain ⟨c14, F⟩ := F
  obtain ⟨m15, F⟩ := F
  obtain ⟨k16, F⟩ := F
  obtain ⟨k17, F⟩ := F
  obtain ⟨k18, F⟩ := F
  obtain ⟨k19, F⟩ := F
  refine h_copyi 0 (by decide) q493 q439 q438 q118 e9 c10 m11 e13 c14 m15 (by decide) (by decide) k16 k17 k18 (fun _ _ => rfl) k19 (room_of sc_nil (Nat.le_of_ble_eq_true rfl)) dX0_pair_20 ?_
  obtain ⟨H20, h21⟩ : ∃ g : GH, g = (wI Gr4 a12 (va_cpy (gI Gr4 a8) (gI Gr4 a12) (0 : Int32).toNatClampNeg (0 : Int32).toNatClampNeg r4.toNatClampNeg)) := ⟨_, rfl⟩
  rw [← h21]
  have F := F H20 h21
  refine g_iconst (v := 0) dX0_pair_23 (by decide) ?_
  refine s_istore_n (lv' := [(0, va_rf (some x)), (1, .int r4), (2, .int 0)]) (cat_R (cat_I cat_nil)) dX0_pair_24 rfl (by decide) rfl [1, 2, 0] rfl ?_
  refine g_iconst (v := 0) dX0_pair_25 (by decide) ?_
  refine s_istore_n (lv' := [(0, va_rf (some x)), (1, .int r4), (2, .int 0), (3, .int 0)]) (cat_R (cat_I (cat_I cat_nil))) dX0_pair_26 rfl (by decide) rfl [1, 2, 3, 0] rfl ?_
  exact F
theorem rX0_pair_27 {Γ : GE} {l : Launch} {h MC MS : Nat} {Q : Option Value → GH → Prop} {bc bs : Nat} {G : GH} (x : Nat) (p1 : Int32) (p2 : Int32) (p3 : Int32) (F : ((p1 ≤ p3 → (Q (some (.int p2)) G)) ∧ (¬ p1 ≤ p3 → (gC G x = kO 0 ∧ ∃ a2, (gR G x 14) = some a2 ∧ gC G a2 = kA 0 ∧ vp_in p3 (gL G a2) ∧ cR Γ l h mX0_bestOffer [.ref x, .int (gI G a2 p3.toNatClampNeg)] G bc bs fun r6 Gr6 br6 sr6 => ((r6 = none → (GW Γ l mX0_pair h MC MS Q 27 [(0, va_rf (some x)), (1, .int p1), (2, .int p2), (3, .int (p3 + 1))] [] Gr6 br6 sr6)) ∧ (∀ a8, r6 = some a8 → (gC Gr6 x = kO 0 ∧ ∃ a11, (gR Gr6 x 14) = some a11 ∧ gC Gr6 a11 = kA 0 ∧ vp_in p3 (gL Gr6 a11) ∧ cV Γ l h mX0_accept [.ref x, va_rf r6, .int (gI Gr6 a11 p3.toNatClampNeg)] Gr6 br6 sr6 fun Gr15 br15 sr15 => GW Γ l mX0_pair h MC MS Q 27 [(0, va_rf (some x)), (1, .int p1), (2, .int (p2 + 1)), (3, .int (p3 + 1))] [] Gr15 br15 sr15))))))) : GW Γ l mX0_pair h MC MS Q 27 [(0, va_rf (some x)), (1, .int p1), (2, .int p2), (3, .int p3)] [] G bc bs := by
  refine g_iload_n dX0_pair_27 rfl 3 rfl ?_
  refine g_iload_n dX0_pair_28 rfl 1 rfl ?_
  refine g_icmp_ge 70 dX0_pair_29 (by decide) (fun h17 => ?_) (fun h17 => ?_)
  · have F := F.1 h17
    refine g_iload_n dX0_pair_70 rfl 2 rfl ?_
    exact g_iret rfl dX0_pair_71 F
  · have F := F.2 h17
    refine g_aload_n dX0_pair_32 rfl 0 rfl ?_
    refine g_aload_n dX0_pair_33 rfl 0 rfl ?_
    obtain ⟨c1, F⟩ := F
    refine h_get (v := va_rf (gR G x 14)) 0 14 (C := RX0) (T := TX0) (N := 25) rfl in_X0 (by decide) q251 (Or.inl rfl) rfl c1 rfl dX0_pair_34 ?_
    refine g_iload_n dX0_pair_37 rfl 3 rfl ?_
    obtain ⟨a2, e3, F⟩ := F
    obtain ⟨c4, F⟩ := F
    obtain ⟨k5, F⟩ := F
    refine h_iald e3 c4 k5 dX0_pair_38 ?_
    refine h_callVR (ci := 0) (C := RX0) (T := TX0) (N := 25) (As := [.int (gI G a2 p3.toNatClampNeg)]) (rest := []) F 1 rfl rfl (lw_V q1420 q1422 qs38 q108 q1423) vm_X0_bestOffer (by decide) rfl c1 rfl (room_of sc_nil (Nat.le_of_ble_eq_true rfl)) dX0_pair_39 (fun r6 Gr6 br6 sr6 F => ?_)
    refine s_astore (lv' := [(0, va_rf (some x)), (1, .int p1), (2, .int p2), (3, .int p3), (4, va_rf r6)]) (cat_R (cat_I (cat_I (cat_I cat_nil)))) dX0_pair_42 (by decide) rfl [1, 2, 3, 4, 0] rfl ?_
    refine g_aload dX0_pair_44 4 rfl ?_
    refine g_ifnull 64 dX0_pair_46 (by decide) (fun e9 => ?_) (fun a8 e9 => ?_)
    · have F := F.1 e9
      refine s_iinc (v := (p3 + 1)) (lv' := [(0, va_rf (some x)), (1, .int p1), (2, .int p2), (3, .int (p3 + 1)), (4, va_rf r6)]) (cat_R (cat_I (cat_I (cat_I (cat_R cat_nil))))) dX0_pair_64 (k0 := 3) rfl rfl (by decide) rfl [1, 2, 3, 0, 4] rfl ?_
      refine g_goto 27 dX0_pair_67 (by decide) ?_
      refine GW.lsub (lv' := [(0, va_rf (some x)), (1, .int p1), (2, .int p2), (3, .int (p3 + 1))]) [0, 1, 2, 3] rfl ?_
      exact F
    · have F := F.2 a8 e9
      refine g_aload_n dX0_pair_49 rfl 0 rfl ?_
      refine g_aload dX0_pair_50 4 rfl ?_
      refine g_aload_n dX0_pair_52 rfl 0 rfl ?_
      obtain ⟨c10, F⟩ := F
      refine h_get (v := va_rf (gR Gr6 x 14)) 0 14 (C := RX0) (T := TX0) (N := 25) rfl in_X0 (by decide) q251 (Or.inl rfl) rfl c10 rfl dX0_pair_53 ?_
      refine g_iload_n dX0_pair_56 rfl 3 rfl ?_
      obtain ⟨a11, e12, F⟩ := F
      obtain ⟨c13, F⟩ := F
      obtain ⟨k14, F⟩ := F
      refine h_iald e12 c13 k14 dX0_pair_57 ?_
      refine h_callVV (ci := 0) (C := RX0) (T := TX0) (N := 25) (As := [va_rf r6, .int (gI Gr6 a11 p3.toNatClampNeg)]) (rest := []) F 2 rfl rfl (lw_V q1446 q1448 qs41 q108 q1449) vm_X0_accept (by decide) rfl c10 rfl (room_of sc_nil (Nat.le_of_ble_eq_true rfl)) dX0_pair_58 (fun Gr15 br15 sr15 F => ?_)
      refine s_iinc (v := (p2 + 1)) (lv' := [(0, va_rf (some x)), (1, .int p1), (2, .int (p2 + 1)), (3, .int p3), (4, va_rf r6)]) (cat_R (cat_I (cat_I (cat_I (cat_R cat_nil))))) dX0_pair_61 (k0 := 2) rfl rfl (by decide) rfl [1, 2, 0, 3, 4] rfl ?_
      refine s_iinc (v := (p3 + 1)) (lv' := [(0, va_rf (some x)), (1, .int p1), (2, .int (p2 + 1)), (3, .int (p3 + 1)), (4, va_rf r6)]) (cat_R (cat_I (cat_I (cat_I (cat_R cat_nil))))) dX0_pair_64 (k0 := 3) rfl rfl (by decide) rfl [1, 2, 3, 0, 4] rfl ?_
      refine g_goto 27 dX0_pair_67 (by decide) ?_
      refine GW.lsub (lv' := [(0, va_rf (some x)), (1, .int p1), (2, .int (p2 + 1)), (3, .int (p3 + 1))]) [0, 1, 2, 3] rfl ?_
      exact F
theorem rX0_accept_0 {Γ : GE} {l : Launch} {h MC MS : Nat} {Q : Option Value → GH → Prop} {bc bs : Nat} {G : GH} (x : Nat) (p1 : Option Nat) (p2 : Int32) (F : (∃ a1, p1 = some a1 ∧ gC G a1 = kO 6 ∧ gM G a1 = true ∧ gC G x = kO 0 ∧ cV Γ l h mX0_loadRow [.ref x, .int (gI G a1 0)] G bc bs fun Gr5 br5 sr5 => gC Gr5 a1 = kO 6 ∧ gM Gr5 a1 = true ∧ (((gI Gr5 a1 1) < 0 → (gC Gr5 x = kO 0 ∧ cI Γ l h mX0_insert [.ref x, .int p2, .int 1] Gr5 br5 sr5 fun r10 Gr10 br10 sr10 => gC Gr10 a1 = kO 6 ∧ gM Gr10 a1 = true ∧ gC Gr10 x = kO 0 ∧ cV Γ l h mX0_storeRow [.ref x, .int (gI Gr10 a1 0)] Gr10 br10 sr10 fun Gr15 br15 sr15 => Q none Gr15)) ∧ (¬ (gI Gr5 a1 1) < 0 → (gC Gr5 x = kO 0 ∧ cI Γ l h mX0_insert [.ref x, .int (gI Gr5 a1 1), .int 0] Gr5 br5 sr5 fun r18 Gr18 br18 sr18 => gC Gr18 x = kO 0 ∧ cI Γ l h mX0_insert [.ref x, .int p2, .int 1] Gr18 br18 sr18 fun r21 Gr21 br21 sr21 => gC Gr21 a1 = kO 6 ∧ gM Gr21 a1 = true ∧ gC Gr21 x = kO 0 ∧ cV Γ l h mX0_storeRow [.ref x, .int (gI Gr21 a1 0)] Gr21 br21 sr21 fun Gr26 br26 sr26 => Q none Gr26))))) : GW Γ l mX0_accept h MC MS Q 0 [(0, va_rf (some x)), (1, va_rf p1), (2, .int p2)] [] G bc bs := by
  refine g_aload_n dX0_accept_0 rfl 0 rfl ?_
  refine g_aload_n dX0_accept_1 rfl 1 rfl ?_
  obtain ⟨a1, e2, F⟩ := F
  obtain ⟨c3, F⟩ := F
  obtain ⟨m4, F⟩ := F
  refine h_getN (host := "CrewPairer") (v := .int (gI G a1 0)) 6 0 (C := RX7) (T := TX7) (N := 4) rfl in_X7 (by decide) (by decide +kernel) rfl e2 c3 m4 rfl dX0_accept_2 ?_
  obtain ⟨c6, F⟩ := F
  refine h_callVV (ci := 0) (C := RX0) (T := TX0) (N := 25) (As := [.int (gI G a1 0)]) (rest := []) F 1 rfl rfl (lw_V q1130 q1132 qs13 q108 q1133) vm_X0_loadRow (by decide) rfl c6 rfl (room_of sc_nil (Nat.le_of_ble_eq_true rfl)) dX0_accept_5 (fun Gr5 br5 sr5 F => ?_)
  refine g_aload_n dX0_accept_8 rfl 1 rfl ?_
  obtain ⟨c8, F⟩ := F
  obtain ⟨m9, F⟩ := F
  refine h_getN (host := "CrewPairer") (v := .int (gI Gr5 a1 1)) 6 1 (C := RX7) (T := TX7) (N := 4) rfl in_X7 (by decide) (by decide +kernel) rfl e2 c8 m9 rfl dX0_accept_9 ?_
  refine g_if_lt 25 dX0_accept_12 (by decide) (fun h29 => ?_) (fun h29 => ?_)
  · have F := F.1 h29
    refine g_aload_n dX0_accept_25 rfl 0 rfl ?_
    refine g_iload_n dX0_accept_26 rfl 2 rfl ?_
    refine g_iconst (v := 1) dX0_accept_27 (by decide) ?_
    obtain ⟨c11, F⟩ := F
    refine h_callVI (ci := 0) (C := RX0) (T := TX0) (N := 25) (As := [.int p2, .int 1]) (rest := []) F 2 rfl rfl (lw_V q1138 q1140 qs15 q108 q1141) vm_X0_insert (by decide) rfl c11 rfl (room_of sc_nil (Nat.le_of_ble_eq_true rfl)) dX0_accept_28 (fun r10 Gr10 br10 sr10 F => ?_)
    refine g_pop dX0_accept_31 rfl ?_
    refine g_aload_n dX0_accept_32 rfl 0 rfl ?_
    refine g_aload_n dX0_accept_33 rfl 1 rfl ?_
    obtain ⟨c13, F⟩ := F
    obtain ⟨m14, F⟩ := F
    refine h_getN (host := "CrewPairer") (v := .int (gI Gr10 a1 0)) 6 0 (C := RX7) (T := TX7) (N := 4) rfl in_X7 (by decide) (by decide +kernel) rfl e2 c13 m14 rfl dX0_accept_34 ?_
    obtain ⟨c16, F⟩ := F
    refine h_callVV (ci := 0) (C := RX0) (T := TX0) (N := 25) (As := [.int (gI Gr10 a1 0)]) (rest := []) F 1 rfl rfl (lw_V q1221 q1223 qs28 q108 q1224) vm_X0_storeRow (by decide) rfl c16 rfl (room_of sc_nil (Nat.le_of_ble_eq_true rfl)) dX0_accept_37 (fun Gr15 br15 sr15 F => ?_)
    exact g_vret rfl dX0_accept_40 F
  · have F := F.2 h29
    refine g_aload_n dX0_accept_15 rfl 0 rfl ?_
    refine g_aload_n dX0_accept_16 rfl 1 rfl ?_
    refine h_getN (host := "CrewPairer") (v := .int (gI Gr5 a1 1)) 6 1 (C := RX7) (T := TX7) (N := 4) rfl in_X7 (by decide) (by decide +kernel) rfl e2 c8 m9 rfl dX0_accept_17 ?_
    refine g_iconst (v := 0) dX0_accept_20 (by decide) ?_
    obtain ⟨c19, F⟩ := F
    refine h_callVI (ci := 0) (C := RX0) (T := TX0) (N := 25) (As := [.int (gI Gr5 a1 1), .int 0]) (rest := []) F 2 rfl rfl (lw_V q1138 q1140 qs15 q108 q1141) vm_X0_insert (by decide) rfl c19 rfl (room_of sc_nil (Nat.le_of_ble_eq_true rfl)) dX0_accept_21 (fun r18 Gr18 br18 sr18 F => ?_)
    refine g_pop dX0_accept_24 rfl ?_
    refine g_aload_n dX0_accept_25 rfl 0 rfl ?_
    refine g_iload_n dX0_accept_26 rfl 2 rfl ?_
    refine g_iconst (v := 1) dX0_accept_27 (by decide) ?_
    obtain ⟨c22, F⟩ := F
    refine h_callVI (ci := 0) (C := RX0) (T := TX0) (N := 25) (As := [.int p2, .int 1]) (rest := []) F 2 rfl rfl (lw_V q1138 q1140 qs15 q108 q1141) vm_X0_insert (by decide) rfl c22 rfl (room_of sc_nil (Nat.le_of_ble_eq_true rfl)) dX0_accept_28 (fun r21 Gr21 br21 sr21 F => ?_)
    refine g_pop dX0_accept_31 rfl ?_
    refine g_aload_n dX0_accept_32 rfl 0 rfl ?_
    refine g_aload_n dX0_accept_33 rfl 1 rfl ?_
    obtain ⟨c24, F⟩ := F
    obtain ⟨m25, F⟩ := F
    refine h_getN (host := "CrewPairer") (v := .int (gI Gr21 a1 0)) 6 0 (C := RX7) (T := TX7) (N := 4) rfl in_X7 (by decide) (by decide +kernel) rfl e2 c24 m25 rfl dX0_accept_34 ?_
    obtain ⟨c27, F⟩ := F
    refine h_callVV (ci := 0) (C := RX0) (T := TX0) (N := 25) (As := [.int (gI Gr21 a1 0)]) (rest := []) F 1 rfl rfl (lw_V q1221 q1223 qs28 q108 q1224) vm_X0_storeRow (by decide) rfl c27 rfl (room_of sc_nil (Nat.le_of_ble_eq_true rfl)) dX0_accept_37 (fun Gr26 br26 sr26 F => ?_)
    exact g_vret rfl dX0_accept_40 F
theorem rX0_repair_0 {Γ : GE} {l : Launch} {h MC MS : Nat} {Q : Option Value → GH → Prop} {bc bs : Nat} {G : GH} (x : Nat) (F : (gC G x = kO 0 ∧ cV Γ l h mX0_beginChange [.ref x] G bc bs fun Gr1 br1 sr1 => gC Gr1 x = kO 0 ∧ gM Gr1 x = true ∧ GW Γ l mX0_repair h MC MS Q 11 [(0, va_rf (some x)), (1, .int 0)] [] (sI Gr1 x 16 0) br1 sr1)) : GW Γ l mX0_repair h MC MS Q 0 [(0, va_rf (some x))] [] G bc bs := by
  refine g_aload_n dX0_repair_0 rfl 0 rfl ?_
  obtain ⟨c2, F⟩ := F
  refine h_callVV (ci := 0) (C := RX0) (T := TX0) (N := 25) (As := []) (rest := []) F 0 rfl rfl (lw_V q485 q487 qs3 q108 q488) vm_X0_beginChange (by decide) rfl c2 rfl (room_of sc_nil (Nat.le_of_ble_eq_true rfl)) dX0_repair_1 (fun Gr1 br1 sr1 F => ?_)
  refine g_aload_n dX0_repair_4 rfl 0 rfl ?_
  refine g_iconst (v := 0) dX0_repair_5 (by decide) ?_
  obtain ⟨c4, F⟩ := F
  obtain ⟨m5, F⟩ := F
  refine h_putI (mi := mX0_repair) 0 16 (C := RX0) (T := TX0) (N := 25) rfl in_X0 tyX0_ok nmX0 (by decide) q253 (Or.inl rfl) (Or.inl rfl) rfl rfl c4 m5 rfl rfl dX0_repair_6 ?_
  refine g_iconst (v := 0) dX0_repair_9 (by decide) ?_
  refine s_istore_n (lv' := [(0, va_rf (some x)), (1, .int 0)]) (cat_R cat_nil) dX0_repair_10 rfl (by decide) rfl [1, 0] rfl ?_
  exact F
theorem rX0_repair_11 {Γ : GE} {l : Launch} {h MC MS : Nat} {Q : Option Value → GH → Prop} {bc bs : Nat} {G : GH} (x : Nat) (p1 : Int32) (F : (gC G x = kO 0 ∧ ∃ a2, (gR G x 0) = some a2 ∧ gC G a2 = kO 2 ∧ gM G a2 = true ∧ ∃ a7, (gR G a2 1) = some a7 ∧ gC G a7 = kO 9 ∧ cI Γ l h mJ2_size [.ref a7] G bc bs fun r6 Gr6 br6 sr6 => ((r6 ≤ p1 → (gC Gr6 x = kO 0 ∧ cI Γ l h mX0_findOpen [.ref x] Gr6 br6 sr6 fun r11 Gr11 br11 sr11 => gC Gr11 x = kO 0 ∧ ∃ a15, (gR Gr11 x 13) = some a15 ∧ gC Gr11 a15 = kA 0 ∧ gM Gr11 a15 = true ∧ ∃ a19, (gR Gr11 x 14) = some a19 ∧ gC Gr11 a19 = kA 0 ∧ gM Gr11 a19 = true ∧ ¬ r11 < 0 ∧ (0 : Int32).toNatClampNeg + r11.toNatClampNeg ≤ gL Gr11 a15 ∧ (0 : Int32).toNatClampNeg + r11.toNatClampNeg ≤ gL Gr11 a19 ∧ 0 < h ∧ ∀ H27, H27 = (wI Gr11 a19 (va_cpy (gI Gr11 a15) (gI Gr11 a19) (0 : Int32).toNatClampNeg (0 : Int32).toNatClampNeg r11.toNatClampNeg)) → GW Γ l mX0_repair h MC MS Q 68 [(0, va_rf (some x)), (1, .int r11), (2, .int 0)] [] H27 br11 sr11)) ∧ (¬ r6 ≤ p1 → (GW Γ l mX0_repair h MC MS Q 25 [(0, va_rf (some x)), (1, .int p1)] [] Gr6 br6 sr6))))) : GW Γ l mX0_repair h MC MS Q 11 [(0, va_rf (some x)), (1, .int p1)] [] G bc bs := by
  refine g_iload_n dX0_repair_11 rfl 1 rfl ?_
  refine g_aload_n dX0_repair_12 rfl 0 rfl ?_
  obtain ⟨c1, F⟩ := F
  refine h_get (v := va_rf (gR G x 0)) 0 0 (C := RX0) (T := TX0) (N := 25) rfl in_X0 (by decide) q237 (Or.inl rfl) rfl c1 rfl dX0_repair_13 ?_
  obtain ⟨a2, e3, F⟩ := F
  obtain ⟨c4, F⟩ := F
  obtain ⟨m5, F⟩ := F
  refine h_getN (host := "CrewPairer") (v := va_rf (gR G a2 1)) 2 1 (C := RX1) (T := TX1) (N := 3) rfl in_X1 (by decide) (by decide +kernel) rfl e3 c4 m5 rfl dX0_repair_16 ?_
  obtain ⟨a7, e8, F⟩ := F
  obtain ⟨c9, F⟩ := F
  refine h_callVI (ci := 9) (C := RJ2) (T := TJ2) (N := 3) (As := []) (rest := [.int p1]) F 0 rfl rfl (lw_V q480 q328 q329 q112 q330) vm_J2_size (by decide) e8 c9 rfl (room_of (sc_I sc_nil) (Nat.le_of_ble_eq_true rfl)) dX0_repair_19 (fun r6 Gr6 br6 sr6 F => ?_)
  refine g_icmp_ge 47 dX0_repair_22 (by decide) (fun h30 => ?_) (fun h30 => ?_)
  · have F := F.1 h30
    refine g_aload_n dX0_repair_47 rfl 0 rfl ?_
    obtain ⟨c12, F⟩ := F
    refine h_callVI (ci := 0) (C := RX0) (T := TX0) (N := 25) (As := []) (rest := []) F 0 rfl rfl (lw_V q1309 q1311 qs33 q108 q1312) vm_X0_findOpen (by decide) rfl c12 rfl (room_of sc_nil (Nat.le_of_ble_eq_true rfl)) dX0_repair_48 (fun r11 Gr11 br11 sr11 F => ?_)
    refine s_istore_n (lv' := [(0, va_rf (some x)), (1, .int r11)]) (cat_R (cat_I cat_nil)) dX0_repair_51 rfl (by decide) rfl [1, 0] rfl ?_
    refine g_aload_n dX0_repair_52 rfl 0 rfl ?_
    obtain ⟨c14, F⟩ := F
    refine h_get (v := va_rf (gR Gr11 x 13)) 0 13 (C := RX0) (T := TX0) (N := 25) rfl in_X0 (by decide) q250 (Or.inl rfl) rfl c14 rfl dX0_repair_53 ?_
    refine g_iconst (v := 0) dX0_repair_56 (by decide) ?_
    refine g_aload_n dX0_repair_57 rfl 0 rfl ?_
    refine h_get (v := va_rf (gR Gr11 x 14)) 0 14 (C := RX0) (T := TX0) (N := 25) rfl in_X0 (by decide) q251 (Or.inl rfl) rfl c14 rfl dX0_repair_58 ?_
    refine g_iconst (v := 0) dX0_repair_61 (by decide) ?_
    refine g_iload_n dX0_repair_62 rfl 1 rfl ?_
    obtain ⟨a15, e16, F⟩ := F
    obtain ⟨c17, F⟩ := F
    obtain ⟨m18, F⟩ := F
    obtain ⟨a19, e20, F⟩ := F
    obtain ⟨c21, F⟩ := F
    obtain ⟨m22, F⟩ := F
    obtain ⟨k23, F⟩ := F
    obtain ⟨k24, F⟩ := F
    obtain ⟨k25, F⟩ := F
    obtain ⟨k26, F⟩ := F
    refine h_copyi 0 (by decide) q493 q439 q438 q118 e16 c17 m18 e20 c21 m22 (by decide) (by decide) k23 k24 k25 (fun _ _ => rfl) k26 (room_of sc_nil (Nat.le_of_ble_eq_true rfl)) dX0_repair_63 ?_
    obtain ⟨H27, h28⟩ : ∃ g : GH, g = (wI Gr11 a19 (va_cpy (gI Gr11 a15) (gI Gr11 a19) (0 : Int32).toNatClampNeg (0 : Int32).toNatClampNeg r11.toNatClampNeg)) := ⟨_, rfl⟩
    rw [← h28]
    have F := F H27 h28
    refine g_iconst (v := 0) dX0_repair_66 (by decide) ?_
    refine s_istore_n (lv' := [(0, va_rf (some x)), (1, .int r11), (2, .int 0)]) (cat_R (cat_I cat_nil)) dX0_repair_67 rfl (by decide) rfl [1, 2, 0] rfl ?_
    exact F
  · have F := F.2 h30
    exact F
theorem rX0_repair_25 {Γ : GE} {l : Launch} {h MC MS : Nat} {Q : Option Value → GH → Prop} {bc bs : Nat} {G : GH} (x : Nat) (p1 : Int32) (F : (gC G x = kO 0 ∧ cI Γ l h mX0_hasViolation [.ref x, .int p1] G bc bs fun r1 Gr1 br1 sr1 => ((r1 = 0 → (GW Γ l mX0_repair h MC MS Q 11 [(0, va_rf (some x)), (1, .int (p1 + 1))] [] Gr1 br1 sr1)) ∧ (¬ r1 = 0 → (gC Gr1 x = kO 0 ∧ cV Γ l h mX0_removeFirstViolation [.ref x, .int p1] Gr1 br1 sr1 fun Gr4 br4 sr4 => GW Γ l mX0_repair h MC MS Q 25 [(0, va_rf (some x)), (1, .int p1)] [] Gr4 br4 sr4))))) : GW Γ l mX0_repair h MC MS Q 25 [(0, va_rf (some x)), (1, .int p1)] [] G bc bs := by
  refine g_aload_n dX0_repair_25 rfl 0 rfl ?_
  refine g_iload_n dX0_repair_26 rfl 1 rfl ?_
  obtain ⟨c2, F⟩ := F
  refine h_callVI (ci := 0) (C := RX0) (T := TX0) (N := 25) (As := [.int p1]) (rest := []) F 1 rfl rfl (lw_V q1454 q1456 qs42 q108 q1457) vm_X0_hasViolation (by decide) rfl c2 rfl (room_of sc_nil (Nat.le_of_ble_eq_true rfl)) dX0_repair_27 (fun r1 Gr1 br1 sr1 F => ?_)
  refine g_if_eq 41 dX0_repair_30 (by decide) (fun h7 => ?_) (fun h7 => ?_)
  · have F := F.1 h7
    refine s_iinc (v := (p1 + 1)) (lv' := [(0, va_rf (some x)), (1, .int (p1 + 1))]) (cat_R (cat_I cat_nil)) dX0_repair_41 (k0 := 1) rfl rfl (by decide) rfl [1, 0] rfl ?_
    refine g_goto 11 dX0_repair_44 (by decide) ?_
    exact F
  · have F := F.2 h7
    refine g_aload_n dX0_repair_33 rfl 0 rfl ?_
    refine g_iload_n dX0_repair_34 rfl 1 rfl ?_
    obtain ⟨c5, F⟩ := F
    refine h_callVV (ci := 0) (C := RX0) (T := TX0) (N := 25) (As := [.int p1]) (rest := []) F 1 rfl rfl (lw_V q1458 q1460 qs43 q108 q1461) vm_X0_removeFirstViolation (by decide) rfl c5 rfl (room_of sc_nil (Nat.le_of_ble_eq_true rfl)) dX0_repair_35 (fun Gr4 br4 sr4 F => ?_)
    refine g_goto 25 dX0_repair_38 (by decide) ?_
    exact F
theorem rX0_repair_68 {Γ : GE} {l : Launch} {h MC MS : Nat} {Q : Option Value → GH → Prop} {bc bs : Nat} {G : GH} (x : Nat) (p1 : Int32) (p2 : Int32) (F : ((p1 ≤ p2 → (gC G x = kO 0 ∧ Q (some (.int (gI G x 16))) G)) ∧ (¬ p1 ≤ p2 → (gC G x = kO 0 ∧ ∃ a3, (gR G x 14) = some a3 ∧ gC G a3 = kA 0 ∧ vp_in p2 (gL G a3) ∧ cI Γ l h mX0_removal [.ref x, .int (gI G a3 p2.toNatClampNeg)] G bc bs fun r7 Gr7 br7 sr7 => (((0 : Int32) ≤ r7 → (gC Gr7 x = kO 0 ∧ ∃ a10, (gR Gr7 x 14) = some a10 ∧ gC Gr7 a10 = kA 0 ∧ vp_in p2 (gL Gr7 a10) ∧ cI Γ l h mX0_reserveFor [.ref x, .int (gI Gr7 a10 p2.toNatClampNeg)] Gr7 br7 sr7 fun r14 Gr14 br14 sr14 => GW Γ l mX0_repair h MC MS Q 103 [(0, va_rf (some x)), (1, .int p1), (2, .int p2), (3, .int r7)] [.int r14] Gr14 br14 sr14)) ∧ (¬ (0 : Int32) ≤ r7 → (GW Γ l mX0_repair h MC MS Q 103 [(0, va_rf (some x)), (1, .int p1), (2, .int p2), (3, .int r7)] [.int (-2)] Gr7 br7 sr7))))))) : GW Γ l mX0_repair h MC MS Q 68 [(0, va_rf (some x)), (1, .int p1), (2, .int p2)] [] G bc bs := by
  refine g_iload_n dX0_repair_68 rfl 2 rfl ?_
  refine g_iload_n dX0_repair_69 rfl 1 rfl ?_
  refine g_icmp_ge 151 dX0_repair_70 (by decide) (fun h17 => ?_) (fun h17 => ?_)
  · have F := F.1 h17
    refine g_aload_n dX0_repair_151 rfl 0 rfl ?_
    obtain ⟨c1, F⟩ := F
    refine h_get (v := .int (gI G x 16)) 0 16 (C := RX0) (T := TX0) (N := 25) rfl in_X0 (by decide) q253 (Or.inl rfl) rfl c1 rfl dX0_repair_152 ?_
    exact g_iret rfl dX0_repair_155 F
  · have F := F.2 h17
    refine g_aload_n dX0_repair_73 rfl 0 rfl ?_
    refine g_aload_n dX0_repair_74 rfl 0 rfl ?_
    obtain ⟨c2, F⟩ := F
    refine h_get (v := va_rf (gR G x 14)) 0 14 (C := RX0) (T := TX0) (N := 25) rfl in_X0 (by decide) q251 (Or.inl rfl) rfl c2 rfl dX0_repair_75 ?_
    refine g_iload_n dX0_repair_78 rfl 2 rfl ?_
    obtain ⟨a3, e4, F⟩ := F
    obtain ⟨c5, F⟩ := F
    obtain ⟨k6, F⟩ := F
    refine h_iald e4 c5 k6 dX0_repair_79 ?_
    refine h_callVI (ci := 0) (C := RX0) (T := TX0) (N := 25) (As := [.int (gI G a3 p2.toNatClampNeg)]) (rest := []) F 1 rfl rfl (lw_V q1462 q1464 qs44 q108 q1465) vm_X0_removal (by decide) rfl c2 rfl (room_of sc_nil (Nat.le_of_ble_eq_true rfl)) dX0_repair_80 (fun r7 Gr7 br7 sr7 F => ?_)
    refine s_istore_n (lv' := [(0, va_rf (some x)), (1, .int p1), (2, .int p2), (3, .int r7)]) (cat_R (cat_I (cat_I cat_nil))) dX0_repair_83 rfl (by decide) rfl [1, 2, 3, 0] rfl ?_
    refine g_iload_n dX0_repair_84 rfl 3 rfl ?_
    refine g_if_ge 93 dX0_repair_85 (by decide) (fun h16 => ?_) (fun h16 => ?_)
    · have F := F.1 h16
      refine g_aload_n dX0_repair_93 rfl 0 rfl ?_
      refine g_aload_n dX0_repair_94 rfl 0 rfl ?_
      obtain ⟨c9, F⟩ := F
      refine h_get (v := va_rf (gR Gr7 x 14)) 0 14 (C := RX0) (T := TX0) (N := 25) rfl in_X0 (by decide) q251 (Or.inl rfl) rfl c9 rfl dX0_repair_95 ?_
      refine g_iload_n dX0_repair_98 rfl 2 rfl ?_
      obtain ⟨a10, e11, F⟩ := F
      obtain ⟨c12, F⟩ := F
      obtain ⟨k13, F⟩ := F
      refine h_iald e11 c12 k13 dX0_repair_99 ?_
      refine h_callVI (ci := 0) (C := RX0) (T := TX0) (N := 25) (As := [.int (gI Gr7 a10 p2.toNatClampNeg)]) (rest := []) F 1 rfl rfl (lw_V q1349 q1351 qs36 q108 q1352) vm_X0_reserveFor (by decide) rfl c9 rfl (room_of sc_nil (Nat.le_of_ble_eq_true rfl)) dX0_repair_100 (fun r14 Gr14 br14 sr14 F => ?_)
      exact F
    · have F := F.2 h16
      refine g_bipush (v := (-2)) dX0_repair_88 (by decide) ?_
      refine g_goto 103 dX0_repair_90 (by decide) ?_
      exact F
theorem rX0_repair_103 {Γ : GE} {l : Launch} {h MC MS : Nat} {Q : Option Value → GH → Prop} {bc bs : Nat} {G : GH} (x : Nat) (p1 : Int32) (p2 : Int32) (p3 : Int32) (s0 : Int32) (F : ((s0 < 0 → (GW Γ l mX0_repair h MC MS Q 68 [(0, va_rf (some x)), (1, .int p1), (2, .int (p2 + 1))] [] G bc bs)) ∧ (¬ s0 < 0 → (1 ≤ bc ∧ 4 ≤ bs ∧ ∀ q1, gC G q1 = 0 → gA Γ q1 → cV Γ l h mX7_init [.ref q1, .int s0, .int (-2), .int 0, .int 0] (nO G q1 6) (bc - 1) (bs - 4) fun Gr6 br6 sr6 => gC Gr6 x = kO 0 ∧ ∃ a9, (gR Gr6 x 14) = some a9 ∧ gC Gr6 a9 = kA 0 ∧ vp_in p2 (gL Gr6 a9) ∧ cV Γ l h mX0_accept [.ref x, va_rf (some q1), .int (gI Gr6 a9 p2.toNatClampNeg)] Gr6 br6 sr6 fun Gr13 br13 sr13 => gC Gr13 x = kO 0 ∧ ∃ a16, (gR Gr13 x 15) = some a16 ∧ gC Gr13 a16 = kA 0 ∧ gM Gr13 a16 = true ∧ vp_in ((4 * p3) + 3) (gL Gr13 a16) ∧ GW Γ l mX0_repair h MC MS Q 68 [(0, va_rf (some x)), (1, .int p1), (2, .int (p2 + 1))] [] (sI Gr13 a16 ((4 * p3) + 3).toNatClampNeg s0) br13 sr13)))) : GW Γ l mX0_repair h MC MS Q 103 [(0, va_rf (some x)), (1, .int p1), (2, .int p2), (3, .int p3)] [.int s0] G bc bs := by
  refine s_istore (lv' := [(0, va_rf (some x)), (1, .int p1), (2, .int p2), (3, .int p3), (4, .int s0)]) (cat_R (cat_I (cat_I (cat_I cat_nil)))) dX0_repair_103 (by decide) rfl [1, 2, 3, 4, 0] rfl ?_
  refine g_iload dX0_repair_105 4 rfl ?_
  refine g_if_lt 145 dX0_repair_107 (by decide) (fun h21 => ?_) (fun h21 => ?_)
  · have F := F.1 h21
    refine s_iinc (v := (p2 + 1)) (lv' := [(0, va_rf (some x)), (1, .int p1), (2, .int (p2 + 1)), (3, .int p3), (4, .int s0)]) (cat_R (cat_I (cat_I (cat_I (cat_I cat_nil))))) dX0_repair_145 (k0 := 2) rfl rfl (by decide) rfl [1, 2, 0, 3, 4] rfl ?_
    refine g_goto 68 dX0_repair_148 (by decide) ?_
    refine GW.lsub (lv' := [(0, va_rf (some x)), (1, .int p1), (2, .int (p2 + 1))]) [0, 1, 2] rfl ?_
    exact F
  · have F := F.2 h21
    refine g_aload_n dX0_repair_110 rfl 0 rfl ?_
    obtain ⟨k3, F⟩ := F
    obtain ⟨k4, F⟩ := F
    refine g_new (C := RX7) (T := TX7) (N := 4) 6 rfl in_X7 tyX7_ok nd_X7 q1368 q1369 q141 k3 k4 dX0_repair_111 (fun q1 z2 z2' => ?_)
    have F := F q1 z2 z2'
    refine g_dup dX0_repair_114 (va_rf_cat _) ?_
    refine g_iload dX0_repair_115 4 rfl ?_
    refine g_bipush (v := (-2)) dX0_repair_117 (by decide) ?_
    refine g_iconst (v := 0) dX0_repair_119 (by decide) ?_
    refine g_iconst (v := 0) dX0_repair_120 (by decide) ?_
    refine h_callIV (As := [.int s0, .int (-2), .int 0, .int 0]) (rest := [va_rf (some q1), va_rf (some x)]) F 4 rfl rfl (lw_meth q1372) q141 q1370 q1371 rfl vm_X7_init.2 (by decide) rfl rfl (room_of (sc_R (sc_R sc_nil)) (Nat.le_of_ble_eq_true rfl)) dX0_repair_121 (fun Gr6 br6 sr6 F => ?_)
    refine g_aload_n dX0_repair_124 rfl 0 rfl ?_
    obtain ⟨c8, F⟩ := F
    refine h_get (v := va_rf (gR Gr6 x 14)) 0 14 (C := RX0) (T := TX0) (N := 25) rfl in_X0 (by decide) q251 (Or.inl rfl) rfl c8 rfl dX0_repair_125 ?_
    refine g_iload_n dX0_repair_128 rfl 2 rfl ?_
    obtain ⟨a9, e10, F⟩ := F
    obtain ⟨c11, F⟩ := F
    obtain ⟨k12, F⟩ := F
    refine h_iald e10 c11 k12 dX0_repair_129 ?_
    refine h_callVV (ci := 0) (C := RX0) (T := TX0) (N := 25) (As := [va_rf (some q1), .int (gI Gr6 a9 p2.toNatClampNeg)]) (rest := []) F 2 rfl rfl (lw_V q1446 q1448 qs41 q108 q1449) vm_X0_accept (by decide) rfl c8 rfl (room_of sc_nil (Nat.le_of_ble_eq_true rfl)) dX0_repair_130 (fun Gr13 br13 sr13 F => ?_)
    refine g_aload_n dX0_repair_133 rfl 0 rfl ?_
    obtain ⟨c15, F⟩ := F
    refine h_get (v := va_rf (gR Gr13 x 15)) 0 15 (C := RX0) (T := TX0) (N := 25) rfl in_X0 (by decide) q252 (Or.inl rfl) rfl c15 rfl dX0_repair_134 ?_
    refine g_iconst (v := 4) dX0_repair_137 (by decide) ?_
    refine g_iload_n dX0_repair_138 rfl 3 rfl ?_
    refine g_imul dX0_repair_139 ?_
    refine g_iconst (v := 3) dX0_repair_140 (by decide) ?_
    refine g_iadd dX0_repair_141 ?_
    refine g_iload dX0_repair_142 4 rfl ?_
    obtain ⟨a16, e17, F⟩ := F
    obtain ⟨c18, F⟩ := F
    obtain ⟨m19, F⟩ := F
    obtain ⟨k20, F⟩ := F
    refine h_iast e17 c18 m19 k20 dX0_repair_144 ?_
    refine s_iinc (v := (p2 + 1)) (lv' := [(0, va_rf (some x)), (1, .int p1), (2, .int (p2 + 1)), (3, .int p3), (4, .int s0)]) (cat_R (cat_I (cat_I (cat_I (cat_I cat_nil))))) dX0_repair_145 (k0 := 2) rfl rfl (by decide) rfl [1, 2, 0, 3, 4] rfl ?_
    refine g_goto 68 dX0_repair_148 (by decide) ?_
    refine GW.lsub (lv' := [(0, va_rf (some x)), (1, .int p1), (2, .int (p2 + 1))]) [0, 1, 2] rfl ?_
    exact F
theorem rX0_hasViolation_0 {Γ : GE} {l : Launch} {h MC MS : Nat} {Q : Option Value → GH → Prop} {bc bs : Nat} {G : GH} (x : Nat) (p1 : Int32) (F : (gC G x = kO 0 ∧ cV Γ l h mX0_loadRow [.ref x, .int p1] G bc bs fun Gr1 br1 sr1 => gC Gr1 x = kO 0 ∧ cI Γ l h mX0_isLegal [.ref x] Gr1 br1 sr1 fun r4 Gr4 br4 sr4 => ((¬ r4 = 0 → (Q (some (.int 0)) Gr4)) ∧ (r4 = 0 → (Q (some (.int 1)) Gr4))))) : GW Γ l mX0_hasViolation h MC MS Q 0 [(0, va_rf (some x)), (1, .int p1)] [] G bc bs := by
  refine g_aload_n dX0_hasViolation_0 rfl 0 rfl ?_
  refine g_iload_n dX0_hasViolation_1 rfl 1 rfl ?_
  obtain ⟨c2, F⟩ := F
  refine h_callVV (ci := 0) (C := RX0) (T := TX0) (N := 25) (As := [.int p1]) (rest := []) F 1 rfl rfl (lw_V q1130 q1132 qs13 q108 q1133) vm_X0_loadRow (by decide) rfl c2 rfl (room_of sc_nil (Nat.le_of_ble_eq_true rfl)) dX0_hasViolation_2 (fun Gr1 br1 sr1 F => ?_)
  refine g_aload_n dX0_hasViolation_5 rfl 0 rfl ?_
  obtain ⟨c5, F⟩ := F
  refine h_callVI (ci := 0) (C := RX0) (T := TX0) (N := 25) (As := []) (rest := []) F 0 rfl rfl (lw_V q1146 q1148 qs17 q108 q1149) vm_X0_isLegal (by decide) rfl c5 rfl (room_of sc_nil (Nat.le_of_ble_eq_true rfl)) dX0_hasViolation_6 (fun r4 Gr4 br4 sr4 F => ?_)
  refine g_if_ne 16 dX0_hasViolation_9 (by decide) (fun h7 => ?_) (fun h7 => ?_)
  · have F := F.1 h7
    refine g_iconst (v := 0) dX0_hasViolation_16 (by decide) ?_
    exact g_zret rfl rfl dX0_hasViolation_17 F
  · have F := F.2 h7
    refine g_iconst (v := 1) dX0_hasViolation_12 (by decide) ?_
    refine g_goto 17 dX0_hasViolation_13 (by decide) ?_
    exact g_zret rfl rfl dX0_hasViolation_17 F
theorem rX0_removeFirstViolation_0 {Γ : GE} {l : Launch} {h MC MS : Nat} {Q : Option Value → GH → Prop} {bc bs : Nat} {G : GH} (x : Nat) (p1 : Int32) (F : (gC G x = kO 0 ∧ cR Γ l h mX0_crewOf [.ref x, .int p1] G bc bs fun r1 Gr1 br1 sr1 => gC Gr1 x = kO 0 ∧ ∃ a5, (gR Gr1 x 15) = some a5 ∧ gC Gr1 a5 = kA 0 ∧ gM Gr1 a5 = true ∧ vp_in (4 * (gI Gr1 x 16)) (gL Gr1 a5) ∧ ∃ a10, r1 = some a10 ∧ gC (sI Gr1 a5 (4 * (gI Gr1 x 16)).toNatClampNeg p1) a10 = kO 4 ∧ gM (sI Gr1 a5 (4 * (gI Gr1 x 16)).toNatClampNeg p1) a10 = true ∧ ∃ a14, (gR (sI Gr1 a5 (4 * (gI Gr1 x 16)).toNatClampNeg p1) a10 1) = some a14 ∧ gC (sI Gr1 a5 (4 * (gI Gr1 x 16)).toNatClampNeg p1) a14 = kA 0 ∧ vp_in (gI (sI Gr1 a5 (4 * (gI Gr1 x 16)).toNatClampNeg p1) x 12) (gL (sI Gr1 a5 (4 * (gI Gr1 x 16)).toNatClampNeg p1) a14) ∧ ∃ a18, (gR (sI Gr1 a5 (4 * (gI Gr1 x 16)).toNatClampNeg p1) x 15) = some a18 ∧ gC (sI Gr1 a5 (4 * (gI Gr1 x 16)).toNatClampNeg p1) a18 = kA 0 ∧ gM (sI Gr1 a5 (4 * (gI Gr1 x 16)).toNatClampNeg p1) a18 = true ∧ vp_in ((4 * (gI Gr1 x 16)) + 1) (gL (sI Gr1 a5 (4 * (gI Gr1 x 16)).toNatClampNeg p1) a18) ∧ ∃ a23, (gR (sI (sI Gr1 a5 (4 * (gI Gr1 x 16)).toNatClampNeg p1) a18 ((4 * (gI Gr1 x 16)) + 1).toNatClampNeg (gI (sI Gr1 a5 (4 * (gI Gr1 x 16)).toNatClampNeg p1) a14 (gI (sI Gr1 a5 (4 * (gI Gr1 x 16)).toNatClampNeg p1) x 12).toNatClampNeg)) a10 2) = some a23 ∧ gC (sI (sI Gr1 a5 (4 * (gI Gr1 x 16)).toNatClampNeg p1) a18 ((4 * (gI Gr1 x 16)) + 1).toNatClampNeg (gI (sI Gr1 a5 (4 * (gI Gr1 x 16)).toNatClampNeg p1) a14 (gI (sI Gr1 a5 (4 * (gI Gr1 x 16)).toNatClampNeg p1) x 12).toNatClampNeg)) a23 = kA 1 ∧ vp_in (gI (sI (sI Gr1 a5 (4 * (gI Gr1 x 16)).toNatClampNeg p1) a18 ((4 * (gI Gr1 x 16)) + 1).toNatClampNeg (gI (sI Gr1 a5 (4 * (gI Gr1 x 16)).toNatClampNeg p1) a14 (gI (sI Gr1 a5 (4 * (gI Gr1 x 16)).toNatClampNeg p1) x 12).toNatClampNeg)) x 12) (gL (sI (sI Gr1 a5 (4 * (gI Gr1 x 16)).toNatClampNeg p1) a18 ((4 * (gI Gr1 x 16)) + 1).toNatClampNeg (gI (sI Gr1 a5 (4 * (gI Gr1 x 16)).toNatClampNeg p1) a14 (gI (sI Gr1 a5 (4 * (gI Gr1 x 16)).toNatClampNeg p1) x 12).toNatClampNeg)) a23) ∧ (((gI (sI (sI Gr1 a5 (4 * (gI Gr1 x 16)).toNatClampNeg p1) a18 ((4 * (gI Gr1 x 16)) + 1).toNatClampNeg (gI (sI Gr1 a5 (4 * (gI Gr1 x 16)).toNatClampNeg p1) a14 (gI (sI Gr1 a5 (4 * (gI Gr1 x 16)).toNatClampNeg p1) x 12).toNatClampNeg)) a23 (gI (sI (sI Gr1 a5 (4 * (gI Gr1 x 16)).toNatClampNeg p1) a18 ((4 * (gI Gr1 x 16)) + 1).toNatClampNeg (gI (sI Gr1 a5 (4 * (gI Gr1 x 16)).toNatClampNeg p1) a14 (gI (sI Gr1 a5 (4 * (gI Gr1 x 16)).toNatClampNeg p1) x 12).toNatClampNeg)) x 12).toNatClampNeg) = 0 → (GW Γ l mX0_removeFirstViolation h MC MS Q 61 [(0, va_rf (some x)), (1, .int p1), (2, va_rf r1), (3, .int (4 * (gI Gr1 x 16)))] [.int 0, .int ((4 * (gI Gr1 x 16)) + 2), va_rf (gR (sI (sI Gr1 a5 (4 * (gI Gr1 x 16)).toNatClampNeg p1) a18 ((4 * (gI Gr1 x 16)) + 1).toNatClampNeg (gI (sI Gr1 a5 (4 * (gI Gr1 x 16)).toNatClampNeg p1) a14 (gI (sI Gr1 a5 (4 * (gI Gr1 x 16)).toNatClampNeg p1) x 12).toNatClampNeg)) x 15)] (sI (sI Gr1 a5 (4 * (gI Gr1 x 16)).toNatClampNeg p1) a18 ((4 * (gI Gr1 x 16)) + 1).toNatClampNeg (gI (sI Gr1 a5 (4 * (gI Gr1 x 16)).toNatClampNeg p1) a14 (gI (sI Gr1 a5 (4 * (gI Gr1 x 16)).toNatClampNeg p1) x 12).toNatClampNeg)) br1 sr1)) ∧ (¬ (gI (sI (sI Gr1 a5 (4 * (gI Gr1 x 16)).toNatClampNeg p1) a18 ((4 * (gI Gr1 x 16)) + 1).toNatClampNeg (gI (sI Gr1 a5 (4 * (gI Gr1 x 16)).toNatClampNeg p1) a14 (gI (sI Gr1 a5 (4 * (gI Gr1 x 16)).toNatClampNeg p1) x 12).toNatClampNeg)) a23 (gI (sI (sI Gr1 a5 (4 * (gI Gr1 x 16)).toNatClampNeg p1) a18 ((4 * (gI Gr1 x 16)) + 1).toNatClampNeg (gI (sI Gr1 a5 (4 * (gI Gr1 x 16)).toNatClampNeg p1) a14 (gI (sI Gr1 a5 (4 * (gI Gr1 x 16)).toNatClampNeg p1) x 12).toNatClampNeg)) x 12).toNatClampNeg) = 0 → (GW Γ l mX0_removeFirstViolation h MC MS Q 61 [(0, va_rf (some x)), (1, .int p1), (2, va_rf r1), (3, .int (4 * (gI Gr1 x 16)))] [.int 1, .int ((4 * (gI Gr1 x 16)) + 2), va_rf (gR (sI (sI Gr1 a5 (4 * (gI Gr1 x 16)).toNatClampNeg p1) a18 ((4 * (gI Gr1 x 16)) + 1).toNatClampNeg (gI (sI Gr1 a5 (4 * (gI Gr1 x 16)).toNatClampNeg p1) a14 (gI (sI Gr1 a5 (4 * (gI Gr1 x 16)).toNatClampNeg p1) x 12).toNatClampNeg)) x 15)] (sI (sI Gr1 a5 (4 * (gI Gr1 x 16)).toNatClampNeg p1) a18 ((4 * (gI Gr1 x 16)) + 1).toNatClampNeg (gI (sI Gr1 a5 (4 * (gI Gr1 x 16)).toNatClampNeg p1) a14 (gI (sI Gr1 a5 (4 * (gI Gr1 x 16)).toNatClampNeg p1) x 12).toNatClampNeg)) br1 sr1))))) : GW Γ l mX0_removeFirstViolation h MC MS Q 0 [(0, va_rf (some x)), (1, .int p1)] [] G bc bs := by
  refine g_aload_n dX0_removeFirstViolation_0 rfl 0 rfl ?_
  refine g_iload_n dX0_removeFirstViolation_1 rfl 1 rfl ?_
  obtain ⟨c2, F⟩ := F
  refine h_callVR (ci := 0) (C := RX0) (T := TX0) (N := 25) (As := [.int p1]) (rest := []) F 1 rfl rfl (lw_V q1092 q1094 qs9 q108 q1095) vm_X0_crewOf (by decide) rfl c2 rfl (room_of sc_nil (Nat.le_of_ble_eq_true rfl)) dX0_removeFirstViolation_2 (fun r1 Gr1 br1 sr1 F => ?_)
  refine s_astore_n (lv' := [(0, va_rf (some x)), (1, .int p1), (2, va_rf r1)]) (cat_R (cat_I cat_nil)) dX0_removeFirstViolation_5 rfl (by decide) rfl [1, 2, 0] rfl ?_
  refine g_iconst (v := 4) dX0_removeFirstViolation_6 (by decide) ?_
  refine g_aload_n dX0_removeFirstViolation_7 rfl 0 rfl ?_
  obtain ⟨c4, F⟩ := F
  refine h_get (v := .int (gI Gr1 x 16)) 0 16 (C := RX0) (T := TX0) (N := 25) rfl in_X0 (by decide) q253 (Or.inl rfl) rfl c4 rfl dX0_removeFirstViolation_8 ?_
  refine g_imul dX0_removeFirstViolation_11 ?_
  refine s_istore_n (lv' := [(0, va_rf (some x)), (1, .int p1), (2, va_rf r1), (3, .int (4 * (gI Gr1 x 16)))]) (cat_R (cat_I (cat_R cat_nil))) dX0_removeFirstViolation_12 rfl (by decide) rfl [1, 2, 3, 0] rfl ?_
  refine g_aload_n dX0_removeFirstViolation_13 rfl 0 rfl ?_
  refine h_get (v := va_rf (gR Gr1 x 15)) 0 15 (C := RX0) (T := TX0) (N := 25) rfl in_X0 (by decide) q252 (Or.inl rfl) rfl c4 rfl dX0_removeFirstViolation_14 ?_
  refine g_iload_n dX0_removeFirstViolation_17 rfl 3 rfl ?_
  refine g_iload_n dX0_removeFirstViolation_18 rfl 1 rfl ?_
  obtain ⟨a5, e6, F⟩ := F
  obtain ⟨c7, F⟩ := F
  obtain ⟨m8, F⟩ := F
  obtain ⟨k9, F⟩ := F
  refine h_iast e6 c7 m8 k9 dX0_removeFirstViolation_19 ?_
  refine g_aload_n dX0_removeFirstViolation_20 rfl 0 rfl ?_
  refine h_get (v := va_rf (gR (sI Gr1 a5 (4 * (gI Gr1 x 16)).toNatClampNeg p1) x 15)) 0 15 (C := RX0) (T := TX0) (N := 25) rfl in_X0 (by decide) q252 (Or.inl rfl) rfl c4 rfl dX0_removeFirstViolation_21 ?_
  refine g_iload_n dX0_removeFirstViolation_24 rfl 3 rfl ?_
  refine g_iconst (v := 1) dX0_removeFirstViolation_25 (by decide) ?_
  refine g_iadd dX0_removeFirstViolation_26 ?_
  refine g_aload_n dX0_removeFirstViolation_27 rfl 2 rfl ?_
  obtain ⟨a10, e11, F⟩ := F
  obtain ⟨c12, F⟩ := F
  obtain ⟨m13, F⟩ := F
  refine h_getN (host := "CrewPairer") (v := va_rf (gR (sI Gr1 a5 (4 * (gI Gr1 x 16)).toNatClampNeg p1) a10 1)) 4 1 (C := RX5) (T := TX5) (N := 6) rfl in_X5 (by decide) (by decide +kernel) rfl e11 c12 m13 rfl dX0_removeFirstViolation_28 ?_
  refine g_aload_n dX0_removeFirstViolation_31 rfl 0 rfl ?_
  refine h_get (v := .int (gI (sI Gr1 a5 (4 * (gI Gr1 x 16)).toNatClampNeg p1) x 12)) 0 12 (C := RX0) (T := TX0) (N := 25) rfl in_X0 (by decide) q249 (Or.inl rfl) rfl c4 rfl dX0_removeFirstViolation_32 ?_
  obtain ⟨a14, e15, F⟩ := F
  obtain ⟨c16, F⟩ := F
  obtain ⟨k17, F⟩ := F
  refine h_iald e15 c16 k17 dX0_removeFirstViolation_35 ?_
  obtain ⟨a18, e19, F⟩ := F
  obtain ⟨c20, F⟩ := F
  obtain ⟨m21, F⟩ := F
  obtain ⟨k22, F⟩ := F
  refine h_iast e19 c20 m21 k22 dX0_removeFirstViolation_36 ?_
  refine g_aload_n dX0_removeFirstViolation_37 rfl 0 rfl ?_
  refine h_get (v := va_rf (gR (sI (sI Gr1 a5 (4 * (gI Gr1 x 16)).toNatClampNeg p1) a18 ((4 * (gI Gr1 x 16)) + 1).toNatClampNeg (gI (sI Gr1 a5 (4 * (gI Gr1 x 16)).toNatClampNeg p1) a14 (gI (sI Gr1 a5 (4 * (gI Gr1 x 16)).toNatClampNeg p1) x 12).toNatClampNeg)) x 15)) 0 15 (C := RX0) (T := TX0) (N := 25) rfl in_X0 (by decide) q252 (Or.inl rfl) rfl c4 rfl dX0_removeFirstViolation_38 ?_
  refine g_iload_n dX0_removeFirstViolation_41 rfl 3 rfl ?_
  refine g_iconst (v := 2) dX0_removeFirstViolation_42 (by decide) ?_
  refine g_iadd dX0_removeFirstViolation_43 ?_
  refine g_aload_n dX0_removeFirstViolation_44 rfl 2 rfl ?_
  refine h_getN (host := "CrewPairer") (v := va_rf (gR (sI (sI Gr1 a5 (4 * (gI Gr1 x 16)).toNatClampNeg p1) a18 ((4 * (gI Gr1 x 16)) + 1).toNatClampNeg (gI (sI Gr1 a5 (4 * (gI Gr1 x 16)).toNatClampNeg p1) a14 (gI (sI Gr1 a5 (4 * (gI Gr1 x 16)).toNatClampNeg p1) x 12).toNatClampNeg)) a10 2)) 4 2 (C := RX5) (T := TX5) (N := 6) rfl in_X5 (by decide) (by decide +kernel) rfl e11 c12 m13 rfl dX0_removeFirstViolation_45 ?_
  refine g_aload_n dX0_removeFirstViolation_48 rfl 0 rfl ?_
  refine h_get (v := .int (gI (sI (sI Gr1 a5 (4 * (gI Gr1 x 16)).toNatClampNeg p1) a18 ((4 * (gI Gr1 x 16)) + 1).toNatClampNeg (gI (sI Gr1 a5 (4 * (gI Gr1 x 16)).toNatClampNeg p1) a14 (gI (sI Gr1 a5 (4 * (gI Gr1 x 16)).toNatClampNeg p1) x 12).toNatClampNeg)) x 12)) 0 12 (C := RX0) (T := TX0) (N := 25) rfl in_X0 (by decide) q249 (Or.inl rfl) rfl c4 rfl dX0_removeFirstViolation_49 ?_
  obtain ⟨a23, e24, F⟩ := F
  obtain ⟨c25, F⟩ := F
  obtain ⟨k26, F⟩ := F
  refine h_zald e24 c25 k26 dX0_removeFirstViolation_52 ?_
  refine g_if_eq 60 dX0_removeFirstViolation_53 (by decide) (fun h27 => ?_) (fun h27 => ?_)
  · have F := F.1 h27
    refine g_iconst (v := 0) dX0_removeFirstViolation_60 (by decide) ?_
    exact F
  · have F := F.2 h27
    refine g_iconst (v := 1) dX0_removeFirstViolation_56 (by decide) ?_
    refine g_goto 61 dX0_removeFirstViolation_57 (by decide) ?_
    exact F
theorem rX0_removeFirstViolation_61 {Γ : GE} {l : Launch} {h MC MS : Nat} {Q : Option Value → GH → Prop} {bc bs : Nat} {G : GH} (x : Nat) (p1 : Int32) (p2 : Option Nat) (p3 : Int32) (s0 : Option Nat) (s1 : Int32) (s2 : Int32) (F : (∃ a1, s0 = some a1 ∧ gC G a1 = kA 0 ∧ gM G a1 = true ∧ vp_in s1 (gL G a1) ∧ gC (sI G a1 s1.toNatClampNeg s2) x = kO 0 ∧ ∃ a7, (gR (sI G a1 s1.toNatClampNeg s2) x 15) = some a7 ∧ gC (sI G a1 s1.toNatClampNeg s2) a7 = kA 0 ∧ gM (sI G a1 s1.toNatClampNeg s2) a7 = true ∧ vp_in (p3 + 3) (gL (sI G a1 s1.toNatClampNeg s2) a7) ∧ gM (sI (sI G a1 s1.toNatClampNeg s2) a7 (p3 + 3).toNatClampNeg (-2)) x = true ∧ ∃ a14, p2 = some a14 ∧ gC (sI (sI (sI G a1 s1.toNatClampNeg s2) a7 (p3 + 3).toNatClampNeg (-2)) x 16 ((gI (sI (sI G a1 s1.toNatClampNeg s2) a7 (p3 + 3).toNatClampNeg (-2)) x 16) + 1)) a14 = kO 4 ∧ cV Γ l h mX5_removeAt [.ref a14, .int (gI (sI (sI (sI G a1 s1.toNatClampNeg s2) a7 (p3 + 3).toNatClampNeg (-2)) x 16 ((gI (sI (sI G a1 s1.toNatClampNeg s2) a7 (p3 + 3).toNatClampNeg (-2)) x 16) + 1)) x 12)] (sI (sI (sI G a1 s1.toNatClampNeg s2) a7 (p3 + 3).toNatClampNeg (-2)) x 16 ((gI (sI (sI G a1 s1.toNatClampNeg s2) a7 (p3 + 3).toNatClampNeg (-2)) x 16) + 1)) bc bs fun Gr13 br13 sr13 => Q none Gr13)) : GW Γ l mX0_removeFirstViolation h MC MS Q 61 [(0, va_rf (some x)), (1, .int p1), (2, va_rf p2), (3, .int p3)] [.int s2, .int s1, va_rf s0] G bc bs := by
  obtain ⟨a1, e2, F⟩ := F
  obtain ⟨c3, F⟩ := F
  obtain ⟨m4, F⟩ := F
  obtain ⟨k5, F⟩ := F
  refine h_iast e2 c3 m4 k5 dX0_removeFirstViolation_61 ?_
  refine g_aload_n dX0_removeFirstViolation_62 rfl 0 rfl ?_
  obtain ⟨c6, F⟩ := F
  refine h_get (v := va_rf (gR (sI G a1 s1.toNatClampNeg s2) x 15)) 0 15 (C := RX0) (T := TX0) (N := 25) rfl in_X0 (by decide) q252 (Or.inl rfl) rfl c6 rfl dX0_removeFirstViolation_63 ?_
  refine g_iload_n dX0_removeFirstViolation_66 rfl 3 rfl ?_
  refine g_iconst (v := 3) dX0_removeFirstViolation_67 (by decide) ?_
  refine g_iadd dX0_removeFirstViolation_68 ?_
  refine g_bipush (v := (-2)) dX0_removeFirstViolation_69 (by decide) ?_
  obtain ⟨a7, e8, F⟩ := F
  obtain ⟨c9, F⟩ := F
  obtain ⟨m10, F⟩ := F
  obtain ⟨k11, F⟩ := F
  refine h_iast e8 c9 m10 k11 dX0_removeFirstViolation_71 ?_
  refine g_aload_n dX0_removeFirstViolation_72 rfl 0 rfl ?_
  refine g_dup dX0_removeFirstViolation_73 (va_rf_cat _) ?_
  refine h_get (v := .int (gI (sI (sI G a1 s1.toNatClampNeg s2) a7 (p3 + 3).toNatClampNeg (-2)) x 16)) 0 16 (C := RX0) (T := TX0) (N := 25) rfl in_X0 (by decide) q253 (Or.inl rfl) rfl c6 rfl dX0_removeFirstViolation_74 ?_
  refine g_iconst (v := 1) dX0_removeFirstViolation_77 (by decide) ?_
  refine g_iadd dX0_removeFirstViolation_78 ?_
  obtain ⟨m12, F⟩ := F
  refine h_putI (mi := mX0_removeFirstViolation) 0 16 (C := RX0) (T := TX0) (N := 25) rfl in_X0 tyX0_ok nmX0 (by decide) q253 (Or.inl rfl) (Or.inl rfl) rfl rfl c6 m12 rfl rfl dX0_removeFirstViolation_79 ?_
  refine g_aload_n dX0_removeFirstViolation_82 rfl 2 rfl ?_
  refine g_aload_n dX0_removeFirstViolation_83 rfl 0 rfl ?_
  refine h_get (v := .int (gI (sI (sI (sI G a1 s1.toNatClampNeg s2) a7 (p3 + 3).toNatClampNeg (-2)) x 16 ((gI (sI (sI G a1 s1.toNatClampNeg s2) a7 (p3 + 3).toNatClampNeg (-2)) x 16) + 1)) x 12)) 0 12 (C := RX0) (T := TX0) (N := 25) rfl in_X0 (by decide) q249 (Or.inl rfl) rfl c6 rfl dX0_removeFirstViolation_84 ?_
  obtain ⟨a14, e15, F⟩ := F
  obtain ⟨c16, F⟩ := F
  refine h_callVV (ci := 4) (C := RX5) (T := TX5) (N := 6) (As := [.int (gI (sI (sI (sI G a1 s1.toNatClampNeg s2) a7 (p3 + 3).toNatClampNeg (-2)) x 16 ((gI (sI (sI G a1 s1.toNatClampNeg s2) a7 (p3 + 3).toNatClampNeg (-2)) x 16) + 1)) x 12)]) (rest := []) F 1 rfl rfl (lw_V q1233 q1234 q1235 q139 q1236) vm_X5_removeAt (by decide) e15 c16 rfl (room_of sc_nil (Nat.le_of_ble_eq_true rfl)) dX0_removeFirstViolation_87 (fun Gr13 br13 sr13 F => ?_)
  exact g_vret rfl dX0_removeFirstViolation_90 F
theorem rX0_removal_0 {Γ : GE} {l : Launch} {h MC MS : Nat} {Q : Option Value → GH → Prop} {bc bs : Nat} {G : GH} (x : Nat) (p1 : Int32) (F : (GW Γ l mX0_removal h MC MS Q 2 [(0, va_rf (some x)), (1, .int p1), (2, .int 0)] [] G bc bs)) : GW Γ l mX0_removal h MC MS Q 0 [(0, va_rf (some x)), (1, .int p1)] [] G bc bs := by
  refine g_iconst (v := 0) dX0_removal_0 (by decide) ?_
  refine s_istore_n (lv' := [(0, va_rf (some x)), (1, .int p1), (2, .int 0)]) (cat_R (cat_I cat_nil)) dX0_removal_1 rfl (by decide) rfl [1, 2, 0] rfl ?_
  exact F
theorem rX0_removal_2 {Γ : GE} {l : Launch} {h MC MS : Nat} {Q : Option Value → GH → Prop} {bc bs : Nat} {G : GH} (x : Nat) (p1 : Int32) (p2 : Int32) (F : (gC G x = kO 0 ∧ (((gI G x 16) ≤ p2 → (Q (some (.int (-1))) G)) ∧ (¬ (gI G x 16) ≤ p2 → (∃ a2, (gR G x 15) = some a2 ∧ gC G a2 = kA 0 ∧ vp_in ((4 * p2) + 1) (gL G a2) ∧ ((¬ (gI G a2 ((4 * p2) + 1).toNatClampNeg) = p1 → (GW Γ l mX0_removal h MC MS Q 2 [(0, va_rf (some x)), (1, .int p1), (2, .int (p2 + 1))] [] G bc bs)) ∧ ((gI G a2 ((4 * p2) + 1).toNatClampNeg) = p1 → (vp_in ((4 * p2) + 2) (gL G a2) ∧ ((¬ (gI G a2 ((4 * p2) + 2).toNatClampNeg) = 1 → (GW Γ l mX0_removal h MC MS Q 2 [(0, va_rf (some x)), (1, .int p1), (2, .int (p2 + 1))] [] G bc bs)) ∧ ((gI G a2 ((4 * p2) + 2).toNatClampNeg) = 1 → (Q (some (.int p2)) G))))))))))) : GW Γ l mX0_removal h MC MS Q 2 [(0, va_rf (some x)), (1, .int p1), (2, .int p2)] [] G bc bs := by
  refine g_iload_n dX0_removal_2 rfl 2 rfl ?_
  refine g_aload_n dX0_removal_3 rfl 0 rfl ?_
  obtain ⟨c1, F⟩ := F
  refine h_get (v := .int (gI G x 16)) 0 16 (C := RX0) (T := TX0) (N := 25) rfl in_X0 (by decide) q253 (Or.inl rfl) rfl c1 rfl dX0_removal_4 ?_
  refine g_icmp_ge 46 dX0_removal_7 (by decide) (fun h9 => ?_) (fun h9 => ?_)
  · have F := F.1 h9
    refine g_iconst (v := (-1)) dX0_removal_46 (by decide) ?_
    exact g_iret rfl dX0_removal_47 F
  · have F := F.2 h9
    refine g_aload_n dX0_removal_10 rfl 0 rfl ?_
    refine h_get (v := va_rf (gR G x 15)) 0 15 (C := RX0) (T := TX0) (N := 25) rfl in_X0 (by decide) q252 (Or.inl rfl) rfl c1 rfl dX0_removal_11 ?_
    refine g_iconst (v := 4) dX0_removal_14 (by decide) ?_
    refine g_iload_n dX0_removal_15 rfl 2 rfl ?_
    refine g_imul dX0_removal_16 ?_
    refine g_iconst (v := 1) dX0_removal_17 (by decide) ?_
    refine g_iadd dX0_removal_18 ?_
    obtain ⟨a2, e3, F⟩ := F
    obtain ⟨c4, F⟩ := F
    obtain ⟨k5, F⟩ := F
    refine h_iald e3 c4 k5 dX0_removal_19 ?_
    refine g_iload_n dX0_removal_20 rfl 1 rfl ?_
    refine g_icmp_ne 40 dX0_removal_21 (by decide) (fun h8 => ?_) (fun h8 => ?_)
    · have F := F.1 h8
      refine s_iinc (v := (p2 + 1)) (lv' := [(0, va_rf (some x)), (1, .int p1), (2, .int (p2 + 1))]) (cat_R (cat_I (cat_I cat_nil))) dX0_removal_40 (k0 := 2) rfl rfl (by decide) rfl [1, 2, 0] rfl ?_
      refine g_goto 2 dX0_removal_43 (by decide) ?_
      exact F
    · have F := F.2 h8
      refine g_aload_n dX0_removal_24 rfl 0 rfl ?_
      refine h_get (v := va_rf (gR G x 15)) 0 15 (C := RX0) (T := TX0) (N := 25) rfl in_X0 (by decide) q252 (Or.inl rfl) rfl c1 rfl dX0_removal_25 ?_
      refine g_iconst (v := 4) dX0_removal_28 (by decide) ?_
      refine g_iload_n dX0_removal_29 rfl 2 rfl ?_
      refine g_imul dX0_removal_30 ?_
      refine g_iconst (v := 2) dX0_removal_31 (by decide) ?_
      refine g_iadd dX0_removal_32 ?_
      obtain ⟨k6, F⟩ := F
      refine h_iald e3 c4 k6 dX0_removal_33 ?_
      refine g_iconst (v := 1) dX0_removal_34 (by decide) ?_
      refine g_icmp_ne 40 dX0_removal_35 (by decide) (fun h7 => ?_) (fun h7 => ?_)
      · have F := F.1 h7
        refine s_iinc (v := (p2 + 1)) (lv' := [(0, va_rf (some x)), (1, .int p1), (2, .int (p2 + 1))]) (cat_R (cat_I (cat_I cat_nil))) dX0_removal_40 (k0 := 2) rfl rfl (by decide) rfl [1, 2, 0] rfl ?_
        refine g_goto 2 dX0_removal_43 (by decide) ?_
        exact F
      · have F := F.2 h7
        refine g_iload_n dX0_removal_38 rfl 2 rfl ?_
        exact g_iret rfl dX0_removal_39 F
theorem rX0_repaired_0 {Γ : GE} {l : Launch} {h MC MS : Nat} {Q : Option Value → GH → Prop} {bc bs : Nat} {G : GH} (x : Nat) (p1 : Int32) (p2 : Int32) (F : (cI Γ l h mX0_isBetween [.int p2, .int 0, .int 3] G bc bs fun r1 Gr1 br1 sr1 => ((¬ r1 = 0 → (gC Gr1 x = kO 0 ∧ cI Γ l h mX0_isBetween [.int p1, .int 0, .int ((gI Gr1 x 16) - 1)] Gr1 br1 sr1 fun r4 Gr4 br4 sr4 => ((r4 = 0 → (Q (some (.int (-2))) Gr4)) ∧ (¬ r4 = 0 → (gC Gr4 x = kO 0 ∧ ∃ a7, (gR Gr4 x 15) = some a7 ∧ gC Gr4 a7 = kA 0 ∧ vp_in ((4 * p1) + p2) (gL Gr4 a7) ∧ Q (some (.int (gI Gr4 a7 ((4 * p1) + p2).toNatClampNeg))) Gr4))))) ∧ (r1 = 0 → (Q (some (.int (-1))) Gr1))))) : GW Γ l mX0_repaired h MC MS Q 0 [(0, va_rf (some x)), (1, .int p1), (2, .int p2)] [] G bc bs := by
  refine g_iload_n dX0_repaired_0 rfl 2 rfl ?_
  refine g_iconst (v := 0) dX0_repaired_1 (by decide) ?_
  refine g_iconst (v := 3) dX0_repaired_2 (by decide) ?_
  refine h_callSI (As := [.int p2, .int 0, .int 3]) (rest := []) F 3 rfl (lw_S q498 q499 q108 q500) vm_X0_isBetween.2 (by decide) rfl (room_of sc_nil (Nat.le_of_ble_eq_true rfl)) dX0_repaired_3 (fun r1 Gr1 br1 sr1 F => ?_)
  refine g_if_ne 11 dX0_repaired_6 (by decide) (fun h12 => ?_) (fun h12 => ?_)
  · have F := F.1 h12
    refine g_iload_n dX0_repaired_11 rfl 1 rfl ?_
    refine g_iconst (v := 0) dX0_repaired_12 (by decide) ?_
    refine g_aload_n dX0_repaired_13 rfl 0 rfl ?_
    obtain ⟨c3, F⟩ := F
    refine h_get (v := .int (gI Gr1 x 16)) 0 16 (C := RX0) (T := TX0) (N := 25) rfl in_X0 (by decide) q253 (Or.inl rfl) rfl c3 rfl dX0_repaired_14 ?_
    refine g_iconst (v := 1) dX0_repaired_17 (by decide) ?_
    refine g_isub dX0_repaired_18 ?_
    refine h_callSI (As := [.int p1, .int 0, .int ((gI Gr1 x 16) - 1)]) (rest := []) F 3 rfl (lw_S q498 q499 q108 q500) vm_X0_isBetween.2 (by decide) rfl (room_of sc_nil (Nat.le_of_ble_eq_true rfl)) dX0_repaired_19 (fun r4 Gr4 br4 sr4 F => ?_)
    refine g_if_eq 38 dX0_repaired_22 (by decide) (fun h11 => ?_) (fun h11 => ?_)
    · have F := F.1 h11
      refine g_bipush (v := (-2)) dX0_repaired_38 (by decide) ?_
      exact g_iret rfl dX0_repaired_40 F
    · have F := F.2 h11
      refine g_aload_n dX0_repaired_25 rfl 0 rfl ?_
      obtain ⟨c6, F⟩ := F
      refine h_get (v := va_rf (gR Gr4 x 15)) 0 15 (C := RX0) (T := TX0) (N := 25) rfl in_X0 (by decide) q252 (Or.inl rfl) rfl c6 rfl dX0_repaired_26 ?_
      refine g_iconst (v := 4) dX0_repaired_29 (by decide) ?_
      refine g_iload_n dX0_repaired_30 rfl 1 rfl ?_
      refine g_imul dX0_repaired_31 ?_
      refine g_iload_n dX0_repaired_32 rfl 2 rfl ?_
      refine g_iadd dX0_repaired_33 ?_
      obtain ⟨a7, e8, F⟩ := F
      obtain ⟨c9, F⟩ := F
      obtain ⟨k10, F⟩ := F
      refine h_iald e8 c9 k10 dX0_repaired_34 ?_
      refine g_goto 40 dX0_repaired_35 (by decide) ?_
      exact g_iret rfl dX0_repaired_40 F
  · have F := F.2 h12
    refine g_iconst (v := (-1)) dX0_repaired_9 (by decide) ?_
    exact g_iret rfl dX0_repaired_10 F
theorem rX0_bestMinutes_0 {Γ : GE} {l : Launch} {h MC MS : Nat} {Q : Option Value → GH → Prop} {bc bs : Nat} {G : GH} (x : Nat) (p1 : Int32) (F : (gC G x = kO 0 ∧ cI Γ l h mX0_isCrew [.ref x, .int p1] G bc bs fun r1 Gr1 br1 sr1 => ((¬ r1 = 0 → (gC Gr1 x = kO 0 ∧ cI Γ l h mX0_findBest [.ref x, .int p1] Gr1 br1 sr1 fun r4 Gr4 br4 sr4 => ((r4 = 0 → (Q (some (.int (-2))) Gr4)) ∧ (¬ r4 = 0 → (gC Gr4 x = kO 0 ∧ Q (some (.int (gI Gr4 x 20))) Gr4))))) ∧ (r1 = 0 → (Q (some (.int (-1))) Gr1))))) : GW Γ l mX0_bestMinutes h MC MS Q 0 [(0, va_rf (some x)), (1, .int p1)] [] G bc bs := by
  refine g_aload_n dX0_bestMinutes_0 rfl 0 rfl ?_
  refine g_iload_n dX0_bestMinutes_1 rfl 1 rfl ?_
  obtain ⟨c2, F⟩ := F
  refine h_callVI (ci := 0) (C := RX0) (T := TX0) (N := 25) (As := [.int p1]) (rest := []) F 1 rfl rfl (lw_V q1122 q1124 qs11 q108 q1125) vm_X0_isCrew (by decide) rfl c2 rfl (room_of sc_nil (Nat.le_of_ble_eq_true rfl)) dX0_bestMinutes_2 (fun r1 Gr1 br1 sr1 F => ?_)
  refine g_if_ne 10 dX0_bestMinutes_5 (by decide) (fun h9 => ?_) (fun h9 => ?_)
  · have F := F.1 h9
    refine g_aload_n dX0_bestMinutes_10 rfl 0 rfl ?_
    refine g_iload_n dX0_bestMinutes_11 rfl 1 rfl ?_
    obtain ⟨c5, F⟩ := F
    refine h_callVI (ci := 0) (C := RX0) (T := TX0) (N := 25) (As := [.int p1]) (rest := []) F 1 rfl rfl (lw_V q1474 q1476 qs45 q108 q1477) vm_X0_findBest (by decide) rfl c5 rfl (room_of sc_nil (Nat.le_of_ble_eq_true rfl)) dX0_bestMinutes_12 (fun r4 Gr4 br4 sr4 F => ?_)
    refine g_if_eq 25 dX0_bestMinutes_15 (by decide) (fun h8 => ?_) (fun h8 => ?_)
    · have F := F.1 h8
      refine g_bipush (v := (-2)) dX0_bestMinutes_25 (by decide) ?_
      exact g_iret rfl dX0_bestMinutes_27 F
    · have F := F.2 h8
      refine g_aload_n dX0_bestMinutes_18 rfl 0 rfl ?_
      obtain ⟨c7, F⟩ := F
      refine h_get (v := .int (gI Gr4 x 20)) 0 20 (C := RX0) (T := TX0) (N := 25) rfl in_X0 (by decide) q257 (Or.inl rfl) rfl c7 rfl dX0_bestMinutes_19 ?_
      refine g_goto 27 dX0_bestMinutes_22 (by decide) ?_
      exact g_iret rfl dX0_bestMinutes_27 F
  · have F := F.2 h9
    refine g_iconst (v := (-1)) dX0_bestMinutes_8 (by decide) ?_
    exact g_iret rfl dX0_bestMinutes_9 F
theorem rX0_findBest_0 {Γ : GE} {l : Launch} {h MC MS : Nat} {Q : Option Value → GH → Prop} {bc bs : Nat} {G : GH} (x : Nat) (p1 : Int32) (F : (gC G x = kO 0 ∧ cV Γ l h mX0_loadRow [.ref x, .int p1] G bc bs fun Gr1 br1 sr1 => gC Gr1 x = kO 0 ∧ gM Gr1 x = true ∧ cV Γ l h mX0_search [.ref x, .int p1, .int 0, .int 0] (sI (sI Gr1 x 19 0) x 20 0) br1 sr1 fun Gr6 br6 sr6 => gC Gr6 x = kO 0 ∧ (((gI Gr6 x 19) ≤ 0 → (Q (some (.int 0)) Gr6)) ∧ (¬ (gI Gr6 x 19) ≤ 0 → (Q (some (.int 1)) Gr6))))) : GW Γ l mX0_findBest h MC MS Q 0 [(0, va_rf (some x)), (1, .int p1)] [] G bc bs := by
  refine g_aload_n dX0_findBest_0 rfl 0 rfl ?_
  refine g_iload_n dX0_findBest_1 rfl 1 rfl ?_
  obtain ⟨c2, F⟩ := F
  refine h_callVV (ci := 0) (C := RX0) (T := TX0) (N := 25) (As := [.int p1]) (rest := []) F 1 rfl rfl (lw_V q1130 q1132 qs13 q108 q1133) vm_X0_loadRow (by decide) rfl c2 rfl (room_of sc_nil (Nat.le_of_ble_eq_true rfl)) dX0_findBest_2 (fun Gr1 br1 sr1 F => ?_)
  refine g_aload_n dX0_findBest_5 rfl 0 rfl ?_
  refine g_iconst (v := 0) dX0_findBest_6 (by decide) ?_
  obtain ⟨c4, F⟩ := F
  obtain ⟨m5, F⟩ := F
  refine h_putI (mi := mX0_findBest) 0 19 (C := RX0) (T := TX0) (N := 25) rfl in_X0 tyX0_ok nmX0 (by decide) q256 (Or.inl rfl) (Or.inl rfl) rfl rfl c4 m5 rfl rfl dX0_findBest_7 ?_
  refine g_aload_n dX0_findBest_10 rfl 0 rfl ?_
  refine g_iconst (v := 0) dX0_findBest_11 (by decide) ?_
  refine h_putI (mi := mX0_findBest) 0 20 (C := RX0) (T := TX0) (N := 25) rfl in_X0 tyX0_ok nmX0 (by decide) q257 (Or.inl rfl) (Or.inl rfl) rfl rfl c4 m5 rfl rfl dX0_findBest_12 ?_
  refine g_aload_n dX0_findBest_15 rfl 0 rfl ?_
  refine g_iload_n dX0_findBest_16 rfl 1 rfl ?_
  refine g_iconst (v := 0) dX0_findBest_17 (by decide) ?_
  refine g_iconst (v := 0) dX0_findBest_18 (by decide) ?_
  refine h_callVV (ci := 0) (C := RX0) (T := TX0) (N := 25) (As := [.int p1, .int 0, .int 0]) (rest := []) F 3 rfl rfl (lw_V q1478 q1480 qs46 q108 q1481) vm_X0_search (by decide) rfl c4 rfl (room_of sc_nil (Nat.le_of_ble_eq_true rfl)) dX0_findBest_19 (fun Gr6 br6 sr6 F => ?_)
  refine g_aload_n dX0_findBest_22 rfl 0 rfl ?_
  obtain ⟨c8, F⟩ := F
  refine h_get (v := .int (gI Gr6 x 19)) 0 19 (C := RX0) (T := TX0) (N := 25) rfl in_X0 (by decide) q256 (Or.inl rfl) rfl c8 rfl dX0_findBest_23 ?_
  refine g_if_le 33 dX0_findBest_26 (by decide) (fun h9 => ?_) (fun h9 => ?_)
  · have F := F.1 h9
    refine g_iconst (v := 0) dX0_findBest_33 (by decide) ?_
    exact g_zret rfl rfl dX0_findBest_34 F
  · have F := F.2 h9
    refine g_iconst (v := 1) dX0_findBest_29 (by decide) ?_
    refine g_goto 34 dX0_findBest_30 (by decide) ?_
    exact g_zret rfl rfl dX0_findBest_34 F
theorem rX0_search_0 {Γ : GE} {l : Launch} {h MC MS : Nat} {Q : Option Value → GH → Prop} {bc bs : Nat} {G : GH} (x : Nat) (p1 : Int32) (p2 : Int32) (p3 : Int32) (F : ((p2 ≤ 0 → (GW Γ l mX0_search h MC MS Q 33 [(0, va_rf (some x)), (1, .int p1), (2, .int p2), (3, .int p3)] [.int 0] G bc bs)) ∧ (¬ p2 ≤ 0 → (gC G x = kO 0 ∧ (((gI G x 20) < p3 → (GW Γ l mX0_search h MC MS Q 33 [(0, va_rf (some x)), (1, .int p1), (2, .int p2), (3, .int p3)] [.int 1] G bc bs)) ∧ (¬ (gI G x 20) < p3 → ((¬ p3 = (gI G x 20) → (GW Γ l mX0_search h MC MS Q 33 [(0, va_rf (some x)), (1, .int p1), (2, .int p2), (3, .int p3)] [.int 0] G bc bs)) ∧ (p3 = (gI G x 20) → (((gI G x 19) ≤ p2 → (GW Γ l mX0_search h MC MS Q 33 [(0, va_rf (some x)), (1, .int p1), (2, .int p2), (3, .int p3)] [.int 0] G bc bs)) ∧ (¬ (gI G x 19) ≤ p2 → (GW Γ l mX0_search h MC MS Q 33 [(0, va_rf (some x)), (1, .int p1), (2, .int p2), (3, .int p3)] [.int 1] G bc bs))))))))))) : GW Γ l mX0_search h MC MS Q 0 [(0, va_rf (some x)), (1, .int p1), (2, .int p2), (3, .int p3)] [] G bc bs := by
  refine g_iload_n dX0_search_0 rfl 2 rfl ?_
  refine g_if_le 32 dX0_search_1 (by decide) (fun h5 => ?_) (fun h5 => ?_)
  · have F := F.1 h5
    refine g_iconst (v := 0) dX0_search_32 (by decide) ?_
    exact F
  · have F := F.2 h5
    refine g_iload_n dX0_search_4 rfl 3 rfl ?_
    refine g_aload_n dX0_search_5 rfl 0 rfl ?_
    obtain ⟨c1, F⟩ := F
    refine h_get (v := .int (gI G x 20)) 0 20 (C := RX0) (T := TX0) (N := 25) rfl in_X0 (by decide) q257 (Or.inl rfl) rfl c1 rfl dX0_search_6 ?_
    refine g_icmp_gt 28 dX0_search_9 (by decide) (fun h4 => ?_) (fun h4 => ?_)
    · have F := F.1 h4
      refine g_iconst (v := 1) dX0_search_28 (by decide) ?_
      refine g_goto 33 dX0_search_29 (by decide) ?_
      exact F
    · have F := F.2 h4
      refine g_iload_n dX0_search_12 rfl 3 rfl ?_
      refine g_aload_n dX0_search_13 rfl 0 rfl ?_
      refine h_get (v := .int (gI G x 20)) 0 20 (C := RX0) (T := TX0) (N := 25) rfl in_X0 (by decide) q257 (Or.inl rfl) rfl c1 rfl dX0_search_14 ?_
      refine g_icmp_ne 32 dX0_search_17 (by decide) (fun h3 => ?_) (fun h3 => ?_)
      · have F := F.1 h3
        refine g_iconst (v := 0) dX0_search_32 (by decide) ?_
        exact F
      · have F := F.2 h3
        refine g_iload_n dX0_search_20 rfl 2 rfl ?_
        refine g_aload_n dX0_search_21 rfl 0 rfl ?_
        refine h_get (v := .int (gI G x 19)) 0 19 (C := RX0) (T := TX0) (N := 25) rfl in_X0 (by decide) q256 (Or.inl rfl) rfl c1 rfl dX0_search_22 ?_
        refine g_icmp_ge 32 dX0_search_25 (by decide) (fun h2 => ?_) (fun h2 => ?_)
        · have F := F.1 h2
          refine g_iconst (v := 0) dX0_search_32 (by decide) ?_
          exact F
        · have F := F.2 h2
          refine g_iconst (v := 1) dX0_search_28 (by decide) ?_
          refine g_goto 33 dX0_search_29 (by decide) ?_
          exact F
theorem rX0_search_33 {Γ : GE} {l : Launch} {h MC MS : Nat} {Q : Option Value → GH → Prop} {bc bs : Nat} {G : GH} (x : Nat) (p1 : Int32) (p2 : Int32) (p3 : Int32) (s0 : Int32) (F : ((s0 = 0 → ((¬ p2 = 6 → (GW Γ l mX0_search h MC MS Q 81 [(0, va_rf (some x)), (1, .int p1), (2, .int p2), (3, .int p3), (4, .int s0), (5, .int 0)] [] G bc bs)) ∧ (p2 = 6 → (Q none G)))) ∧ (¬ s0 = 0 → (gC G x = kO 0 ∧ cI Γ l h mX0_isRowHome [.ref x] G bc bs fun r2 Gr2 br2 sr2 => ((r2 = 0 → ((¬ p2 = 6 → (GW Γ l mX0_search h MC MS Q 81 [(0, va_rf (some x)), (1, .int p1), (2, .int p2), (3, .int p3), (4, .int s0), (5, .int 0)] [] Gr2 br2 sr2)) ∧ (p2 = 6 → (Q none Gr2)))) ∧ (¬ r2 = 0 → (gC Gr2 x = kO 0 ∧ gM Gr2 x = true ∧ ∃ a8, (gR (sI (sI Gr2 x 19 p2) x 20 p3) x 17) = some a8 ∧ gC (sI (sI Gr2 x 19 p2) x 20 p3) a8 = kA 0 ∧ gM (sI (sI Gr2 x 19 p2) x 20 p3) a8 = true ∧ ∃ a12, (gR (sI (sI Gr2 x 19 p2) x 20 p3) x 18) = some a12 ∧ gC (sI (sI Gr2 x 19 p2) x 20 p3) a12 = kA 0 ∧ gM (sI (sI Gr2 x 19 p2) x 20 p3) a12 = true ∧ ¬ p2 < 0 ∧ (0 : Int32).toNatClampNeg + p2.toNatClampNeg ≤ gL (sI (sI Gr2 x 19 p2) x 20 p3) a8 ∧ (0 : Int32).toNatClampNeg + p2.toNatClampNeg ≤ gL (sI (sI Gr2 x 19 p2) x 20 p3) a12 ∧ 0 < h ∧ ∀ H20, H20 = (wI (sI (sI Gr2 x 19 p2) x 20 p3) a12 (va_cpy (gI (sI (sI Gr2 x 19 p2) x 20 p3) a8) (gI (sI (sI Gr2 x 19 p2) x 20 p3) a12) (0 : Int32).toNatClampNeg (0 : Int32).toNatClampNeg p2.toNatClampNeg)) → ((¬ p2 = 6 → (GW Γ l mX0_search h MC MS Q 81 [(0, va_rf (some x)), (1, .int p1), (2, .int p2), (3, .int p3), (4, .int s0), (5, .int 0)] [] H20 br2 sr2)) ∧ (p2 = 6 → (Q none H20)))))))))) : GW Γ l mX0_search h MC MS Q 33 [(0, va_rf (some x)), (1, .int p1), (2, .int p2), (3, .int p3)] [.int s0] G bc bs := by
  refine s_istore (lv' := [(0, va_rf (some x)), (1, .int p1), (2, .int p2), (3, .int p3), (4, .int s0)]) (cat_R (cat_I (cat_I (cat_I cat_nil)))) dX0_search_33 (by decide) rfl [1, 2, 3, 4, 0] rfl ?_
  refine g_iload dX0_search_35 4 rfl ?_
  refine g_if_eq 71 dX0_search_37 (by decide) (fun h25 => ?_) (fun h25 => ?_)
  · have F := F.1 h25
    refine g_iload_n dX0_search_71 rfl 2 rfl ?_
    refine g_bipush (v := 6) dX0_search_72 (by decide) ?_
    refine g_icmp_ne 78 dX0_search_74 (by decide) (fun h1 => ?_) (fun h1 => ?_)
    · have F := F.1 h1
      refine g_iconst (v := 0) dX0_search_78 (by decide) ?_
      refine s_istore (lv' := [(0, va_rf (some x)), (1, .int p1), (2, .int p2), (3, .int p3), (4, .int s0), (5, .int 0)]) (cat_R (cat_I (cat_I (cat_I (cat_I cat_nil))))) dX0_search_79 (by decide) rfl [1, 2, 3, 4, 5, 0] rfl ?_
      exact F
    · have F := F.2 h1
      exact g_vret rfl dX0_search_77 F
  · have F := F.2 h25
    refine g_aload_n dX0_search_40 rfl 0 rfl ?_
    obtain ⟨c3, F⟩ := F
    refine h_callVI (ci := 0) (C := RX0) (T := TX0) (N := 25) (As := []) (rest := []) F 0 rfl rfl (lw_V q1289 q1291 qs31 q108 q1292) vm_X0_isRowHome (by decide) rfl c3 rfl (room_of sc_nil (Nat.le_of_ble_eq_true rfl)) dX0_search_41 (fun r2 Gr2 br2 sr2 F => ?_)
    refine g_if_eq 71 dX0_search_44 (by decide) (fun h24 => ?_) (fun h24 => ?_)
    · have F := F.1 h24
      refine g_iload_n dX0_search_71 rfl 2 rfl ?_
      refine g_bipush (v := 6) dX0_search_72 (by decide) ?_
      refine g_icmp_ne 78 dX0_search_74 (by decide) (fun h5 => ?_) (fun h5 => ?_)
      · have F := F.1 h5
        refine g_iconst (v := 0) dX0_search_78 (by decide) ?_
        refine s_istore (lv' := [(0, va_rf (some x)), (1, .int p1), (2, .int p2), (3, .int p3), (4, .int s0), (5, .int 0)]) (cat_R (cat_I (cat_I (cat_I (cat_I cat_nil))))) dX0_search_79 (by decide) rfl [1, 2, 3, 4, 5, 0] rfl ?_
        exact F
      · have F := F.2 h5
        exact g_vret rfl dX0_search_77 F
    · have F := F.2 h24
      refine g_aload_n dX0_search_47 rfl 0 rfl ?_
      refine g_iload_n dX0_search_48 rfl 2 rfl ?_
      obtain ⟨c6, F⟩ := F
      obtain ⟨m7, F⟩ := F
      refine h_putI (mi := mX0_search) 0 19 (C := RX0) (T := TX0) (N := 25) rfl in_X0 tyX0_ok nmX0 (by decide) q256 (Or.inl rfl) (Or.inl rfl) rfl rfl c6 m7 rfl rfl dX0_search_49 ?_
      refine g_aload_n dX0_search_52 rfl 0 rfl ?_
      refine g_iload_n dX0_search_53 rfl 3 rfl ?_
      refine h_putI (mi := mX0_search) 0 20 (C := RX0) (T := TX0) (N := 25) rfl in_X0 tyX0_ok nmX0 (by decide) q257 (Or.inl rfl) (Or.inl rfl) rfl rfl c6 m7 rfl rfl dX0_search_54 ?_
      refine g_aload_n dX0_search_57 rfl 0 rfl ?_
      refine h_get (v := va_rf (gR (sI (sI Gr2 x 19 p2) x 20 p3) x 17)) 0 17 (C := RX0) (T := TX0) (N := 25) rfl in_X0 (by decide) q254 (Or.inl rfl) rfl c6 rfl dX0_search_58 ?_
      refine g_iconst (v := 0) dX0_search_61 (by decide) ?_
      refine g_aload_n dX0_search_62 rfl 0 rfl ?_
      refine h_get (v := va_rf (gR (sI (sI Gr2 x 19 p2) x 20 p3) x 18)) 0 18 (C := RX0) (T := TX0) (N := 25) rfl in_X0 (by decide) q255 (Or.inl rfl) rfl c6 rfl dX0_search_63 ?_
      refine g_iconst (v := 0) dX0_search_66 (by decide) ?_
      refine g_iload_n dX0_search_67 rfl 2 rfl ?_
      obtain ⟨a8, e9, F⟩ := F
      obtain ⟨c10, F⟩ := F
      obtain ⟨m11, F⟩ := F
      obtain ⟨a12, e13, F⟩ := F
      obtain ⟨c14, F⟩ := F
      obtain ⟨m15, F⟩ := F
      obtain ⟨k16, F⟩ := F
      obtain ⟨k17, F⟩ := F
      obtain ⟨k18, F⟩ := F
      obtain ⟨k19, F⟩ := F
      refine h_copyi 0 (by decide) q493 q439 q438 q118 e9 c10 m11 e13 c14 m15 (by decide) (by decide) k16 k17 k18 (fun _ _ => rfl) k19 (room_of sc_nil (Nat.le_of_ble_eq_true rfl)) dX0_search_68 ?_
      obtain ⟨H20, h21⟩ : ∃ g : GH, g = (wI (sI (sI Gr2 x 19 p2) x 20 p3) a12 (va_cpy (gI (sI (sI Gr2 x 19 p2) x 20 p3) a8) (gI (sI (sI Gr2 x 19 p2) x 20 p3) a12) (0 : Int32).toNatClampNeg (0 : Int32).toNatClampNeg p2.toNatClampNeg)) := ⟨_, rfl⟩
      rw [← h21]
      have F := F H20 h21
      refine g_iload_n dX0_search_71 rfl 2 rfl ?_
      refine g_bipush (v := 6) dX0_search_72 (by decide) ?_
      refine g_icmp_ne 78 dX0_search_74 (by decide) (fun h23 => ?_) (fun h23 => ?_)
      · have F := F.1 h23
        refine g_iconst (v := 0) dX0_search_78 (by decide) ?_
        refine s_istore (lv' := [(0, va_rf (some x)), (1, .int p1), (2, .int p2), (3, .int p3), (4, .int s0), (5, .int 0)]) (cat_R (cat_I (cat_I (cat_I (cat_I cat_nil))))) dX0_search_79 (by decide) rfl [1, 2, 3, 4, 5, 0] rfl ?_
        exact F
      · have F := F.2 h23
        exact g_vret rfl dX0_search_77 F
theorem rX0_search_81 {Γ : GE} {l : Launch} {h MC MS : Nat} {Q : Option Value → GH → Prop} {bc bs : Nat} {G : GH} (x : Nat) (p1 : Int32) (p2 : Int32) (p3 : Int32) (p4 : Int32) (p5 : Int32) (F : (gC G x = kO 0 ∧ ∃ a2, (gR G x 0) = some a2 ∧ gC G a2 = kO 2 ∧ gM G a2 = true ∧ ∃ a7, (gR G a2 0) = some a7 ∧ gC G a7 = kO 9 ∧ cI Γ l h mJ2_size [.ref a7] G bc bs fun r6 Gr6 br6 sr6 => ((r6 ≤ p5 → (Q none Gr6)) ∧ (¬ r6 ≤ p5 → (gC Gr6 x = kO 0 ∧ (((gI Gr6 x 8) = 0 → (GW Γ l mX0_search h MC MS Q 133 [(0, va_rf (some x)), (1, .int p1), (2, .int p2), (3, .int p3), (4, .int p4), (5, .int p5)] [.int 1] Gr6 br6 sr6)) ∧ (¬ (gI Gr6 x 8) = 0 → (cR Γ l h mX0_legOf [.ref x, .int p5] Gr6 br6 sr6 fun r12 Gr12 br12 sr12 => ∃ a14, r12 = some a14 ∧ gC Gr12 a14 = kO 3 ∧ gM Gr12 a14 = true ∧ gC Gr12 x = kO 0 ∧ cR Γ l h mX0_at [.ref x, .int ((gI Gr12 x 8) - 1)] Gr12 br12 sr12 fun r19 Gr19 br19 sr19 => ∃ a21, r19 = some a21 ∧ gC Gr19 a21 = kO 3 ∧ gM Gr19 a21 = true ∧ (((gI Gr12 a14 2) ≤ (gI Gr19 a21 2) → (GW Γ l mX0_search h MC MS Q 133 [(0, va_rf (some x)), (1, .int p1), (2, .int p2), (3, .int p3), (4, .int p4), (5, .int p5)] [.int 0] Gr19 br19 sr19)) ∧ (¬ (gI Gr12 a14 2) ≤ (gI Gr19 a21 2) → (GW Γ l mX0_search h MC MS Q 133 [(0, va_rf (some x)), (1, .int p1), (2, .int p2), (3, .int p3), (4, .int p4), (5, .int p5)] [.int 1] Gr19 br19 sr19))))))))))) : GW Γ l mX0_search h MC MS Q 81 [(0, va_rf (some x)), (1, .int p1), (2, .int p2), (3, .int p3), (4, .int p4), (5, .int p5)] [] G bc bs := by
  refine g_iload dX0_search_81 5 rfl ?_
  refine g_aload_n dX0_search_83 rfl 0 rfl ?_
  obtain ⟨c1, F⟩ := F
  refine h_get (v := va_rf (gR G x 0)) 0 0 (C := RX0) (T := TX0) (N := 25) rfl in_X0 (by decide) q237 (Or.inl rfl) rfl c1 rfl dX0_search_84 ?_
  obtain ⟨a2, e3, F⟩ := F
  obtain ⟨c4, F⟩ := F
  obtain ⟨m5, F⟩ := F
  refine h_getN (host := "CrewPairer") (v := va_rf (gR G a2 0)) 2 0 (C := RX1) (T := TX1) (N := 3) rfl in_X1 (by decide) (by decide +kernel) rfl e3 c4 m5 rfl dX0_search_87 ?_
  obtain ⟨a7, e8, F⟩ := F
  obtain ⟨c9, F⟩ := F
  refine h_callVI (ci := 9) (C := RJ2) (T := TJ2) (N := 3) (As := []) (rest := [.int p5]) F 0 rfl rfl (lw_V q480 q328 q329 q112 q330) vm_J2_size (by decide) e8 c9 rfl (room_of (sc_I sc_nil) (Nat.le_of_ble_eq_true rfl)) dX0_search_90 (fun r6 Gr6 br6 sr6 F => ?_)
  refine g_icmp_ge 210 dX0_search_93 (by decide) (fun h27 => ?_) (fun h27 => ?_)
  · have F := F.1 h27
    exact g_vret rfl dX0_search_210 F
  · have F := F.2 h27
    refine g_aload_n dX0_search_96 rfl 0 rfl ?_
    obtain ⟨c11, F⟩ := F
    refine h_get (v := .int (gI Gr6 x 8)) 0 8 (C := RX0) (T := TX0) (N := 25) rfl in_X0 (by decide) q245 (Or.inl rfl) rfl c11 rfl dX0_search_97 ?_
    refine g_if_eq 128 dX0_search_100 (by decide) (fun h26 => ?_) (fun h26 => ?_)
    · have F := F.1 h26
      refine g_iconst (v := 1) dX0_search_128 (by decide) ?_
      refine g_goto 133 dX0_search_129 (by decide) ?_
      exact F
    · have F := F.2 h26
      refine g_aload_n dX0_search_103 rfl 0 rfl ?_
      refine g_iload dX0_search_104 5 rfl ?_
      refine h_callVR (ci := 0) (C := RX0) (T := TX0) (N := 25) (As := [.int p5]) (rest := []) F 1 rfl rfl (lw_V q551 q553 qs6 q108 q554) vm_X0_legOf (by decide) rfl c11 rfl (room_of sc_nil (Nat.le_of_ble_eq_true rfl)) dX0_search_106 (fun r12 Gr12 br12 sr12 F => ?_)
      obtain ⟨a14, e15, F⟩ := F
      obtain ⟨c16, F⟩ := F
      obtain ⟨m17, F⟩ := F
      refine h_getN (host := "CrewPairer") (v := .int (gI Gr12 a14 2)) 3 2 (C := RX4) (T := TX4) (N := 5) rfl in_X4 (by decide) (by decide +kernel) rfl e15 c16 m17 rfl dX0_search_109 ?_
      refine g_aload_n dX0_search_112 rfl 0 rfl ?_
      refine g_aload_n dX0_search_113 rfl 0 rfl ?_
      obtain ⟨c18, F⟩ := F
      refine h_get (v := .int (gI Gr12 x 8)) 0 8 (C := RX0) (T := TX0) (N := 25) rfl in_X0 (by decide) q245 (Or.inl rfl) rfl c18 rfl dX0_search_114 ?_
      refine g_iconst (v := 1) dX0_search_117 (by decide) ?_
      refine g_isub dX0_search_118 ?_
      refine h_callVR (ci := 0) (C := RX0) (T := TX0) (N := 25) (As := [.int ((gI Gr12 x 8) - 1)]) (rest := [.int (gI Gr12 a14 2)]) F 1 rfl rfl (lw_V q1162 q1164 qs21 q108 q1165) vm_X0_at (by decide) rfl c18 rfl (room_of (sc_I sc_nil) (Nat.le_of_ble_eq_true rfl)) dX0_search_119 (fun r19 Gr19 br19 sr19 F => ?_)
      obtain ⟨a21, e22, F⟩ := F
      obtain ⟨c23, F⟩ := F
      obtain ⟨m24, F⟩ := F
      refine h_getN (host := "CrewPairer") (v := .int (gI Gr19 a21 2)) 3 2 (C := RX4) (T := TX4) (N := 5) rfl in_X4 (by decide) (by decide +kernel) rfl e22 c23 m24 rfl dX0_search_122 ?_
      refine g_icmp_le 132 dX0_search_125 (by decide) (fun h25 => ?_) (fun h25 => ?_)
      · have F := F.1 h25
        refine g_iconst (v := 0) dX0_search_132 (by decide) ?_
        exact F
      · have F := F.2 h25
        refine g_iconst (v := 1) dX0_search_128 (by decide) ?_
        refine g_goto 133 dX0_search_129 (by decide) ?_
        exact F
theorem rX0_search_133 {Γ : GE} {l : Launch} {h MC MS : Nat} {Q : Option Value → GH → Prop} {bc bs : Nat} {G : GH} (x : Nat) (p1 : Int32) (p2 : Int32) (p3 : Int32) (p4 : Int32) (p5 : Int32) (s0 : Int32) (F : ((s0 = 0 → (GW Γ l mX0_search h MC MS Q 81 [(0, va_rf (some x)), (1, .int p1), (2, .int p2), (3, .int p3), (4, .int p4), (5, .int (p5 + 1))] [] G bc bs)) ∧ (¬ s0 = 0 → (gC G x = kO 0 ∧ cI Γ l h mX0_isOpen [.ref x, .int p5] G bc bs fun r1 Gr1 br1 sr1 => ((¬ r1 = 0 → (gC Gr1 x = kO 0 ∧ ∃ a5, (gR Gr1 x 17) = some a5 ∧ gC Gr1 a5 = kA 0 ∧ gM Gr1 a5 = true ∧ vp_in p2 (gL Gr1 a5) ∧ cI Γ l h mX0_insert [.ref x, .int p5, .int 1] (sI Gr1 a5 p2.toNatClampNeg p5) br1 sr1 fun r10 Gr10 br10 sr10 => gC Gr10 x = kO 0 ∧ cI Γ l h mX0_isLegal [.ref x] Gr10 br10 sr10 fun r12 Gr12 br12 sr12 => ((r12 = 0 → (gC Gr12 x = kO 0 ∧ gM Gr12 x = true ∧ GW Γ l mX0_search h MC MS Q 81 [(0, va_rf (some x)), (1, .int p1), (2, .int p2), (3, .int p3), (4, .int p4), (5, .int (p5 + 1))] [] (sI Gr12 x 8 ((gI Gr12 x 8) - 1)) br12 sr12)) ∧ (¬ r12 = 0 → (gC Gr12 x = kO 0 ∧ cR Γ l h mX0_legOf [.ref x, .int p5] Gr12 br12 sr12 fun r17 Gr17 br17 sr17 => ∃ a21, r17 = some a21 ∧ gC Gr17 a21 = kO 3 ∧ cI Γ l h mX8_length [.ref a21] Gr17 br17 sr17 fun r20 Gr20 br20 sr20 => gC Gr20 x = kO 0 ∧ cV Γ l h mX0_search [.ref x, .int p1, .int (p2 + 1), .int (p3 + r20)] Gr20 br20 sr20 fun Gr25 br25 sr25 => gC Gr25 x = kO 0 ∧ gM Gr25 x = true ∧ GW Γ l mX0_search h MC MS Q 81 [(0, va_rf (some x)), (1, .int p1), (2, .int p2), (3, .int p3), (4, .int p4), (5, .int (p5 + 1))] [] (sI Gr25 x 8 ((gI Gr25 x 8) - 1)) br25 sr25))))) ∧ (r1 = 0 → (GW Γ l mX0_search h MC MS Q 81 [(0, va_rf (some x)), (1, .int p1), (2, .int p2), (3, .int p3), (4, .int p4), (5, .int (p5 + 1))] [] Gr1 br1 sr1))))))) : GW Γ l mX0_search h MC MS Q 133 [(0, va_rf (some x)), (1, .int p1), (2, .int p2), (3, .int p3), (4, .int p4), (5, .int p5)] [.int s0] G bc bs := by
  refine s_istore (lv' := [(0, va_rf (some x)), (1, .int p1), (2, .int p2), (3, .int p3), (4, .int p4), (5, .int p5), (6, .int s0)]) (cat_R (cat_I (cat_I (cat_I (cat_I (cat_I cat_nil)))))) dX0_search_133 (by decide) rfl [1, 2, 3, 4, 5, 6, 0] rfl ?_
  refine g_iload dX0_search_135 6 rfl ?_
  refine g_if_eq 204 dX0_search_137 (by decide) (fun h32 => ?_) (fun h32 => ?_)
  · have F := F.1 h32
    refine s_iinc (v := (p5 + 1)) (lv' := [(0, va_rf (some x)), (1, .int p1), (2, .int p2), (3, .int p3), (4, .int p4), (5, .int (p5 + 1)), (6, .int s0)]) (cat_R (cat_I (cat_I (cat_I (cat_I (cat_I (cat_I cat_nil))))))) dX0_search_204 (k0 := 5) rfl rfl (by decide) rfl [1, 2, 3, 4, 5, 0, 6] rfl ?_
    refine g_goto 81 dX0_search_207 (by decide) ?_
    refine GW.lsub (lv' := [(0, va_rf (some x)), (1, .int p1), (2, .int p2), (3, .int p3), (4, .int p4), (5, .int (p5 + 1))]) [0, 1, 2, 3, 4, 5] rfl ?_
    exact F
  · have F := F.2 h32
    refine g_aload_n dX0_search_140 rfl 0 rfl ?_
    refine g_iload dX0_search_141 5 rfl ?_
    obtain ⟨c2, F⟩ := F
    refine h_callVI (ci := 0) (C := RX0) (T := TX0) (N := 25) (As := [.int p5]) (rest := []) F 1 rfl rfl (lw_V q1313 q1315 qs34 q108 q1316) vm_X0_isOpen (by decide) rfl c2 rfl (room_of sc_nil (Nat.le_of_ble_eq_true rfl)) dX0_search_143 (fun r1 Gr1 br1 sr1 F => ?_)
    refine g_if_ne 152 dX0_search_146 (by decide) (fun h31 => ?_) (fun h31 => ?_)
    · have F := F.1 h31
      refine g_aload_n dX0_search_152 rfl 0 rfl ?_
      obtain ⟨c4, F⟩ := F
      refine h_get (v := va_rf (gR Gr1 x 17)) 0 17 (C := RX0) (T := TX0) (N := 25) rfl in_X0 (by decide) q254 (Or.inl rfl) rfl c4 rfl dX0_search_153 ?_
      refine g_iload_n dX0_search_156 rfl 2 rfl ?_
      refine g_iload dX0_search_157 5 rfl ?_
      obtain ⟨a5, e6, F⟩ := F
      obtain ⟨c7, F⟩ := F
      obtain ⟨m8, F⟩ := F
      obtain ⟨k9, F⟩ := F
      refine h_iast e6 c7 m8 k9 dX0_search_159 ?_
      refine g_aload_n dX0_search_160 rfl 0 rfl ?_
      refine g_iload dX0_search_161 5 rfl ?_
      refine g_iconst (v := 1) dX0_search_163 (by decide) ?_
      refine h_callVI (ci := 0) (C := RX0) (T := TX0) (N := 25) (As := [.int p5, .int 1]) (rest := []) F 2 rfl rfl (lw_V q1138 q1140 qs15 q108 q1141) vm_X0_insert (by decide) rfl c4 rfl (room_of sc_nil (Nat.le_of_ble_eq_true rfl)) dX0_search_164 (fun r10 Gr10 br10 sr10 F => ?_)
      refine g_pop dX0_search_167 rfl ?_
      refine g_aload_n dX0_search_168 rfl 0 rfl ?_
      obtain ⟨c13, F⟩ := F
      refine h_callVI (ci := 0) (C := RX0) (T := TX0) (N := 25) (As := []) (rest := []) F 0 rfl rfl (lw_V q1146 q1148 qs17 q108 q1149) vm_X0_isLegal (by decide) rfl c13 rfl (room_of sc_nil (Nat.le_of_ble_eq_true rfl)) dX0_search_169 (fun r12 Gr12 br12 sr12 F => ?_)
      refine g_if_eq 194 dX0_search_172 (by decide) (fun h30 => ?_) (fun h30 => ?_)
      · have F := F.1 h30
        refine g_aload_n dX0_search_194 rfl 0 rfl ?_
        refine g_dup dX0_search_195 (va_rf_cat _) ?_
        obtain ⟨c15, F⟩ := F
        refine h_get (v := .int (gI Gr12 x 8)) 0 8 (C := RX0) (T := TX0) (N := 25) rfl in_X0 (by decide) q245 (Or.inl rfl) rfl c15 rfl dX0_search_196 ?_
        refine g_iconst (v := 1) dX0_search_199 (by decide) ?_
        refine g_isub dX0_search_200 ?_
        obtain ⟨m16, F⟩ := F
        refine h_putI (mi := mX0_search) 0 8 (C := RX0) (T := TX0) (N := 25) rfl in_X0 tyX0_ok nmX0 (by decide) q245 (Or.inl rfl) (Or.inl rfl) rfl rfl c15 m16 rfl rfl dX0_search_201 ?_
        refine s_iinc (v := (p5 + 1)) (lv' := [(0, va_rf (some x)), (1, .int p1), (2, .int p2), (3, .int p3), (4, .int p4), (5, .int (p5 + 1)), (6, .int s0)]) (cat_R (cat_I (cat_I (cat_I (cat_I (cat_I (cat_I cat_nil))))))) dX0_search_204 (k0 := 5) rfl rfl (by decide) rfl [1, 2, 3, 4, 5, 0, 6] rfl ?_
        refine g_goto 81 dX0_search_207 (by decide) ?_
        refine GW.lsub (lv' := [(0, va_rf (some x)), (1, .int p1), (2, .int p2), (3, .int p3), (4, .int p4), (5, .int (p5 + 1))]) [0, 1, 2, 3, 4, 5] rfl ?_
        exact F
      · have F := F.2 h30
        refine g_aload_n dX0_search_175 rfl 0 rfl ?_
        refine g_iload_n dX0_search_176 rfl 1 rfl ?_
        refine g_iload_n dX0_search_177 rfl 2 rfl ?_
        refine g_iconst (v := 1) dX0_search_178 (by decide) ?_
        refine g_iadd dX0_search_179 ?_
        refine g_iload_n dX0_search_180 rfl 3 rfl ?_
        refine g_aload_n dX0_search_181 rfl 0 rfl ?_
        refine g_iload dX0_search_182 5 rfl ?_
        obtain ⟨c18, F⟩ := F
        refine h_callVR (ci := 0) (C := RX0) (T := TX0) (N := 25) (As := [.int p5]) (rest := [.int p3, .int (p2 + 1), .int p1, va_rf (some x)]) F 1 rfl rfl (lw_V q551 q553 qs6 q108 q554) vm_X0_legOf (by decide) rfl c18 rfl (room_of (sc_I (sc_I (sc_I (sc_R sc_nil)))) (Nat.le_of_ble_eq_true rfl)) dX0_search_184 (fun r17 Gr17 br17 sr17 F => ?_)
        obtain ⟨a21, e22, F⟩ := F
        obtain ⟨c23, F⟩ := F
        refine h_callDI (ci := 3) (x := ⟨"CrewPairer$Leg", "length", "()I"⟩) (C := RX4) (T := TX4) (N := 5) (As := []) (rest := [.int p3, .int (p2 + 1), .int p1, va_rf (some x)]) F 0 rfl rfl (by decide +kernel) (by decide +kernel) (by decide +kernel) (by decide +kernel) q1188 q142 q1190 vm_X8_length.2 (by decide) e22 c23 rfl (room_of (sc_I (sc_I (sc_I (sc_R sc_nil)))) (Nat.le_of_ble_eq_true rfl)) dX0_search_187 (fun r20 Gr20 br20 sr20 F => ?_)
        refine g_iadd dX0_search_190 ?_
        obtain ⟨c26, F⟩ := F
        refine h_callVV (ci := 0) (C := RX0) (T := TX0) (N := 25) (As := [.int p1, .int (p2 + 1), .int (p3 + r20)]) (rest := []) F 3 rfl rfl (lw_V q1478 q1480 qs46 q108 q1481) vm_X0_search (by decide) rfl c26 rfl (room_of sc_nil (Nat.le_of_ble_eq_true rfl)) dX0_search_191 (fun Gr25 br25 sr25 F => ?_)
        refine g_aload_n dX0_search_194 rfl 0 rfl ?_
        refine g_dup dX0_search_195 (va_rf_cat _) ?_
        obtain ⟨c28, F⟩ := F
        refine h_get (v := .int (gI Gr25 x 8)) 0 8 (C := RX0) (T := TX0) (N := 25) rfl in_X0 (by decide) q245 (Or.inl rfl) rfl c28 rfl dX0_search_196 ?_
        refine g_iconst (v := 1) dX0_search_199 (by decide) ?_
        refine g_isub dX0_search_200 ?_
        obtain ⟨m29, F⟩ := F
        refine h_putI (mi := mX0_search) 0 8 (C := RX0) (T := TX0) (N := 25) rfl in_X0 tyX0_ok nmX0 (by decide) q245 (Or.inl rfl) (Or.inl rfl) rfl rfl c28 m29 rfl rfl dX0_search_201 ?_
        refine s_iinc (v := (p5 + 1)) (lv' := [(0, va_rf (some x)), (1, .int p1), (2, .int p2), (3, .int p3), (4, .int p4), (5, .int (p5 + 1)), (6, .int s0)]) (cat_R (cat_I (cat_I (cat_I (cat_I (cat_I (cat_I cat_nil))))))) dX0_search_204 (k0 := 5) rfl rfl (by decide) rfl [1, 2, 3, 4, 5, 0, 6] rfl ?_
        refine g_goto 81 dX0_search_207 (by decide) ?_
        refine GW.lsub (lv' := [(0, va_rf (some x)), (1, .int p1), (2, .int p2), (3, .int p3), (4, .int p4), (5, .int (p5 + 1))]) [0, 1, 2, 3, 4, 5] rfl ?_
        exact F
    · have F := F.2 h31
      refine g_goto 204 dX0_search_149 (by decide) ?_
      refine s_iinc (v := (p5 + 1)) (lv' := [(0, va_rf (some x)), (1, .int p1), (2, .int p2), (3, .int p3), (4, .int p4), (5, .int (p5 + 1)), (6, .int s0)]) (cat_R (cat_I (cat_I (cat_I (cat_I (cat_I (cat_I cat_nil))))))) dX0_search_204 (k0 := 5) rfl rfl (by decide) rfl [1, 2, 3, 4, 5, 0, 6] rfl ?_
      refine g_goto 81 dX0_search_207 (by decide) ?_
      refine GW.lsub (lv' := [(0, va_rf (some x)), (1, .int p1), (2, .int p2), (3, .int p3), (4, .int p4), (5, .int (p5 + 1))]) [0, 1, 2, 3, 4, 5] rfl ?_
      exact F
theorem rX0_bestLeg_0 {Γ : GE} {l : Launch} {h MC MS : Nat} {Q : Option Value → GH → Prop} {bc bs : Nat} {G : GH} (x : Nat) (p1 : Int32) (p2 : Int32) (F : (gC G x = kO 0 ∧ cI Γ l h mX0_isCrew [.ref x, .int p1] G bc bs fun r1 Gr1 br1 sr1 => ((¬ r1 = 0 → (gC Gr1 x = kO 0 ∧ cI Γ l h mX0_findBest [.ref x, .int p1] Gr1 br1 sr1 fun r4 Gr4 br4 sr4 => ((¬ r4 = 0 → ((¬ p2 = (-1) → (gC Gr4 x = kO 0 ∧ cI Γ l h mX0_isBetween [.int p2, .int 0, .int ((gI Gr4 x 19) - 1)] Gr4 br4 sr4 fun r8 Gr8 br8 sr8 => ((r8 = 0 → (Q (some (.int (-2))) Gr8)) ∧ (¬ r8 = 0 → (gC Gr8 x = kO 0 ∧ ∃ a11, (gR Gr8 x 18) = some a11 ∧ gC Gr8 a11 = kA 0 ∧ vp_in p2 (gL Gr8 a11) ∧ Q (some (.int (gI Gr8 a11 p2.toNatClampNeg))) Gr8))))) ∧ (p2 = (-1) → (gC Gr4 x = kO 0 ∧ Q (some (.int (gI Gr4 x 19))) Gr4)))) ∧ (r4 = 0 → (Q (some (.int (-2))) Gr4))))) ∧ (r1 = 0 → (Q (some (.int (-1))) Gr1))))) : GW Γ l mX0_bestLeg h MC MS Q 0 [(0, va_rf (some x)), (1, .int p1), (2, .int p2)] [] G bc bs := by
  refine g_aload_n dX0_bestLeg_0 rfl 0 rfl ?_
  refine g_iload_n dX0_bestLeg_1 rfl 1 rfl ?_
  obtain ⟨c2, F⟩ := F
  refine h_callVI (ci := 0) (C := RX0) (T := TX0) (N := 25) (As := [.int p1]) (rest := []) F 1 rfl rfl (lw_V q1122 q1124 qs11 q108 q1125) vm_X0_isCrew (by decide) rfl c2 rfl (room_of sc_nil (Nat.le_of_ble_eq_true rfl)) dX0_bestLeg_2 (fun r1 Gr1 br1 sr1 F => ?_)
  refine g_if_ne 10 dX0_bestLeg_5 (by decide) (fun h19 => ?_) (fun h19 => ?_)
  · have F := F.1 h19
    refine g_aload_n dX0_bestLeg_10 rfl 0 rfl ?_
    refine g_iload_n dX0_bestLeg_11 rfl 1 rfl ?_
    obtain ⟨c5, F⟩ := F
    refine h_callVI (ci := 0) (C := RX0) (T := TX0) (N := 25) (As := [.int p1]) (rest := []) F 1 rfl rfl (lw_V q1474 q1476 qs45 q108 q1477) vm_X0_findBest (by decide) rfl c5 rfl (room_of sc_nil (Nat.le_of_ble_eq_true rfl)) dX0_bestLeg_12 (fun r4 Gr4 br4 sr4 F => ?_)
    refine g_if_ne 21 dX0_bestLeg_15 (by decide) (fun h18 => ?_) (fun h18 => ?_)
    · have F := F.1 h18
      refine g_iload_n dX0_bestLeg_21 rfl 2 rfl ?_
      refine g_iconst (v := (-1)) dX0_bestLeg_22 (by decide) ?_
      refine g_icmp_ne 33 dX0_bestLeg_23 (by decide) (fun h17 => ?_) (fun h17 => ?_)
      · have F := F.1 h17
        refine g_iload_n dX0_bestLeg_33 rfl 2 rfl ?_
        refine g_iconst (v := 0) dX0_bestLeg_34 (by decide) ?_
        refine g_aload_n dX0_bestLeg_35 rfl 0 rfl ?_
        obtain ⟨c7, F⟩ := F
        refine h_get (v := .int (gI Gr4 x 19)) 0 19 (C := RX0) (T := TX0) (N := 25) rfl in_X0 (by decide) q256 (Or.inl rfl) rfl c7 rfl dX0_bestLeg_36 ?_
        refine g_iconst (v := 1) dX0_bestLeg_39 (by decide) ?_
        refine g_isub dX0_bestLeg_40 ?_
        refine h_callSI (As := [.int p2, .int 0, .int ((gI Gr4 x 19) - 1)]) (rest := []) F 3 rfl (lw_S q498 q499 q108 q500) vm_X0_isBetween.2 (by decide) rfl (room_of sc_nil (Nat.le_of_ble_eq_true rfl)) dX0_bestLeg_41 (fun r8 Gr8 br8 sr8 F => ?_)
        refine g_if_eq 56 dX0_bestLeg_44 (by decide) (fun h15 => ?_) (fun h15 => ?_)
        · have F := F.1 h15
          refine g_bipush (v := (-2)) dX0_bestLeg_56 (by decide) ?_
          exact g_iret rfl dX0_bestLeg_58 F
        · have F := F.2 h15
          refine g_aload_n dX0_bestLeg_47 rfl 0 rfl ?_
          obtain ⟨c10, F⟩ := F
          refine h_get (v := va_rf (gR Gr8 x 18)) 0 18 (C := RX0) (T := TX0) (N := 25) rfl in_X0 (by decide) q255 (Or.inl rfl) rfl c10 rfl dX0_bestLeg_48 ?_
          refine g_iload_n dX0_bestLeg_51 rfl 2 rfl ?_
          obtain ⟨a11, e12, F⟩ := F
          obtain ⟨c13, F⟩ := F
          obtain ⟨k14, F⟩ := F
          refine h_iald e12 c13 k14 dX0_bestLeg_52 ?_
          refine g_goto 58 dX0_bestLeg_53 (by decide) ?_
          exact g_iret rfl dX0_bestLeg_58 F
      · have F := F.2 h17
        refine g_aload_n dX0_bestLeg_26 rfl 0 rfl ?_
        obtain ⟨c16, F⟩ := F
        refine h_get (v := .int (gI Gr4 x 19)) 0 19 (C := RX0) (T := TX0) (N := 25) rfl in_X0 (by decide) q256 (Or.inl rfl) rfl c16 rfl dX0_bestLeg_27 ?_
        refine g_goto 58 dX0_bestLeg_30 (by decide) ?_
        exact g_iret rfl dX0_bestLeg_58 F
    · have F := F.2 h18
      refine g_bipush (v := (-2)) dX0_bestLeg_18 (by decide) ?_
      exact g_iret rfl dX0_bestLeg_20 F
  · have F := F.2 h19
    refine g_iconst (v := (-1)) dX0_bestLeg_8 (by decide) ?_
    exact g_iret rfl dX0_bestLeg_9 F
theorem rX0_takeBest_0 {Γ : GE} {l : Launch} {h MC MS : Nat} {Q : Option Value → GH → Prop} {bc bs : Nat} {G : GH} (x : Nat) (p1 : Int32) (F : (gC G x = kO 0 ∧ cI Γ l h mX0_isCrew [.ref x, .int p1] G bc bs fun r1 Gr1 br1 sr1 => ((¬ r1 = 0 → (gC Gr1 x = kO 0 ∧ cI Γ l h mX0_findBest [.ref x, .int p1] Gr1 br1 sr1 fun r4 Gr4 br4 sr4 => ((¬ r4 = 0 → (gC Gr4 x = kO 0 ∧ cV Γ l h mX0_beginChange [.ref x] Gr4 br4 sr4 fun Gr7 br7 sr7 => gC Gr7 x = kO 0 ∧ cV Γ l h mX0_loadRow [.ref x, .int p1] Gr7 br7 sr7 fun Gr10 br10 sr10 => GW Γ l mX0_takeBest h MC MS Q 32 [(0, va_rf (some x)), (1, .int p1), (2, .int 0)] [] Gr10 br10 sr10)) ∧ (r4 = 0 → (Q (some (.int (-2))) Gr4))))) ∧ (r1 = 0 → (Q (some (.int (-1))) Gr1))))) : GW Γ l mX0_takeBest h MC MS Q 0 [(0, va_rf (some x)), (1, .int p1)] [] G bc bs := by
  refine g_aload_n dX0_takeBest_0 rfl 0 rfl ?_
  refine g_iload_n dX0_takeBest_1 rfl 1 rfl ?_
  obtain ⟨c2, F⟩ := F
  refine h_callVI (ci := 0) (C := RX0) (T := TX0) (N := 25) (As := [.int p1]) (rest := []) F 1 rfl rfl (lw_V q1122 q1124 qs11 q108 q1125) vm_X0_isCrew (by decide) rfl c2 rfl (room_of sc_nil (Nat.le_of_ble_eq_true rfl)) dX0_takeBest_2 (fun r1 Gr1 br1 sr1 F => ?_)
  refine g_if_ne 10 dX0_takeBest_5 (by decide) (fun h14 => ?_) (fun h14 => ?_)
  · have F := F.1 h14
    refine g_aload_n dX0_takeBest_10 rfl 0 rfl ?_
    refine g_iload_n dX0_takeBest_11 rfl 1 rfl ?_
    obtain ⟨c5, F⟩ := F
    refine h_callVI (ci := 0) (C := RX0) (T := TX0) (N := 25) (As := [.int p1]) (rest := []) F 1 rfl rfl (lw_V q1474 q1476 qs45 q108 q1477) vm_X0_findBest (by decide) rfl c5 rfl (room_of sc_nil (Nat.le_of_ble_eq_true rfl)) dX0_takeBest_12 (fun r4 Gr4 br4 sr4 F => ?_)
    refine g_if_ne 21 dX0_takeBest_15 (by decide) (fun h13 => ?_) (fun h13 => ?_)
    · have F := F.1 h13
      refine g_aload_n dX0_takeBest_21 rfl 0 rfl ?_
      obtain ⟨c8, F⟩ := F
      refine h_callVV (ci := 0) (C := RX0) (T := TX0) (N := 25) (As := []) (rest := []) F 0 rfl rfl (lw_V q485 q487 qs3 q108 q488) vm_X0_beginChange (by decide) rfl c8 rfl (room_of sc_nil (Nat.le_of_ble_eq_true rfl)) dX0_takeBest_22 (fun Gr7 br7 sr7 F => ?_)
      refine g_aload_n dX0_takeBest_25 rfl 0 rfl ?_
      refine g_iload_n dX0_takeBest_26 rfl 1 rfl ?_
      obtain ⟨c11, F⟩ := F
      refine h_callVV (ci := 0) (C := RX0) (T := TX0) (N := 25) (As := [.int p1]) (rest := []) F 1 rfl rfl (lw_V q1130 q1132 qs13 q108 q1133) vm_X0_loadRow (by decide) rfl c11 rfl (room_of sc_nil (Nat.le_of_ble_eq_true rfl)) dX0_takeBest_27 (fun Gr10 br10 sr10 F => ?_)
      refine g_iconst (v := 0) dX0_takeBest_30 (by decide) ?_
      refine s_istore_n (lv' := [(0, va_rf (some x)), (1, .int p1), (2, .int 0)]) (cat_R (cat_I cat_nil)) dX0_takeBest_31 rfl (by decide) rfl [1, 2, 0] rfl ?_
      exact F
    · have F := F.2 h13
      refine g_bipush (v := (-2)) dX0_takeBest_18 (by decide) ?_
      exact g_iret rfl dX0_takeBest_20 F
  · have F := F.2 h14
    refine g_iconst (v := (-1)) dX0_takeBest_8 (by decide) ?_
    exact g_iret rfl dX0_takeBest_9 F
theorem rX0_takeBest_32 {Γ : GE} {l : Launch} {h MC MS : Nat} {Q : Option Value → GH → Prop} {bc bs : Nat} {G : GH} (x : Nat) (p1 : Int32) (p2 : Int32) (F : (gC G x = kO 0 ∧ (((gI G x 19) ≤ p2 → (cV Γ l h mX0_storeRow [.ref x, .int p1] G bc bs fun Gr2 br2 sr2 => gC Gr2 x = kO 0 ∧ Q (some (.int (gI Gr2 x 19))) Gr2)) ∧ (¬ (gI G x 19) ≤ p2 → (∃ a5, (gR G x 18) = some a5 ∧ gC G a5 = kA 0 ∧ vp_in p2 (gL G a5) ∧ cI Γ l h mX0_insert [.ref x, .int (gI G a5 p2.toNatClampNeg), .int 1] G bc bs fun r9 Gr9 br9 sr9 => GW Γ l mX0_takeBest h MC MS Q 32 [(0, va_rf (some x)), (1, .int p1), (2, .int (p2 + 1))] [] Gr9 br9 sr9))))) : GW Γ l mX0_takeBest h MC MS Q 32 [(0, va_rf (some x)), (1, .int p1), (2, .int p2)] [] G bc bs := by
  refine g_iload_n dX0_takeBest_32 rfl 2 rfl ?_
  refine g_aload_n dX0_takeBest_33 rfl 0 rfl ?_
  obtain ⟨c1, F⟩ := F
  refine h_get (v := .int (gI G x 19)) 0 19 (C := RX0) (T := TX0) (N := 25) rfl in_X0 (by decide) q256 (Or.inl rfl) rfl c1 rfl dX0_takeBest_34 ?_
  refine g_icmp_ge 58 dX0_takeBest_37 (by decide) (fun h11 => ?_) (fun h11 => ?_)
  · have F := F.1 h11
    refine g_aload_n dX0_takeBest_58 rfl 0 rfl ?_
    refine g_iload_n dX0_takeBest_59 rfl 1 rfl ?_
    refine h_callVV (ci := 0) (C := RX0) (T := TX0) (N := 25) (As := [.int p1]) (rest := []) F 1 rfl rfl (lw_V q1221 q1223 qs28 q108 q1224) vm_X0_storeRow (by decide) rfl c1 rfl (room_of sc_nil (Nat.le_of_ble_eq_true rfl)) dX0_takeBest_60 (fun Gr2 br2 sr2 F => ?_)
    refine g_aload_n dX0_takeBest_63 rfl 0 rfl ?_
    obtain ⟨c4, F⟩ := F
    refine h_get (v := .int (gI Gr2 x 19)) 0 19 (C := RX0) (T := TX0) (N := 25) rfl in_X0 (by decide) q256 (Or.inl rfl) rfl c4 rfl dX0_takeBest_64 ?_
    exact g_iret rfl dX0_takeBest_67 F
  · have F := F.2 h11
    refine g_aload_n dX0_takeBest_40 rfl 0 rfl ?_
    refine g_aload_n dX0_takeBest_41 rfl 0 rfl ?_
    refine h_get (v := va_rf (gR G x 18)) 0 18 (C := RX0) (T := TX0) (N := 25) rfl in_X0 (by decide) q255 (Or.inl rfl) rfl c1 rfl dX0_takeBest_42 ?_
    refine g_iload_n dX0_takeBest_45 rfl 2 rfl ?_
    obtain ⟨a5, e6, F⟩ := F
    obtain ⟨c7, F⟩ := F
    obtain ⟨k8, F⟩ := F
    refine h_iald e6 c7 k8 dX0_takeBest_46 ?_
    refine g_iconst (v := 1) dX0_takeBest_47 (by decide) ?_
    refine h_callVI (ci := 0) (C := RX0) (T := TX0) (N := 25) (As := [.int (gI G a5 p2.toNatClampNeg), .int 1]) (rest := []) F 2 rfl rfl (lw_V q1138 q1140 qs15 q108 q1141) vm_X0_insert (by decide) rfl c1 rfl (room_of sc_nil (Nat.le_of_ble_eq_true rfl)) dX0_takeBest_48 (fun r9 Gr9 br9 sr9 F => ?_)
    refine g_pop dX0_takeBest_51 rfl ?_
    refine s_iinc (v := (p2 + 1)) (lv' := [(0, va_rf (some x)), (1, .int p1), (2, .int (p2 + 1))]) (cat_R (cat_I (cat_I cat_nil))) dX0_takeBest_52 (k0 := 2) rfl rfl (by decide) rfl [1, 2, 0] rfl ?_
    refine g_goto 32 dX0_takeBest_55 (by decide) ?_
    exact F
theorem rX0_letter_0 {Γ : GE} {l : Launch} {h MC MS : Nat} {Q : Option Value → GH → Prop} {bc bs : Nat} {G : GH} (x : Nat) (p1 : Int32) (p2 : Int32) (F : (gC G x = kO 0 ∧ cI Γ l h mX0_isCrew [.ref x, .int p1] G bc bs fun r1 Gr1 br1 sr1 => ((¬ r1 = 0 → (gC Gr1 x = kO 0 ∧ cV Γ l h mX0_loadRow [.ref x, .int p1] Gr1 br1 sr1 fun Gr4 br4 sr4 => 1 ≤ br4 ∧ 4 ≤ sr4 ∧ ∀ q7, gC Gr4 q7 = 0 → gA Γ q7 → cV Γ l h mJ4_init [.ref q7] (nO Gr4 q7 14) (br4 - 1) (sr4 - 4) fun Gr12 br12 sr12 => GW Γ l mX0_letter h MC MS Q 26 [(0, va_rf (some x)), (1, .int p1), (2, .int p2), (3, va_rf (some q7)), (4, .int 0)] [] Gr12 br12 sr12)) ∧ (r1 = 0 → (Q (some (.int (-1))) Gr1))))) : GW Γ l mX0_letter h MC MS Q 0 [(0, va_rf (some x)), (1, .int p1), (2, .int p2)] [] G bc bs := by
  refine g_aload_n dX0_letter_0 rfl 0 rfl ?_
  refine g_iload_n dX0_letter_1 rfl 1 rfl ?_
  obtain ⟨c2, F⟩ := F
  refine h_callVI (ci := 0) (C := RX0) (T := TX0) (N := 25) (As := [.int p1]) (rest := []) F 1 rfl rfl (lw_V q1122 q1124 qs11 q108 q1125) vm_X0_isCrew (by decide) rfl c2 rfl (room_of sc_nil (Nat.le_of_ble_eq_true rfl)) dX0_letter_2 (fun r1 Gr1 br1 sr1 F => ?_)
  refine g_if_ne 10 dX0_letter_5 (by decide) (fun h14 => ?_) (fun h14 => ?_)
  · have F := F.1 h14
    refine g_aload_n dX0_letter_10 rfl 0 rfl ?_
    refine g_iload_n dX0_letter_11 rfl 1 rfl ?_
    obtain ⟨c5, F⟩ := F
    refine h_callVV (ci := 0) (C := RX0) (T := TX0) (N := 25) (As := [.int p1]) (rest := []) F 1 rfl rfl (lw_V q1130 q1132 qs13 q108 q1133) vm_X0_loadRow (by decide) rfl c5 rfl (room_of sc_nil (Nat.le_of_ble_eq_true rfl)) dX0_letter_12 (fun Gr4 br4 sr4 F => ?_)
    obtain ⟨k9, F⟩ := F
    obtain ⟨k10, F⟩ := F
    refine g_new (C := RJ4) (T := TJ4) (N := 4) 14 rfl in_J4 tyJ4_ok nd_J4 q201 q202 q114 k9 k10 dX0_letter_15 (fun q7 z8 z8' => ?_)
    have F := F q7 z8 z8'
    refine g_dup dX0_letter_18 (va_rf_cat _) ?_
    refine h_callIV (As := []) (rest := [va_rf (some q7)]) F 0 rfl rfl (lw_meth q205) q114 q203 q204 rfl vm_J4_init.2 (by decide) rfl rfl (room_of (sc_R sc_nil) (Nat.le_of_ble_eq_true rfl)) dX0_letter_19 (fun Gr12 br12 sr12 F => ?_)
    refine s_astore_n (lv' := [(0, va_rf (some x)), (1, .int p1), (2, .int p2), (3, va_rf (some q7))]) (cat_R (cat_I (cat_I cat_nil))) dX0_letter_22 rfl (by decide) rfl [1, 2, 3, 0] rfl ?_
    refine g_iconst (v := 0) dX0_letter_23 (by decide) ?_
    refine s_istore (lv' := [(0, va_rf (some x)), (1, .int p1), (2, .int p2), (3, va_rf (some q7)), (4, .int 0)]) (cat_R (cat_I (cat_I (cat_R cat_nil)))) dX0_letter_24 (by decide) rfl [1, 2, 3, 4, 0] rfl ?_
    exact F
  · have F := F.2 h14
    refine g_iconst (v := (-1)) dX0_letter_8 (by decide) ?_
    exact g_iret rfl dX0_letter_9 F
theorem rX0_letter_26 {Γ : GE} {l : Launch} {h MC MS : Nat} {Q : Option Value → GH → Prop} {bc bs : Nat} {G : GH} (x : Nat) (p1 : Int32) (p2 : Int32) (p3 : Option Nat) (p4 : Int32) (F : (gC G x = kO 0 ∧ (((gI G x 8) ≤ p4 → ((¬ p2 = (-1) → (∃ a3, p3 = some a3 ∧ gC G a3 = kO 14 ∧ cI Γ l h mJ4_length [.ref a3] G bc bs fun r2 Gr2 br2 sr2 => cI Γ l h mX0_isBetween [.int p2, .int 0, .int (r2 - 1)] Gr2 br2 sr2 fun r7 Gr7 br7 sr7 => ((r7 = 0 → (Q (some (.int (-2))) Gr7)) ∧ (¬ r7 = 0 → (gC Gr7 a3 = kO 14 ∧ cI Γ l h mJ4_charAt [.ref a3, .int p2] Gr7 br7 sr7 fun r9 Gr9 br9 sr9 => Q (some (.int r9)) Gr9))))) ∧ (p2 = (-1) → (∃ a14, p3 = some a14 ∧ gC G a14 = kO 14 ∧ cI Γ l h mJ4_length [.ref a14] G bc bs fun r13 Gr13 br13 sr13 => Q (some (.int r13)) Gr13)))) ∧ (¬ (gI G x 8) ≤ p4 → (cR Γ l h mX0_at [.ref x, .int p4] G bc bs fun r19 Gr19 br19 sr19 => gC Gr19 x = kO 0 ∧ ∃ a22, (gR Gr19 x 7) = some a22 ∧ gC Gr19 a22 = kA 1 ∧ vp_in p4 (gL Gr19 a22) ∧ cR Γ l h mX0_textOf [va_rf r19, .int (gI Gr19 a22 p4.toNatClampNeg)] Gr19 br19 sr19 fun r26 Gr26 br26 sr26 => ∃ a29, p3 = some a29 ∧ gC Gr26 a29 = kO 14 ∧ cR Γ l h mJ4_append_3 [.ref a29, va_rf r26] Gr26 br26 sr26 fun r28 Gr28 br28 sr28 => GW Γ l mX0_letter h MC MS Q 26 [(0, va_rf (some x)), (1, .int p1), (2, .int p2), (3, va_rf p3), (4, .int (p4 + 1))] [] Gr28 br28 sr28))))) : GW Γ l mX0_letter h MC MS Q 26 [(0, va_rf (some x)), (1, .int p1), (2, .int p2), (3, va_rf p3), (4, .int p4)] [] G bc bs := by
  refine g_iload dX0_letter_26 4 rfl ?_
  refine g_aload_n dX0_letter_28 rfl 0 rfl ?_
  obtain ⟨c1, F⟩ := F
  refine h_get (v := .int (gI G x 8)) 0 8 (C := RX0) (T := TX0) (N := 25) rfl in_X0 (by decide) q245 (Or.inl rfl) rfl c1 rfl dX0_letter_29 ?_
  refine g_icmp_ge 62 dX0_letter_32 (by decide) (fun h33 => ?_) (fun h33 => ?_)
  · have F := F.1 h33
    refine g_iload_n dX0_letter_62 rfl 2 rfl ?_
    refine g_iconst (v := (-1)) dX0_letter_63 (by decide) ?_
    refine g_icmp_ne 72 dX0_letter_64 (by decide) (fun h18 => ?_) (fun h18 => ?_)
    · have F := F.1 h18
      refine g_iload_n dX0_letter_72 rfl 2 rfl ?_
      refine g_iconst (v := 0) dX0_letter_73 (by decide) ?_
      refine g_aload_n dX0_letter_74 rfl 3 rfl ?_
      obtain ⟨a3, e4, F⟩ := F
      obtain ⟨c5, F⟩ := F
      refine h_callVI (ci := 14) (C := RJ4) (T := TJ4) (N := 4) (As := []) (rest := [.int 0, .int p2]) F 0 rfl rfl (lw_V q1823 q1647 q2521 q114 q1648) vm_J4_length (by decide) e4 c5 rfl (room_of (sc_I (sc_I sc_nil)) (Nat.le_of_ble_eq_true rfl)) dX0_letter_75 (fun r2 Gr2 br2 sr2 F => ?_)
      refine g_iconst (v := 1) dX0_letter_78 (by decide) ?_
      refine g_isub dX0_letter_79 ?_
      refine h_callSI (As := [.int p2, .int 0, .int (r2 - 1)]) (rest := []) F 3 rfl (lw_S q498 q499 q108 q500) vm_X0_isBetween.2 (by decide) rfl (room_of sc_nil (Nat.le_of_ble_eq_true rfl)) dX0_letter_80 (fun r7 Gr7 br7 sr7 F => ?_)
      refine g_if_eq 94 dX0_letter_83 (by decide) (fun h12 => ?_) (fun h12 => ?_)
      · have F := F.1 h12
        refine g_bipush (v := (-2)) dX0_letter_94 (by decide) ?_
        exact g_iret rfl dX0_letter_96 F
      · have F := F.2 h12
        refine g_aload_n dX0_letter_86 rfl 3 rfl ?_
        refine g_iload_n dX0_letter_87 rfl 2 rfl ?_
        obtain ⟨c10, F⟩ := F
        refine h_callVI (ci := 14) (C := RJ4) (T := TJ4) (N := 4) (As := [.int p2]) (rest := []) F 1 rfl rfl (lw_V q1824 q1805 q2522 q114 q1807) vm_J4_charAt (by decide) e4 c10 rfl (room_of sc_nil (Nat.le_of_ble_eq_true rfl)) dX0_letter_88 (fun r9 Gr9 br9 sr9 F => ?_)
        refine g_goto 96 dX0_letter_91 (by decide) ?_
        exact g_iret rfl dX0_letter_96 F
    · have F := F.2 h18
      refine g_aload_n dX0_letter_67 rfl 3 rfl ?_
      obtain ⟨a14, e15, F⟩ := F
      obtain ⟨c16, F⟩ := F
      refine h_callVI (ci := 14) (C := RJ4) (T := TJ4) (N := 4) (As := []) (rest := []) F 0 rfl rfl (lw_V q1823 q1647 q2521 q114 q1648) vm_J4_length (by decide) e15 c16 rfl (room_of sc_nil (Nat.le_of_ble_eq_true rfl)) dX0_letter_68 (fun r13 Gr13 br13 sr13 F => ?_)
      exact g_iret rfl dX0_letter_71 F
  · have F := F.2 h33
    refine g_aload_n dX0_letter_35 rfl 3 rfl ?_
    refine g_aload_n dX0_letter_36 rfl 0 rfl ?_
    refine g_iload dX0_letter_37 4 rfl ?_
    refine h_callVR (ci := 0) (C := RX0) (T := TX0) (N := 25) (As := [.int p4]) (rest := [va_rf p3]) F 1 rfl rfl (lw_V q1162 q1164 qs21 q108 q1165) vm_X0_at (by decide) rfl c1 rfl (room_of (sc_R sc_nil) (Nat.le_of_ble_eq_true rfl)) dX0_letter_39 (fun r19 Gr19 br19 sr19 F => ?_)
    refine g_aload_n dX0_letter_42 rfl 0 rfl ?_
    obtain ⟨c21, F⟩ := F
    refine h_get (v := va_rf (gR Gr19 x 7)) 0 7 (C := RX0) (T := TX0) (N := 25) rfl in_X0 (by decide) q244 (Or.inl rfl) rfl c21 rfl dX0_letter_43 ?_
    refine g_iload dX0_letter_46 4 rfl ?_
    obtain ⟨a22, e23, F⟩ := F
    obtain ⟨c24, F⟩ := F
    obtain ⟨k25, F⟩ := F
    refine h_zald e23 c24 k25 dX0_letter_48 ?_
    refine h_callSR (As := [va_rf r19, .int (gI Gr19 a22 p4.toNatClampNeg)]) (rest := [va_rf p3]) F 2 rfl (lw_S q1494 q1495 q108 q1496) vm_X0_textOf.2 (by decide) rfl (room_of (sc_R sc_nil) (Nat.le_of_ble_eq_true rfl)) dX0_letter_49 (fun r26 Gr26 br26 sr26 F => ?_)
    obtain ⟨a29, e30, F⟩ := F
    obtain ⟨c31, F⟩ := F
    refine h_callVR (ci := 14) (C := RJ4) (T := TJ4) (N := 4) (As := [va_rf r26]) (rest := []) F 1 rfl rfl (lw_V q1701 q1702 q1703 q114 q1704) vm_J4_append_3 (by decide) e30 c31 rfl (room_of sc_nil (Nat.le_of_ble_eq_true rfl)) dX0_letter_52 (fun r28 Gr28 br28 sr28 F => ?_)
    refine g_pop dX0_letter_55 (va_rf_cat _) ?_
    refine s_iinc (v := (p4 + 1)) (lv' := [(0, va_rf (some x)), (1, .int p1), (2, .int p2), (3, va_rf p3), (4, .int (p4 + 1))]) (cat_R (cat_I (cat_I (cat_R (cat_I cat_nil))))) dX0_letter_56 (k0 := 4) rfl rfl (by decide) rfl [1, 2, 3, 4, 0] rfl ?_
    refine g_goto 26 dX0_letter_59 (by decide) ?_
    exact F
theorem rX0_textOf_0 {Γ : GE} {l : Launch} {h MC MS : Nat} {Q : Option Value → GH → Prop} {bc bs : Nat} {G : GH} (p0 : Option Nat) (p1 : Int32) (F : (∃ a2, p0 = some a2 ∧ gC G a2 = kO 3 ∧ cR Γ l h mX8_text [.ref a2, .int p1] G bc bs fun r1 Gr1 br1 sr1 => Q (some (va_rf r1)) Gr1)) : GW Γ l mX0_textOf h MC MS Q 0 [(0, va_rf p0), (1, .int p1)] [] G bc bs := by
  refine g_aload_n dX0_textOf_0 rfl 0 rfl ?_
  refine g_iload_n dX0_textOf_1 rfl 1 rfl ?_
  obtain ⟨a2, e3, F⟩ := F
  obtain ⟨c4, F⟩ := F
  refine h_callER (ci := 3) (x := ⟨"CrewPairer$Timed", "text", "(Z)Ljava/lang/CharSequence;"⟩) (C := RX4) (T := TX4) (N := 5) (As := [.int p1]) (rest := []) F 1 rfl rfl q1498 (by decide +kernel) (by decide +kernel) q1502 q142 q1504 ⟨by decide +kernel, by decide +kernel, by decide +kernel⟩ (by decide) e3 c4 rfl (room_of sc_nil (Nat.le_of_ble_eq_true rfl)) dX0_textOf_2 (fun r1 Gr1 br1 sr1 F => ?_)
  exact g_aret (r := r1) rfl (Or.inl ⟨_, rfl⟩) dX0_textOf_7 F
theorem rX0_feed_0 {Γ : GE} {l : Launch} {h MC MS : Nat} {Q : Option Value → GH → Prop} {bc bs : Nat} {G : GH} (x : Nat) (p1 : Int32) (F : (cI Γ l h mX0_isBetween [.int p1, .int 32, .int 126] G bc bs fun r1 Gr1 br1 sr1 => ((¬ r1 = 0 → (gC Gr1 x = kO 0 ∧ ∃ a5, (gR Gr1 x 21) = some a5 ∧ gC Gr1 a5 = kO 14 ∧ cI Γ l h mJ4_length [.ref a5] Gr1 br1 sr1 fun r4 Gr4 br4 sr4 => ((¬ r4 = 60 → (gC Gr4 x = kO 0 ∧ ∃ a11, (gR Gr4 x 21) = some a11 ∧ gC Gr4 a11 = kO 14 ∧ cR Γ l h mJ4_append_7 [.ref a11, .int ((p1.toUInt32 % 65536).toInt32)] Gr4 br4 sr4 fun r10 Gr10 br10 sr10 => gC Gr10 x = kO 0 ∧ ∃ a17, (gR Gr10 x 21) = some a17 ∧ gC Gr10 a17 = kO 14 ∧ cI Γ l h mJ4_length [.ref a17] Gr10 br10 sr10 fun r16 Gr16 br16 sr16 => Q (some (.int r16)) Gr16)) ∧ (r4 = 60 → (Q (some (.int (-3))) Gr4))))) ∧ (r1 = 0 → (Q (some (.int (-1))) Gr1))))) : GW Γ l mX0_feed h MC MS Q 0 [(0, va_rf (some x)), (1, .int p1)] [] G bc bs := by
  refine g_iload_n dX0_feed_0 rfl 1 rfl ?_
  refine g_bipush (v := 32) dX0_feed_1 (by decide) ?_
  refine g_bipush (v := 126) dX0_feed_3 (by decide) ?_
  refine h_callSI (As := [.int p1, .int 32, .int 126]) (rest := []) F 3 rfl (lw_S q498 q499 q108 q500) vm_X0_isBetween.2 (by decide) rfl (room_of sc_nil (Nat.le_of_ble_eq_true rfl)) dX0_feed_5 (fun r1 Gr1 br1 sr1 F => ?_)
  refine g_if_ne 13 dX0_feed_8 (by decide) (fun h22 => ?_) (fun h22 => ?_)
  · have F := F.1 h22
    refine g_aload_n dX0_feed_13 rfl 0 rfl ?_
    obtain ⟨c3, F⟩ := F
    refine h_get (v := va_rf (gR Gr1 x 21)) 0 21 (C := RX0) (T := TX0) (N := 25) rfl in_X0 (by decide) q258 (Or.inl rfl) rfl c3 rfl dX0_feed_14 ?_
    obtain ⟨a5, e6, F⟩ := F
    obtain ⟨c7, F⟩ := F
    refine h_callVI (ci := 14) (C := RJ4) (T := TJ4) (N := 4) (As := []) (rest := []) F 0 rfl rfl (lw_V q1823 q1647 q2521 q114 q1648) vm_J4_length (by decide) e6 c7 rfl (room_of sc_nil (Nat.le_of_ble_eq_true rfl)) dX0_feed_17 (fun r4 Gr4 br4 sr4 F => ?_)
    refine g_bipush (v := 60) dX0_feed_20 (by decide) ?_
    refine g_icmp_ne 28 dX0_feed_22 (by decide) (fun h21 => ?_) (fun h21 => ?_)
    · have F := F.1 h21
      refine g_aload_n dX0_feed_28 rfl 0 rfl ?_
      obtain ⟨c9, F⟩ := F
      refine h_get (v := va_rf (gR Gr4 x 21)) 0 21 (C := RX0) (T := TX0) (N := 25) rfl in_X0 (by decide) q258 (Or.inl rfl) rfl c9 rfl dX0_feed_29 ?_
      refine g_iload_n dX0_feed_32 rfl 1 rfl ?_
      refine g_i2c dX0_feed_33 ?_
      obtain ⟨a11, e12, F⟩ := F
      obtain ⟨c13, F⟩ := F
      refine h_callVR (ci := 14) (C := RJ4) (T := TJ4) (N := 4) (As := [.int ((p1.toUInt32 % 65536).toInt32)]) (rest := []) F 1 rfl rfl (lw_V q1829 q1830 q1831 q114 q1832) vm_J4_append_7 (by decide) e12 c13 rfl (room_of sc_nil (Nat.le_of_ble_eq_true rfl)) dX0_feed_34 (fun r10 Gr10 br10 sr10 F => ?_)
      refine g_pop dX0_feed_37 (va_rf_cat _) ?_
      refine g_aload_n dX0_feed_38 rfl 0 rfl ?_
      obtain ⟨c15, F⟩ := F
      refine h_get (v := va_rf (gR Gr10 x 21)) 0 21 (C := RX0) (T := TX0) (N := 25) rfl in_X0 (by decide) q258 (Or.inl rfl) rfl c15 rfl dX0_feed_39 ?_
      obtain ⟨a17, e18, F⟩ := F
      obtain ⟨c19, F⟩ := F
      refine h_callVI (ci := 14) (C := RJ4) (T := TJ4) (N := 4) (As := []) (rest := []) F 0 rfl rfl (lw_V q1823 q1647 q2521 q114 q1648) vm_J4_length (by decide) e18 c19 rfl (room_of sc_nil (Nat.le_of_ble_eq_true rfl)) dX0_feed_42 (fun r16 Gr16 br16 sr16 F => ?_)
      exact g_iret rfl dX0_feed_45 F
    · have F := F.2 h21
      refine g_bipush (v := (-3)) dX0_feed_25 (by decide) ?_
      exact g_iret rfl dX0_feed_27 F
  · have F := F.2 h22
    refine g_iconst (v := (-1)) dX0_feed_11 (by decide) ?_
    exact g_iret rfl dX0_feed_12 F
theorem rX0_readCommands_0 {Γ : GE} {l : Launch} {h MC MS : Nat} {Q : Option Value → GH → Prop} {bc bs : Nat} {G : GH} (x : Nat) (p1 : Option Nat) (F : (gC G x = kO 0 ∧ gM G x = true ∧ GW Γ l mX0_readCommands h MC MS Q 7 [(0, va_rf (some x)), (1, va_rf p1), (2, .int 0)] [] (sI G x 22 0) bc bs)) : GW Γ l mX0_readCommands h MC MS Q 0 [(0, va_rf (some x)), (1, va_rf p1)] [] G bc bs := by
  refine g_aload_n dX0_readCommands_0 rfl 0 rfl ?_
  refine g_iconst (v := 0) dX0_readCommands_1 (by decide) ?_
  obtain ⟨c1, F⟩ := F
  obtain ⟨m2, F⟩ := F
  refine h_putI (mi := mX0_readCommands) 0 22 (C := RX0) (T := TX0) (N := 25) rfl in_X0 tyX0_ok nmX0 (by decide) q259 (Or.inl rfl) (Or.inl rfl) rfl rfl c1 m2 rfl rfl dX0_readCommands_2 ?_
  refine g_iconst (v := 0) dX0_readCommands_5 (by decide) ?_
  refine s_istore_n (lv' := [(0, va_rf (some x)), (1, va_rf p1), (2, .int 0)]) (cat_R (cat_R cat_nil)) dX0_readCommands_6 rfl (by decide) rfl [1, 2, 0] rfl ?_
  exact F
theorem rX0_readCommands_7 {Γ : GE} {l : Launch} {h MC MS : Nat} {Q : Option Value → GH → Prop} {bc bs : Nat} {G : GH} (x : Nat) (p1 : Option Nat) (p2 : Int32) (F : (gC G x = kO 0 ∧ cV Γ l h mX0_readCommand [.ref x, va_rf p1, .int p2] G bc bs fun Gr1 br1 sr1 => gC Gr1 x = kO 0 ∧ ∃ a6, p1 = some a6 ∧ gC Gr1 a6 = kO 15 ∧ cI Γ l h mJ5_length [.ref a6] Gr1 br1 sr1 fun r5 Gr5 br5 sr5 => ((¬ (gI Gr1 x 22) = r5 → (gC Gr5 x = kO 0 ∧ gC Gr5 a6 = kO 15 ∧ cI Γ l h mJ5_charAt [.ref a6, .int (gI Gr5 x 22)] Gr5 br5 sr5 fun r11 Gr11 br11 sr11 => ((r11 = 59 → (gC Gr11 x = kO 0 ∧ gM Gr11 x = true ∧ GW Γ l mX0_readCommands h MC MS Q 7 [(0, va_rf (some x)), (1, va_rf p1), (2, .int (p2 + 1))] [] (sI Gr11 x 22 ((gI Gr11 x 22) + 1)) br11 sr11)) ∧ (¬ r11 = 59 → (gC Gr11 x = kO 0 ∧ cR Γ l h mX0_error [.int (gI Gr11 x 22)] Gr11 br11 sr11 fun r17 Gr17 br17 sr17 => False))))) ∧ ((gI Gr1 x 22) = r5 → (Q (some (.int (p2 + 1))) Gr5))))) : GW Γ l mX0_readCommands h MC MS Q 7 [(0, va_rf (some x)), (1, va_rf p1), (2, .int p2)] [] G bc bs := by
  refine g_aload_n dX0_readCommands_7 rfl 0 rfl ?_
  refine g_aload_n dX0_readCommands_8 rfl 1 rfl ?_
  refine g_iload_n dX0_readCommands_9 rfl 2 rfl ?_
  obtain ⟨c2, F⟩ := F
  refine h_callVV (ci := 0) (C := RX0) (T := TX0) (N := 25) (As := [va_rf p1, .int p2]) (rest := []) F 2 rfl rfl (lw_V q1866 q1868 qs48 q108 q1869) vm_X0_readCommand (by decide) rfl c2 rfl (room_of sc_nil (Nat.le_of_ble_eq_true rfl)) dX0_readCommands_10 (fun Gr1 br1 sr1 F => ?_)
  refine s_iinc (v := (p2 + 1)) (lv' := [(0, va_rf (some x)), (1, va_rf p1), (2, .int (p2 + 1))]) (cat_R (cat_R (cat_I cat_nil))) dX0_readCommands_13 (k0 := 2) rfl rfl (by decide) rfl [1, 2, 0] rfl ?_
  refine g_aload_n dX0_readCommands_16 rfl 0 rfl ?_
  obtain ⟨c4, F⟩ := F
  refine h_get (v := .int (gI Gr1 x 22)) 0 22 (C := RX0) (T := TX0) (N := 25) rfl in_X0 (by decide) q259 (Or.inl rfl) rfl c4 rfl dX0_readCommands_17 ?_
  refine g_aload_n dX0_readCommands_20 rfl 1 rfl ?_
  obtain ⟨a6, e7, F⟩ := F
  obtain ⟨c8, F⟩ := F
  refine h_callFI (ci := 15) (x := ⟨"java/lang/CharSequence", "length", "()I"⟩) (C := RJ5) (T := TJ5) (N := 4) (As := []) (rest := [.int (gI Gr1 x 22)]) F 0 rfl rfl q1874 (by decide +kernel) q1740 q1588 q115 q1590 ⟨by decide +kernel, by decide +kernel, by decide +kernel⟩ (by decide) e7 c8 rfl (room_of (sc_I sc_nil) (Nat.le_of_ble_eq_true rfl)) dX0_readCommands_21 (fun r5 Gr5 br5 sr5 F => ?_)
  refine g_icmp_ne 31 dX0_readCommands_26 (by decide) (fun h20 => ?_) (fun h20 => ?_)
  · have F := F.1 h20
    refine g_aload_n dX0_readCommands_31 rfl 1 rfl ?_
    refine g_aload_n dX0_readCommands_32 rfl 0 rfl ?_
    obtain ⟨c10, F⟩ := F
    refine h_get (v := .int (gI Gr5 x 22)) 0 22 (C := RX0) (T := TX0) (N := 25) rfl in_X0 (by decide) q259 (Or.inl rfl) rfl c10 rfl dX0_readCommands_33 ?_
    obtain ⟨c12, F⟩ := F
    refine h_callFI (ci := 15) (x := ⟨"java/lang/CharSequence", "charAt", "(I)C"⟩) (C := RJ5) (T := TJ5) (N := 4) (As := [.int (gI Gr5 x 22)]) (rest := []) F 1 rfl rfl q1876 (by decide +kernel) q1800 q1773 q115 q1775 ⟨by decide +kernel, by decide +kernel, by decide +kernel⟩ (by decide) e7 c12 rfl (room_of sc_nil (Nat.le_of_ble_eq_true rfl)) dX0_readCommands_36 (fun r11 Gr11 br11 sr11 F => ?_)
    refine g_bipush (v := 59) dX0_readCommands_41 (by decide) ?_
    refine g_icmp_eq 54 dX0_readCommands_43 (by decide) (fun h19 => ?_) (fun h19 => ?_)
    · have F := F.1 h19
      refine g_aload_n dX0_readCommands_54 rfl 0 rfl ?_
      refine g_dup dX0_readCommands_55 (va_rf_cat _) ?_
      obtain ⟨c14, F⟩ := F
      refine h_get (v := .int (gI Gr11 x 22)) 0 22 (C := RX0) (T := TX0) (N := 25) rfl in_X0 (by decide) q259 (Or.inl rfl) rfl c14 rfl dX0_readCommands_56 ?_
      refine g_iconst (v := 1) dX0_readCommands_59 (by decide) ?_
      refine g_iadd dX0_readCommands_60 ?_
      obtain ⟨m15, F⟩ := F
      refine h_putI (mi := mX0_readCommands) 0 22 (C := RX0) (T := TX0) (N := 25) rfl in_X0 tyX0_ok nmX0 (by decide) q259 (Or.inl rfl) (Or.inl rfl) rfl rfl c14 m15 rfl rfl dX0_readCommands_61 ?_
      refine g_goto 7 dX0_readCommands_64 (by decide) ?_
      exact F
    · have F := F.2 h19
      refine g_aload_n dX0_readCommands_46 rfl 0 rfl ?_
      obtain ⟨c16, F⟩ := F
      refine h_get (v := .int (gI Gr11 x 22)) 0 22 (C := RX0) (T := TX0) (N := 25) rfl in_X0 (by decide) q259 (Or.inl rfl) rfl c16 rfl dX0_readCommands_47 ?_
      refine h_callSR (As := [.int (gI Gr11 x 22)]) (rest := []) F 1 rfl (lw_S q1892 q1893 q108 q1894) vm_X0_error.2 (by decide) rfl (room_of sc_nil (Nat.le_of_ble_eq_true rfl)) dX0_readCommands_50 (fun r17 Gr17 br17 sr17 F => ?_)
      exact F.elim
  · have F := F.2 h20
    refine g_iload_n dX0_readCommands_29 rfl 2 rfl ?_
    exact g_iret rfl dX0_readCommands_30 F
theorem rX0_readCommand_0 {Γ : GE} {l : Launch} {h MC MS : Nat} {Q : Option Value → GH → Prop} {bc bs : Nat} {G : GH} (x : Nat) (p1 : Option Nat) (p2 : Int32) (F : (gC G x = kO 0 ∧ 1 ≤ bc ∧ 4 ≤ bs ∧ ∀ q2, gC G q2 = 0 → gA Γ q2 → cV Γ l h mJ4_init [.ref q2] (nO G q2 14) (bc - 1) (bs - 4) fun Gr7 br7 sr7 => GW Γ l mX0_readCommand h MC MS Q 14 [(0, va_rf (some x)), (1, va_rf p1), (2, .int p2), (3, .int (gI G x 22)), (4, va_rf (some q2))] [] Gr7 br7 sr7)) : GW Γ l mX0_readCommand h MC MS Q 0 [(0, va_rf (some x)), (1, va_rf p1), (2, .int p2)] [] G bc bs := by
  refine g_aload_n dX0_readCommand_0 rfl 0 rfl ?_
  obtain ⟨c1, F⟩ := F
  refine h_get (v := .int (gI G x 22)) 0 22 (C := RX0) (T := TX0) (N := 25) rfl in_X0 (by decide) q259 (Or.inl rfl) rfl c1 rfl dX0_readCommand_1 ?_
  refine s_istore_n (lv' := [(0, va_rf (some x)), (1, va_rf p1), (2, .int p2), (3, .int (gI G x 22))]) (cat_R (cat_R (cat_I cat_nil))) dX0_readCommand_4 rfl (by decide) rfl [1, 2, 3, 0] rfl ?_
  obtain ⟨k4, F⟩ := F
  obtain ⟨k5, F⟩ := F
  refine g_new (C := RJ4) (T := TJ4) (N := 4) 14 rfl in_J4 tyJ4_ok nd_J4 q201 q202 q114 k4 k5 dX0_readCommand_5 (fun q2 z3 z3' => ?_)
  have F := F q2 z3 z3'
  refine g_dup dX0_readCommand_8 (va_rf_cat _) ?_
  refine h_callIV (As := []) (rest := [va_rf (some q2)]) F 0 rfl rfl (lw_meth q205) q114 q203 q204 rfl vm_J4_init.2 (by decide) rfl rfl (room_of (sc_R sc_nil) (Nat.le_of_ble_eq_true rfl)) dX0_readCommand_9 (fun Gr7 br7 sr7 F => ?_)
  refine s_astore (lv' := [(0, va_rf (some x)), (1, va_rf p1), (2, .int p2), (3, .int (gI G x 22)), (4, va_rf (some q2))]) (cat_R (cat_R (cat_I (cat_I cat_nil)))) dX0_readCommand_12 (by decide) rfl [1, 2, 3, 4, 0] rfl ?_
  exact F
theorem rX0_readCommand_14 {Γ : GE} {l : Launch} {h MC MS : Nat} {Q : Option Value → GH → Prop} {bc bs : Nat} {G : GH} (x : Nat) (p1 : Option Nat) (p2 : Int32) (p3 : Int32) (p4 : Option Nat) (F : (gC G x = kO 0 ∧ cI Γ l h mX0_letterAt [va_rf p1, .int (gI G x 22)] G bc bs fun r2 Gr2 br2 sr2 => cI Γ l h mX0_isBetween [.int r2, .int 97, .int 122] Gr2 br2 sr2 fun r4 Gr4 br4 sr4 => ((r4 = 0 → (gC Gr4 x = kO 0 ∧ ∃ a8, p4 = some a8 ∧ gC Gr4 a8 = kO 14 ∧ cR Γ l h mJ4_toString [.ref a8] Gr4 br4 sr4 fun r7 Gr7 br7 sr7 => ∃ a12, (gR Gr4 x 23) = some a12 ∧ gC Gr7 a12 = kA 6 ∧ gM Gr7 a12 = true ∧ vp_in p2 (gL Gr7 a12) ∧ okS Gr7 6 r7 ∧ gC (sR Gr7 a12 p2.toNatClampNeg r7) x = kO 0 ∧ ∃ a19, (gR (sR Gr7 a12 p2.toNatClampNeg r7) x 23) = some a19 ∧ gC (sR Gr7 a12 p2.toNatClampNeg r7) a19 = kA 6 ∧ gM (sR Gr7 a12 p2.toNatClampNeg r7) a19 = true ∧ vp_in p2 (gL (sR Gr7 a12 p2.toNatClampNeg r7) a19) ∧ cI Γ l h mX0_numbersOf [va_rf (gR (sR Gr7 a12 p2.toNatClampNeg r7) a19 p2.toNatClampNeg)] (sR Gr7 a12 p2.toNatClampNeg r7) br7 sr7 fun r24 Gr24 br24 sr24 => (((0 : Int32) ≤ r24 → (GW Γ l mX0_readCommand h MC MS Q 96 [(0, va_rf (some x)), (1, va_rf p1), (2, .int p2), (3, .int p3), (4, va_rf p4), (5, .int r24), (6, .int 0)] [] Gr24 br24 sr24)) ∧ (¬ (0 : Int32) ≤ r24 → (cR Γ l h mX0_error [.int p3] Gr24 br24 sr24 fun r26 Gr26 br26 sr26 => False))))) ∧ (¬ r4 = 0 → (gC Gr4 x = kO 0 ∧ ∃ a31, p1 = some a31 ∧ gC Gr4 a31 = kO 15 ∧ cI Γ l h mJ5_charAt [.ref a31, .int (gI Gr4 x 22)] Gr4 br4 sr4 fun r30 Gr30 br30 sr30 => ∃ a36, p4 = some a36 ∧ gC Gr30 a36 = kO 14 ∧ cR Γ l h mJ4_append_7 [.ref a36, .int r30] Gr30 br30 sr30 fun r35 Gr35 br35 sr35 => gC Gr35 x = kO 0 ∧ gM Gr35 x = true ∧ GW Γ l mX0_readCommand h MC MS Q 14 [(0, va_rf (some x)), (1, va_rf p1), (2, .int p2), (3, .int p3), (4, va_rf p4)] [] (sI Gr35 x 22 ((gI Gr35 x 22) + 1)) br35 sr35))))) : GW Γ l mX0_readCommand h MC MS Q 14 [(0, va_rf (some x)), (1, va_rf p1), (2, .int p2), (3, .int p3), (4, va_rf p4)] [] G bc bs := by
  refine g_aload_n dX0_readCommand_14 rfl 1 rfl ?_
  refine g_aload_n dX0_readCommand_15 rfl 0 rfl ?_
  obtain ⟨c1, F⟩ := F
  refine h_get (v := .int (gI G x 22)) 0 22 (C := RX0) (T := TX0) (N := 25) rfl in_X0 (by decide) q259 (Or.inl rfl) rfl c1 rfl dX0_readCommand_16 ?_
  refine h_callSI (As := [va_rf p1, .int (gI G x 22)]) (rest := []) F 2 rfl (lw_S q1870 q1871 q108 q1872) vm_X0_letterAt.2 (by decide) rfl (room_of sc_nil (Nat.le_of_ble_eq_true rfl)) dX0_readCommand_19 (fun r2 Gr2 br2 sr2 F => ?_)
  refine g_bipush (v := 97) dX0_readCommand_22 (by decide) ?_
  refine g_bipush (v := 122) dX0_readCommand_24 (by decide) ?_
  refine h_callSI (As := [.int r2, .int 97, .int 122]) (rest := []) F 3 rfl (lw_S q498 q499 q108 q500) vm_X0_isBetween.2 (by decide) rfl (room_of sc_nil (Nat.le_of_ble_eq_true rfl)) dX0_readCommand_26 (fun r4 Gr4 br4 sr4 F => ?_)
  refine g_if_eq 61 dX0_readCommand_29 (by decide) (fun h42 => ?_) (fun h42 => ?_)
  · have F := F.1 h42
    refine g_aload_n dX0_readCommand_61 rfl 0 rfl ?_
    obtain ⟨c6, F⟩ := F
    refine h_get (v := va_rf (gR Gr4 x 23)) 0 23 (C := RX0) (T := TX0) (N := 25) rfl in_X0 (by decide) q260 (Or.inl rfl) rfl c6 rfl dX0_readCommand_62 ?_
    refine g_iload_n dX0_readCommand_65 rfl 2 rfl ?_
    refine g_aload dX0_readCommand_66 4 rfl ?_
    obtain ⟨a8, e9, F⟩ := F
    obtain ⟨c10, F⟩ := F
    refine h_callVR (ci := 14) (C := RJ4) (T := TJ4) (N := 4) (As := []) (rest := [.int p2, va_rf (gR Gr4 x 23)]) F 0 rfl rfl (lw_V q1841 q1626 q1627 q114 q1628) vm_J4_toString (by decide) e9 c10 rfl (room_of (sc_I (sc_R sc_nil)) (Nat.le_of_ble_eq_true rfl)) dX0_readCommand_68 (fun r7 Gr7 br7 sr7 F => ?_)
    obtain ⟨a12, e13, F⟩ := F
    obtain ⟨c14, F⟩ := F
    obtain ⟨m15, F⟩ := F
    obtain ⟨k16, F⟩ := F
    obtain ⟨k17, F⟩ := F
    refine h_aast 6 e13 c14 (by decide) (by decide) m15 k16 k17 dX0_readCommand_71 ?_
    refine g_aload_n dX0_readCommand_72 rfl 0 rfl ?_
    obtain ⟨c18, F⟩ := F
    refine h_get (v := va_rf (gR (sR Gr7 a12 p2.toNatClampNeg r7) x 23)) 0 23 (C := RX0) (T := TX0) (N := 25) rfl in_X0 (by decide) q260 (Or.inl rfl) rfl c18 rfl dX0_readCommand_73 ?_
    refine g_iload_n dX0_readCommand_76 rfl 2 rfl ?_
    obtain ⟨a19, e20, F⟩ := F
    obtain ⟨c21, F⟩ := F
    obtain ⟨m22, F⟩ := F
    obtain ⟨k23, F⟩ := F
    refine h_aald 6 e20 c21 (by decide) (by decide) m22 k23 dX0_readCommand_77 ?_
    refine h_callSI (As := [va_rf (gR (sR Gr7 a12 p2.toNatClampNeg r7) a19 p2.toNatClampNeg)]) (rest := []) F 1 rfl (lw_S q1877 q1878 q108 q1879) vm_X0_numbersOf.2 (by decide) rfl (room_of sc_nil (Nat.le_of_ble_eq_true rfl)) dX0_readCommand_78 (fun r24 Gr24 br24 sr24 F => ?_)
    refine s_istore (lv' := [(0, va_rf (some x)), (1, va_rf p1), (2, .int p2), (3, .int p3), (4, va_rf p4), (5, .int r24)]) (cat_R (cat_R (cat_I (cat_I (cat_R cat_nil))))) dX0_readCommand_81 (by decide) rfl [1, 2, 3, 4, 5, 0] rfl ?_
    refine g_iload dX0_readCommand_83 5 rfl ?_
    refine g_if_ge 93 dX0_readCommand_85 (by decide) (fun h28 => ?_) (fun h28 => ?_)
    · have F := F.1 h28
      refine g_iconst (v := 0) dX0_readCommand_93 (by decide) ?_
      refine s_istore (lv' := [(0, va_rf (some x)), (1, va_rf p1), (2, .int p2), (3, .int p3), (4, va_rf p4), (5, .int r24), (6, .int 0)]) (cat_R (cat_R (cat_I (cat_I (cat_R (cat_I cat_nil)))))) dX0_readCommand_94 (by decide) rfl [1, 2, 3, 4, 5, 6, 0] rfl ?_
      exact F
    · have F := F.2 h28
      refine g_iload_n dX0_readCommand_88 rfl 3 rfl ?_
      refine h_callSR (As := [.int p3]) (rest := []) F 1 rfl (lw_S q1892 q1893 q108 q1894) vm_X0_error.2 (by decide) rfl (room_of sc_nil (Nat.le_of_ble_eq_true rfl)) dX0_readCommand_89 (fun r26 Gr26 br26 sr26 F => ?_)
      exact F.elim
  · have F := F.2 h42
    refine g_aload dX0_readCommand_32 4 rfl ?_
    refine g_aload_n dX0_readCommand_34 rfl 1 rfl ?_
    refine g_aload_n dX0_readCommand_35 rfl 0 rfl ?_
    obtain ⟨c29, F⟩ := F
    refine h_get (v := .int (gI Gr4 x 22)) 0 22 (C := RX0) (T := TX0) (N := 25) rfl in_X0 (by decide) q259 (Or.inl rfl) rfl c29 rfl dX0_readCommand_36 ?_
    obtain ⟨a31, e32, F⟩ := F
    obtain ⟨c33, F⟩ := F
    refine h_callFI (ci := 15) (x := ⟨"java/lang/CharSequence", "charAt", "(I)C"⟩) (C := RJ5) (T := TJ5) (N := 4) (As := [.int (gI Gr4 x 22)]) (rest := [va_rf p4]) F 1 rfl rfl q1876 (by decide +kernel) q1800 q1773 q115 q1775 ⟨by decide +kernel, by decide +kernel, by decide +kernel⟩ (by decide) e32 c33 rfl (room_of (sc_R sc_nil) (Nat.le_of_ble_eq_true rfl)) dX0_readCommand_39 (fun r30 Gr30 br30 sr30 F => ?_)
    obtain ⟨a36, e37, F⟩ := F
    obtain ⟨c38, F⟩ := F
    refine h_callVR (ci := 14) (C := RJ4) (T := TJ4) (N := 4) (As := [.int r30]) (rest := []) F 1 rfl rfl (lw_V q1829 q1830 q1831 q114 q1832) vm_J4_append_7 (by decide) e37 c38 rfl (room_of sc_nil (Nat.le_of_ble_eq_true rfl)) dX0_readCommand_44 (fun r35 Gr35 br35 sr35 F => ?_)
    refine g_pop dX0_readCommand_47 (va_rf_cat _) ?_
    refine g_aload_n dX0_readCommand_48 rfl 0 rfl ?_
    refine g_dup dX0_readCommand_49 (va_rf_cat _) ?_
    obtain ⟨c40, F⟩ := F
    refine h_get (v := .int (gI Gr35 x 22)) 0 22 (C := RX0) (T := TX0) (N := 25) rfl in_X0 (by decide) q259 (Or.inl rfl) rfl c40 rfl dX0_readCommand_50 ?_
    refine g_iconst (v := 1) dX0_readCommand_53 (by decide) ?_
    refine g_iadd dX0_readCommand_54 ?_
    obtain ⟨m41, F⟩ := F
    refine h_putI (mi := mX0_readCommand) 0 22 (C := RX0) (T := TX0) (N := 25) rfl in_X0 tyX0_ok nmX0 (by decide) q259 (Or.inl rfl) (Or.inl rfl) rfl rfl c40 m41 rfl rfl dX0_readCommand_55 ?_
    refine g_goto 14 dX0_readCommand_58 (by decide) ?_
    exact F
theorem rX0_readCommand_96 {Γ : GE} {l : Launch} {h MC MS : Nat} {Q : Option Value → GH → Prop} {bc bs : Nat} {G : GH} (x : Nat) (p1 : Option Nat) (p2 : Int32) (p3 : Int32) (p4 : Option Nat) (p5 : Int32) (p6 : Int32) (F : ((p5 ≤ p6 → (Q none G)) ∧ (¬ p5 ≤ p6 → (gC G x = kO 0 ∧ cI Γ l h mX0_readNumber [.ref x, va_rf p1] G bc bs fun r2 Gr2 br2 sr2 => ∃ a4, (gR G x 24) = some a4 ∧ gC Gr2 a4 = kA 0 ∧ gM Gr2 a4 = true ∧ vp_in ((4 * p2) + p6) (gL Gr2 a4) ∧ GW Γ l mX0_readCommand h MC MS Q 96 [(0, va_rf (some x)), (1, va_rf p1), (2, .int p2), (3, .int p3), (4, va_rf p4), (5, .int p5), (6, .int (p6 + 1))] [] (sI Gr2 a4 ((4 * p2) + p6).toNatClampNeg r2) br2 sr2)))) : GW Γ l mX0_readCommand h MC MS Q 96 [(0, va_rf (some x)), (1, va_rf p1), (2, .int p2), (3, .int p3), (4, va_rf p4), (5, .int p5), (6, .int p6)] [] G bc bs := by
  refine g_iload dX0_readCommand_96 6 rfl ?_
  refine g_iload dX0_readCommand_98 5 rfl ?_
  refine g_icmp_ge 125 dX0_readCommand_100 (by decide) (fun h9 => ?_) (fun h9 => ?_)
  · have F := F.1 h9
    exact g_vret rfl dX0_readCommand_125 F
  · have F := F.2 h9
    refine g_aload_n dX0_readCommand_103 rfl 0 rfl ?_
    obtain ⟨c1, F⟩ := F
    refine h_get (v := va_rf (gR G x 24)) 0 24 (C := RX0) (T := TX0) (N := 25) rfl in_X0 (by decide) q261 (Or.inl rfl) rfl c1 rfl dX0_readCommand_104 ?_
    refine g_iconst (v := 4) dX0_readCommand_107 (by decide) ?_
    refine g_iload_n dX0_readCommand_108 rfl 2 rfl ?_
    refine g_imul dX0_readCommand_109 ?_
    refine g_iload dX0_readCommand_110 6 rfl ?_
    refine g_iadd dX0_readCommand_112 ?_
    refine g_aload_n dX0_readCommand_113 rfl 0 rfl ?_
    refine g_aload_n dX0_readCommand_114 rfl 1 rfl ?_
    refine h_callVI (ci := 0) (C := RX0) (T := TX0) (N := 25) (As := [va_rf p1]) (rest := [.int ((4 * p2) + p6), va_rf (gR G x 24)]) F 1 rfl rfl (lw_V q1958 q1960 qs50 q108 q1961) vm_X0_readNumber (by decide) rfl c1 rfl (room_of (sc_I (sc_R sc_nil)) (Nat.le_of_ble_eq_true rfl)) dX0_readCommand_115 (fun r2 Gr2 br2 sr2 F => ?_)
    obtain ⟨a4, e5, F⟩ := F
    obtain ⟨c6, F⟩ := F
    obtain ⟨m7, F⟩ := F
    obtain ⟨k8, F⟩ := F
    refine h_iast e5 c6 m7 k8 dX0_readCommand_118 ?_
    refine s_iinc (v := (p6 + 1)) (lv' := [(0, va_rf (some x)), (1, va_rf p1), (2, .int p2), (3, .int p3), (4, va_rf p4), (5, .int p5), (6, .int (p6 + 1))]) (cat_R (cat_R (cat_I (cat_I (cat_R (cat_I (cat_I cat_nil))))))) dX0_readCommand_119 (k0 := 6) rfl rfl (by decide) rfl [1, 2, 3, 4, 5, 6, 0] rfl ?_
    refine g_goto 96 dX0_readCommand_122 (by decide) ?_
    exact F
theorem rX0_letterAt_0 {Γ : GE} {l : Launch} {h MC MS : Nat} {Q : Option Value → GH → Prop} {bc bs : Nat} {G : GH} (p0 : Option Nat) (p1 : Int32) (F : (∃ a2, p0 = some a2 ∧ gC G a2 = kO 15 ∧ cI Γ l h mJ5_length [.ref a2] G bc bs fun r1 Gr1 br1 sr1 => ((r1 ≤ p1 → (Q (some (.int (-1))) Gr1)) ∧ (¬ r1 ≤ p1 → (gC Gr1 a2 = kO 15 ∧ cI Γ l h mJ5_charAt [.ref a2, .int p1] Gr1 br1 sr1 fun r6 Gr6 br6 sr6 => Q (some (.int r6)) Gr6))))) : GW Γ l mX0_letterAt h MC MS Q 0 [(0, va_rf p0), (1, .int p1)] [] G bc bs := by
  refine g_iload_n dX0_letterAt_0 rfl 1 rfl ?_
  refine g_aload_n dX0_letterAt_1 rfl 0 rfl ?_
  obtain ⟨a2, e3, F⟩ := F
  obtain ⟨c4, F⟩ := F
  refine h_callFI (ci := 15) (x := ⟨"java/lang/CharSequence", "length", "()I"⟩) (C := RJ5) (T := TJ5) (N := 4) (As := []) (rest := [.int p1]) F 0 rfl rfl q1874 (by decide +kernel) q1740 q1588 q115 q1590 ⟨by decide +kernel, by decide +kernel, by decide +kernel⟩ (by decide) e3 c4 rfl (room_of (sc_I sc_nil) (Nat.le_of_ble_eq_true rfl)) dX0_letterAt_2 (fun r1 Gr1 br1 sr1 F => ?_)
  refine g_icmp_ge 20 dX0_letterAt_7 (by decide) (fun h9 => ?_) (fun h9 => ?_)
  · have F := F.1 h9
    refine g_iconst (v := (-1)) dX0_letterAt_20 (by decide) ?_
    exact g_iret rfl dX0_letterAt_21 F
  · have F := F.2 h9
    refine g_aload_n dX0_letterAt_10 rfl 0 rfl ?_
    refine g_iload_n dX0_letterAt_11 rfl 1 rfl ?_
    obtain ⟨c7, F⟩ := F
    refine h_callFI (ci := 15) (x := ⟨"java/lang/CharSequence", "charAt", "(I)C"⟩) (C := RJ5) (T := TJ5) (N := 4) (As := [.int p1]) (rest := []) F 1 rfl rfl q1876 (by decide +kernel) q1800 q1773 q115 q1775 ⟨by decide +kernel, by decide +kernel, by decide +kernel⟩ (by decide) e3 c7 rfl (room_of sc_nil (Nat.le_of_ble_eq_true rfl)) dX0_letterAt_12 (fun r6 Gr6 br6 sr6 F => ?_)
    refine g_goto 21 dX0_letterAt_17 (by decide) ?_
    exact g_iret rfl dX0_letterAt_21 F
theorem rX0_numbersOf_0 {Γ : GE} {l : Launch} {h MC MS : Nat} {Q : Option Value → GH → Prop} {bc bs : Nat} {G : GH} (p0 : Option Nat) (F : (∃ a2, p0 = some a2 ∧ gC G a2 = kO 15 ∧ cI Γ l h mJ5_hashCode [.ref a2] G bc bs fun r1 Gr1 br1 sr1 => ((r1 = (-1367724422) → (gC Gr1 a2 = kO 15 ∧ cI Γ l h mJ5_equals [.ref a2, va_rf (some (Γ.2.2.2 37))] Gr1 br1 sr1 fun r6 Gr6 br6 sr6 => ((r6 = 0 → (GW Γ l mX0_numbersOf h MC MS Q 251 [(0, va_rf p0), (1, va_rf p0), (2, .int (-1))] [] Gr6 br6 sr6)) ∧ (¬ r6 = 0 → (GW Γ l mX0_numbersOf h MC MS Q 251 [(0, va_rf p0), (1, va_rf p0), (2, .int 7)] [] Gr6 br6 sr6))))) ∧ (r1 = (-934535283) → (gC Gr1 a2 = kO 15 ∧ cI Γ l h mJ5_equals [.ref a2, va_rf (some (Γ.2.2.2 39))] Gr1 br1 sr1 fun r10 Gr10 br10 sr10 => ((r10 = 0 → (GW Γ l mX0_numbersOf h MC MS Q 251 [(0, va_rf p0), (1, va_rf p0), (2, .int (-1))] [] Gr10 br10 sr10)) ∧ (¬ r10 = 0 → (GW Γ l mX0_numbersOf h MC MS Q 251 [(0, va_rf p0), (1, va_rf p0), (2, .int 9)] [] Gr10 br10 sr10))))) ∧ (r1 = 101491 → (gC Gr1 a2 = kO 15 ∧ cI Γ l h mJ5_equals [.ref a2, va_rf (some (Γ.2.2.2 31))] Gr1 br1 sr1 fun r14 Gr14 br14 sr14 => ((r14 = 0 → (GW Γ l mX0_numbersOf h MC MS Q 251 [(0, va_rf p0), (1, va_rf p0), (2, .int (-1))] [] Gr14 br14 sr14)) ∧ (¬ r14 = 0 → (GW Γ l mX0_numbersOf h MC MS Q 251 [(0, va_rf p0), (1, va_rf p0), (2, .int 1)] [] Gr14 br14 sr14))))) ∧ (r1 = 107022 → (gC Gr1 a2 = kO 15 ∧ cI Γ l h mJ5_equals [.ref a2, va_rf (some (Γ.2.2.2 30))] Gr1 br1 sr1 fun r18 Gr18 br18 sr18 => ((r18 = 0 → (GW Γ l mX0_numbersOf h MC MS Q 251 [(0, va_rf p0), (1, va_rf p0), (2, .int (-1))] [] Gr18 br18 sr18)) ∧ (¬ r18 = 0 → (GW Γ l mX0_numbersOf h MC MS Q 251 [(0, va_rf p0), (1, va_rf p0), (2, .int 0)] [] Gr18 br18 sr18))))) ∧ (r1 = 3062113 → (gC Gr1 a2 = kO 15 ∧ cI Γ l h mJ5_equals [.ref a2, va_rf (some (Γ.2.2.2 36))] Gr1 br1 sr1 fun r22 Gr22 br22 sr22 => ((r22 = 0 → (GW Γ l mX0_numbersOf h MC MS Q 251 [(0, va_rf p0), (1, va_rf p0), (2, .int (-1))] [] Gr22 br22 sr22)) ∧ (¬ r22 = 0 → (GW Γ l mX0_numbersOf h MC MS Q 251 [(0, va_rf p0), (1, va_rf p0), (2, .int 6)] [] Gr22 br22 sr22))))) ∧ (r1 = 3092207 → (gC Gr1 a2 = kO 15 ∧ cI Γ l h mJ5_equals [.ref a2, va_rf (some (Γ.2.2.2 33))] Gr1 br1 sr1 fun r26 Gr26 br26 sr26 => ((r26 = 0 → (GW Γ l mX0_numbersOf h MC MS Q 251 [(0, va_rf p0), (1, va_rf p0), (2, .int (-1))] [] Gr26 br26 sr26)) ∧ (¬ r26 = 0 → (GW Γ l mX0_numbersOf h MC MS Q 251 [(0, va_rf p0), (1, va_rf p0), (2, .int 3)] [] Gr26 br26 sr26))))) ∧ (r1 = 3314342 → (gC Gr1 a2 = kO 15 ∧ cI Γ l h mJ5_equals [.ref a2, va_rf (some (Γ.2.2.2 34))] Gr1 br1 sr1 fun r30 Gr30 br30 sr30 => ((r30 = 0 → (GW Γ l mX0_numbersOf h MC MS Q 251 [(0, va_rf p0), (1, va_rf p0), (2, .int (-1))] [] Gr30 br30 sr30)) ∧ (¬ r30 = 0 → (GW Γ l mX0_numbersOf h MC MS Q 251 [(0, va_rf p0), (1, va_rf p0), (2, .int 4)] [] Gr30 br30 sr30))))) ∧ (r1 = 3433178 → (gC Gr1 a2 = kO 15 ∧ cI Γ l h mJ5_equals [.ref a2, va_rf (some (Γ.2.2.2 38))] Gr1 br1 sr1 fun r34 Gr34 br34 sr34 => ((r34 = 0 → (GW Γ l mX0_numbersOf h MC MS Q 251 [(0, va_rf p0), (1, va_rf p0), (2, .int (-1))] [] Gr34 br34 sr34)) ∧ (¬ r34 = 0 → (GW Γ l mX0_numbersOf h MC MS Q 251 [(0, va_rf p0), (1, va_rf p0), (2, .int 8)] [] Gr34 br34 sr34))))) ∧ (r1 = 3500280 → (gC Gr1 a2 = kO 15 ∧ cI Γ l h mJ5_equals [.ref a2, va_rf (some (Γ.2.2.2 32))] Gr1 br1 sr1 fun r38 Gr38 br38 sr38 => ((r38 = 0 → (GW Γ l mX0_numbersOf h MC MS Q 251 [(0, va_rf p0), (1, va_rf p0), (2, .int (-1))] [] Gr38 br38 sr38)) ∧ (¬ r38 = 0 → (GW Γ l mX0_numbersOf h MC MS Q 251 [(0, va_rf p0), (1, va_rf p0), (2, .int 2)] [] Gr38 br38 sr38))))) ∧ (r1 = 3512060 → (gC Gr1 a2 = kO 15 ∧ cI Γ l h mJ5_equals [.ref a2, va_rf (some (Γ.2.2.2 35))] Gr1 br1 sr1 fun r42 Gr42 br42 sr42 => ((r42 = 0 → (GW Γ l mX0_numbersOf h MC MS Q 251 [(0, va_rf p0), (1, va_rf p0), (2, .int (-1))] [] Gr42 br42 sr42)) ∧ (¬ r42 = 0 → (GW Γ l mX0_numbersOf h MC MS Q 251 [(0, va_rf p0), (1, va_rf p0), (2, .int 5)] [] Gr42 br42 sr42))))) ∧ (¬ r1 = (-1367724422) → ¬ r1 = (-934535283) → ¬ r1 = 101491 → ¬ r1 = 107022 → ¬ r1 = 3062113 → ¬ r1 = 3092207 → ¬ r1 = 3314342 → ¬ r1 = 3433178 → ¬ r1 = 3500280 → ¬ r1 = 3512060 → (GW Γ l mX0_numbersOf h MC MS Q 251 [(0, va_rf p0), (1, va_rf p0), (2, .int (-1))] [] Gr1 br1 sr1))))) : GW Γ l mX0_numbersOf h MC MS Q 0 [(0, va_rf p0)] [] G bc bs := by
  refine g_aload_n dX0_numbersOf_0 rfl 0 rfl ?_
  refine s_astore_n (lv' := [(0, va_rf p0), (1, va_rf p0)]) (cat_R cat_nil) dX0_numbersOf_1 rfl (by decide) rfl [1, 0] rfl ?_
  refine g_iconst (v := (-1)) dX0_numbersOf_2 (by decide) ?_
  refine s_istore_n (lv' := [(0, va_rf p0), (1, va_rf p0), (2, .int (-1))]) (cat_R (cat_R cat_nil)) dX0_numbersOf_3 rfl (by decide) rfl [1, 2, 0] rfl ?_
  refine g_aload_n dX0_numbersOf_4 rfl 1 rfl ?_
  obtain ⟨a2, e3, F⟩ := F
  obtain ⟨c4, F⟩ := F
  refine h_callVI (ci := 15) (C := RJ5) (T := TJ5) (N := 4) (As := []) (rest := []) F 0 rfl rfl (lw_V q1880 q602 q2525 q115 q603) vm_J5_hashCode (by decide) e3 c4 rfl (room_of sc_nil (Nat.le_of_ble_eq_true rfl)) dX0_numbersOf_5 (fun r1 Gr1 br1 sr1 F => ?_)
  by_cases h46 : r1 = (-1367724422)
  · have F := F.1 h46
    refine h_lsw 206 dX0_numbersOf_8 (by decide) (off := 198) (by rw [h46]; decide +kernel) (by decide) ?_
    refine g_aload_n dX0_numbersOf_206 rfl 1 rfl ?_
    refine h_ldcwS (tx := "cancel") 37 (by decide +kernel) dX0_numbersOf_207 ?_
    obtain ⟨c7, F⟩ := F
    refine h_callVI (ci := 15) (C := RJ5) (T := TJ5) (N := 4) (As := [va_rf (some (Γ.2.2.2 37))]) (rest := []) F 1 rfl rfl (lw_V q1882 q972 q2526 q115 q973) vm_J5_equals (by decide) e3 c7 rfl (room_of sc_nil (Nat.le_of_ble_eq_true rfl)) dX0_numbersOf_210 (fun r6 Gr6 br6 sr6 F => ?_)
    refine g_if_eq 251 dX0_numbersOf_213 (by decide) (fun h9 => ?_) (fun h9 => ?_)
    · have F := F.1 h9
      exact F
    · have F := F.2 h9
      refine g_bipush (v := 7) dX0_numbersOf_216 (by decide) ?_
      refine s_istore_n (lv' := [(0, va_rf p0), (1, va_rf p0), (2, .int 7)]) (cat_R (cat_R (cat_I cat_nil))) dX0_numbersOf_218 rfl (by decide) rfl [1, 2, 0] rfl ?_
      refine g_goto 251 dX0_numbersOf_219 (by decide) ?_
      exact F
  ·
    by_cases h47 : r1 = (-934535283)
    · have F := F.2.1 h47
      refine h_lsw 238 dX0_numbersOf_8 (by decide) (off := 230) (by rw [h47]; decide +kernel) (by decide) ?_
      refine g_aload_n dX0_numbersOf_238 rfl 1 rfl ?_
      refine h_ldcwS (tx := "repair") 39 (by decide +kernel) dX0_numbersOf_239 ?_
      obtain ⟨c11, F⟩ := F
      refine h_callVI (ci := 15) (C := RJ5) (T := TJ5) (N := 4) (As := [va_rf (some (Γ.2.2.2 39))]) (rest := []) F 1 rfl rfl (lw_V q1882 q972 q2526 q115 q973) vm_J5_equals (by decide) e3 c11 rfl (room_of sc_nil (Nat.le_of_ble_eq_true rfl)) dX0_numbersOf_242 (fun r10 Gr10 br10 sr10 F => ?_)
      refine g_if_eq 251 dX0_numbersOf_245 (by decide) (fun h13 => ?_) (fun h13 => ?_)
      · have F := F.1 h13
        exact F
      · have F := F.2 h13
        refine g_bipush (v := 9) dX0_numbersOf_248 (by decide) ?_
        refine s_istore_n (lv' := [(0, va_rf p0), (1, va_rf p0), (2, .int 9)]) (cat_R (cat_R (cat_I cat_nil))) dX0_numbersOf_250 rfl (by decide) rfl [1, 2, 0] rfl ?_
        exact F
    ·
      by_cases h48 : r1 = 101491
      · have F := F.2.2.1 h48
        refine h_lsw 115 dX0_numbersOf_8 (by decide) (off := 107) (by rw [h48]; decide +kernel) (by decide) ?_
        refine g_aload_n dX0_numbersOf_115 rfl 1 rfl ?_
        refine h_ldcwS (tx := "fly") 31 (by decide +kernel) dX0_numbersOf_116 ?_
        obtain ⟨c15, F⟩ := F
        refine h_callVI (ci := 15) (C := RJ5) (T := TJ5) (N := 4) (As := [va_rf (some (Γ.2.2.2 31))]) (rest := []) F 1 rfl rfl (lw_V q1882 q972 q2526 q115 q973) vm_J5_equals (by decide) e3 c15 rfl (room_of sc_nil (Nat.le_of_ble_eq_true rfl)) dX0_numbersOf_119 (fun r14 Gr14 br14 sr14 F => ?_)
        refine g_if_eq 251 dX0_numbersOf_122 (by decide) (fun h17 => ?_) (fun h17 => ?_)
        · have F := F.1 h17
          exact F
        · have F := F.2 h17
          refine g_iconst (v := 1) dX0_numbersOf_125 (by decide) ?_
          refine s_istore_n (lv' := [(0, va_rf p0), (1, va_rf p0), (2, .int 1)]) (cat_R (cat_R (cat_I cat_nil))) dX0_numbersOf_126 rfl (by decide) rfl [1, 2, 0] rfl ?_
          refine g_goto 251 dX0_numbersOf_127 (by decide) ?_
          exact F
      ·
        by_cases h49 : r1 = 107022
        · have F := F.2.2.2.1 h49
          refine h_lsw 100 dX0_numbersOf_8 (by decide) (off := 92) (by rw [h49]; decide +kernel) (by decide) ?_
          refine g_aload_n dX0_numbersOf_100 rfl 1 rfl ?_
          refine h_ldcwS (tx := "leg") 30 (by decide +kernel) dX0_numbersOf_101 ?_
          obtain ⟨c19, F⟩ := F
          refine h_callVI (ci := 15) (C := RJ5) (T := TJ5) (N := 4) (As := [va_rf (some (Γ.2.2.2 30))]) (rest := []) F 1 rfl rfl (lw_V q1882 q972 q2526 q115 q973) vm_J5_equals (by decide) e3 c19 rfl (room_of sc_nil (Nat.le_of_ble_eq_true rfl)) dX0_numbersOf_104 (fun r18 Gr18 br18 sr18 F => ?_)
          refine g_if_eq 251 dX0_numbersOf_107 (by decide) (fun h21 => ?_) (fun h21 => ?_)
          · have F := F.1 h21
            exact F
          · have F := F.2 h21
            refine g_iconst (v := 0) dX0_numbersOf_110 (by decide) ?_
            refine s_istore_n (lv' := [(0, va_rf p0), (1, va_rf p0), (2, .int 0)]) (cat_R (cat_R (cat_I cat_nil))) dX0_numbersOf_111 rfl (by decide) rfl [1, 2, 0] rfl ?_
            refine g_goto 251 dX0_numbersOf_112 (by decide) ?_
            exact F
        ·
          by_cases h50 : r1 = 3062113
          · have F := F.2.2.2.2.1 h50
            refine h_lsw 190 dX0_numbersOf_8 (by decide) (off := 182) (by rw [h50]; decide +kernel) (by decide) ?_
            refine g_aload_n dX0_numbersOf_190 rfl 1 rfl ?_
            refine h_ldcwS (tx := "crew") 36 (by decide +kernel) dX0_numbersOf_191 ?_
            obtain ⟨c23, F⟩ := F
            refine h_callVI (ci := 15) (C := RJ5) (T := TJ5) (N := 4) (As := [va_rf (some (Γ.2.2.2 36))]) (rest := []) F 1 rfl rfl (lw_V q1882 q972 q2526 q115 q973) vm_J5_equals (by decide) e3 c23 rfl (room_of sc_nil (Nat.le_of_ble_eq_true rfl)) dX0_numbersOf_194 (fun r22 Gr22 br22 sr22 F => ?_)
            refine g_if_eq 251 dX0_numbersOf_197 (by decide) (fun h25 => ?_) (fun h25 => ?_)
            · have F := F.1 h25
              exact F
            · have F := F.2 h25
              refine g_bipush (v := 6) dX0_numbersOf_200 (by decide) ?_
              refine s_istore_n (lv' := [(0, va_rf p0), (1, va_rf p0), (2, .int 6)]) (cat_R (cat_R (cat_I cat_nil))) dX0_numbersOf_202 rfl (by decide) rfl [1, 2, 0] rfl ?_
              refine g_goto 251 dX0_numbersOf_203 (by decide) ?_
              exact F
          ·
            by_cases h51 : r1 = 3092207
            · have F := F.2.2.2.2.2.1 h51
              refine h_lsw 145 dX0_numbersOf_8 (by decide) (off := 137) (by rw [h51]; decide +kernel) (by decide) ?_
              refine g_aload_n dX0_numbersOf_145 rfl 1 rfl ?_
              refine h_ldcwS (tx := "drop") 33 (by decide +kernel) dX0_numbersOf_146 ?_
              obtain ⟨c27, F⟩ := F
              refine h_callVI (ci := 15) (C := RJ5) (T := TJ5) (N := 4) (As := [va_rf (some (Γ.2.2.2 33))]) (rest := []) F 1 rfl rfl (lw_V q1882 q972 q2526 q115 q973) vm_J5_equals (by decide) e3 c27 rfl (room_of sc_nil (Nat.le_of_ble_eq_true rfl)) dX0_numbersOf_149 (fun r26 Gr26 br26 sr26 F => ?_)
              refine g_if_eq 251 dX0_numbersOf_152 (by decide) (fun h29 => ?_) (fun h29 => ?_)
              · have F := F.1 h29
                exact F
              · have F := F.2 h29
                refine g_iconst (v := 3) dX0_numbersOf_155 (by decide) ?_
                refine s_istore_n (lv' := [(0, va_rf p0), (1, va_rf p0), (2, .int 3)]) (cat_R (cat_R (cat_I cat_nil))) dX0_numbersOf_156 rfl (by decide) rfl [1, 2, 0] rfl ?_
                refine g_goto 251 dX0_numbersOf_157 (by decide) ?_
                exact F
            ·
              by_cases h52 : r1 = 3314342
              · have F := F.2.2.2.2.2.2.1 h52
                refine h_lsw 160 dX0_numbersOf_8 (by decide) (off := 152) (by rw [h52]; decide +kernel) (by decide) ?_
                refine g_aload_n dX0_numbersOf_160 rfl 1 rfl ?_
                refine h_ldcwS (tx := "late") 34 (by decide +kernel) dX0_numbersOf_161 ?_
                obtain ⟨c31, F⟩ := F
                refine h_callVI (ci := 15) (C := RJ5) (T := TJ5) (N := 4) (As := [va_rf (some (Γ.2.2.2 34))]) (rest := []) F 1 rfl rfl (lw_V q1882 q972 q2526 q115 q973) vm_J5_equals (by decide) e3 c31 rfl (room_of sc_nil (Nat.le_of_ble_eq_true rfl)) dX0_numbersOf_164 (fun r30 Gr30 br30 sr30 F => ?_)
                refine g_if_eq 251 dX0_numbersOf_167 (by decide) (fun h33 => ?_) (fun h33 => ?_)
                · have F := F.1 h33
                  exact F
                · have F := F.2 h33
                  refine g_iconst (v := 4) dX0_numbersOf_170 (by decide) ?_
                  refine s_istore_n (lv' := [(0, va_rf p0), (1, va_rf p0), (2, .int 4)]) (cat_R (cat_R (cat_I cat_nil))) dX0_numbersOf_171 rfl (by decide) rfl [1, 2, 0] rfl ?_
                  refine g_goto 251 dX0_numbersOf_172 (by decide) ?_
                  exact F
              ·
                by_cases h53 : r1 = 3433178
                · have F := F.2.2.2.2.2.2.2.1 h53
                  refine h_lsw 222 dX0_numbersOf_8 (by decide) (off := 214) (by rw [h53]; decide +kernel) (by decide) ?_
                  refine g_aload_n dX0_numbersOf_222 rfl 1 rfl ?_
                  refine h_ldcwS (tx := "pair") 38 (by decide +kernel) dX0_numbersOf_223 ?_
                  obtain ⟨c35, F⟩ := F
                  refine h_callVI (ci := 15) (C := RJ5) (T := TJ5) (N := 4) (As := [va_rf (some (Γ.2.2.2 38))]) (rest := []) F 1 rfl rfl (lw_V q1882 q972 q2526 q115 q973) vm_J5_equals (by decide) e3 c35 rfl (room_of sc_nil (Nat.le_of_ble_eq_true rfl)) dX0_numbersOf_226 (fun r34 Gr34 br34 sr34 F => ?_)
                  refine g_if_eq 251 dX0_numbersOf_229 (by decide) (fun h37 => ?_) (fun h37 => ?_)
                  · have F := F.1 h37
                    exact F
                  · have F := F.2 h37
                    refine g_bipush (v := 8) dX0_numbersOf_232 (by decide) ?_
                    refine s_istore_n (lv' := [(0, va_rf p0), (1, va_rf p0), (2, .int 8)]) (cat_R (cat_R (cat_I cat_nil))) dX0_numbersOf_234 rfl (by decide) rfl [1, 2, 0] rfl ?_
                    refine g_goto 251 dX0_numbersOf_235 (by decide) ?_
                    exact F
                ·
                  by_cases h54 : r1 = 3500280
                  · have F := F.2.2.2.2.2.2.2.2.1 h54
                    refine h_lsw 130 dX0_numbersOf_8 (by decide) (off := 122) (by rw [h54]; decide +kernel) (by decide) ?_
                    refine g_aload_n dX0_numbersOf_130 rfl 1 rfl ?_
                    refine h_ldcwS (tx := "ride") 32 (by decide +kernel) dX0_numbersOf_131 ?_
                    obtain ⟨c39, F⟩ := F
                    refine h_callVI (ci := 15) (C := RJ5) (T := TJ5) (N := 4) (As := [va_rf (some (Γ.2.2.2 32))]) (rest := []) F 1 rfl rfl (lw_V q1882 q972 q2526 q115 q973) vm_J5_equals (by decide) e3 c39 rfl (room_of sc_nil (Nat.le_of_ble_eq_true rfl)) dX0_numbersOf_134 (fun r38 Gr38 br38 sr38 F => ?_)
                    refine g_if_eq 251 dX0_numbersOf_137 (by decide) (fun h41 => ?_) (fun h41 => ?_)
                    · have F := F.1 h41
                      exact F
                    · have F := F.2 h41
                      refine g_iconst (v := 2) dX0_numbersOf_140 (by decide) ?_
                      refine s_istore_n (lv' := [(0, va_rf p0), (1, va_rf p0), (2, .int 2)]) (cat_R (cat_R (cat_I cat_nil))) dX0_numbersOf_141 rfl (by decide) rfl [1, 2, 0] rfl ?_
                      refine g_goto 251 dX0_numbersOf_142 (by decide) ?_
                      exact F
                  ·
                    by_cases h55 : r1 = 3512060
                    · have F := F.2.2.2.2.2.2.2.2.2.1 h55
                      refine h_lsw 175 dX0_numbersOf_8 (by decide) (off := 167) (by rw [h55]; decide +kernel) (by decide) ?_
                      refine g_aload_n dX0_numbersOf_175 rfl 1 rfl ?_
                      refine h_ldcwS (tx := "rule") 35 (by decide +kernel) dX0_numbersOf_176 ?_
                      obtain ⟨c43, F⟩ := F
                      refine h_callVI (ci := 15) (C := RJ5) (T := TJ5) (N := 4) (As := [va_rf (some (Γ.2.2.2 35))]) (rest := []) F 1 rfl rfl (lw_V q1882 q972 q2526 q115 q973) vm_J5_equals (by decide) e3 c43 rfl (room_of sc_nil (Nat.le_of_ble_eq_true rfl)) dX0_numbersOf_179 (fun r42 Gr42 br42 sr42 F => ?_)
                      refine g_if_eq 251 dX0_numbersOf_182 (by decide) (fun h45 => ?_) (fun h45 => ?_)
                      · have F := F.1 h45
                        exact F
                      · have F := F.2 h45
                        refine g_iconst (v := 5) dX0_numbersOf_185 (by decide) ?_
                        refine s_istore_n (lv' := [(0, va_rf p0), (1, va_rf p0), (2, .int 5)]) (cat_R (cat_R (cat_I cat_nil))) dX0_numbersOf_186 rfl (by decide) rfl [1, 2, 0] rfl ?_
                        refine g_goto 251 dX0_numbersOf_187 (by decide) ?_
                        exact F
                    ·
                      have F := F.2.2.2.2.2.2.2.2.2.2 h46 h47 h48 h49 h50 h51 h52 h53 h54 h55
                      refine h_lsw 251 dX0_numbersOf_8 (by decide) (off := 243) ((lv_osw h46 rfl).trans ((lv_osw h47 rfl).trans ((lv_osw h48 rfl).trans ((lv_osw h49 rfl).trans ((lv_osw h50 rfl).trans ((lv_osw h51 rfl).trans ((lv_osw h52 rfl).trans ((lv_osw h53 rfl).trans ((lv_osw h54 rfl).trans ((lv_osw h55 rfl).trans rfl)))))))))) (by decide) ?_
                      exact F
theorem rX0_numbersOf_251 {Γ : GE} {l : Launch} {h MC MS : Nat} {Q : Option Value → GH → Prop} {bc bs : Nat} {G : GH} (p0 : Option Nat) (p1 : Option Nat) (p2 : Int32) (F : ((p2 = 0 → (Q (some (.int 4)) G)) ∧ (p2 = 1 → (Q (some (.int 2)) G)) ∧ (p2 = 2 → (Q (some (.int 2)) G)) ∧ (p2 = 3 → (Q (some (.int 2)) G)) ∧ (p2 = 4 → (Q (some (.int 2)) G)) ∧ (p2 = 5 → (Q (some (.int 2)) G)) ∧ (p2 = 6 → (Q (some (.int 1)) G)) ∧ (p2 = 7 → (Q (some (.int 1)) G)) ∧ (p2 = 8 → (Q (some (.int 0)) G)) ∧ (p2 = 9 → (Q (some (.int 0)) G)) ∧ ((p2.toInt < 0 ∨ 9 < p2.toInt) → (Q (some (.int (-2))) G)))) : GW Γ l mX0_numbersOf h MC MS Q 251 [(0, va_rf p0), (1, va_rf p1), (2, .int p2)] [] G bc bs := by
  refine g_iload_n dX0_numbersOf_251 rfl 2 rfl ?_
  by_cases h1 : (p2.toInt < 0 ∨ 9 < p2.toInt)
  · have F := F.2.2.2.2.2.2.2.2.2.2 h1
    refine h_tout 324 dX0_numbersOf_252 h1 (by decide) ?_
    refine g_bipush (v := (-2)) dX0_numbersOf_324 (by decide) ?_
    exact g_iret rfl dX0_numbersOf_326 F
  · have zh1 : p2.toInt = 0 ∨ p2.toInt = 1 ∨ p2.toInt = 2 ∨ p2.toInt = 3 ∨ p2.toInt = 4 ∨ p2.toInt = 5 ∨ p2.toInt = 6 ∨ p2.toInt = 7 ∨ p2.toInt = 8 ∨ p2.toInt = 9 := by omega
    rcases zh1 with zh1 | zh1 | zh1 | zh1 | zh1 | zh1 | zh1 | zh1 | zh1 | zh1
    · have F := F.1 (tsw_eq zh1 (by decide))
      refine h_tin 308 dX0_numbersOf_252 zh1 (by decide) (by decide) rfl (by decide) ?_
      refine g_iconst (v := 4) dX0_numbersOf_308 (by decide) ?_
      refine g_goto 326 dX0_numbersOf_309 (by decide) ?_
      exact g_iret rfl dX0_numbersOf_326 F
    · have F := F.2.1 (tsw_eq zh1 (by decide))
      refine h_tin 312 dX0_numbersOf_252 zh1 (by decide) (by decide) rfl (by decide) ?_
      refine g_iconst (v := 2) dX0_numbersOf_312 (by decide) ?_
      refine g_goto 326 dX0_numbersOf_313 (by decide) ?_
      exact g_iret rfl dX0_numbersOf_326 F
    · have F := F.2.2.1 (tsw_eq zh1 (by decide))
      refine h_tin 312 dX0_numbersOf_252 zh1 (by decide) (by decide) rfl (by decide) ?_
      refine g_iconst (v := 2) dX0_numbersOf_312 (by decide) ?_
      refine g_goto 326 dX0_numbersOf_313 (by decide) ?_
      exact g_iret rfl dX0_numbersOf_326 F
    · have F := F.2.2.2.1 (tsw_eq zh1 (by decide))
      refine h_tin 312 dX0_numbersOf_252 zh1 (by decide) (by decide) rfl (by decide) ?_
      refine g_iconst (v := 2) dX0_numbersOf_312 (by decide) ?_
      refine g_goto 326 dX0_numbersOf_313 (by decide) ?_
      exact g_iret rfl dX0_numbersOf_326 F
    · have F := F.2.2.2.2.1 (tsw_eq zh1 (by decide))
      refine h_tin 312 dX0_numbersOf_252 zh1 (by decide) (by decide) rfl (by decide) ?_
      refine g_iconst (v := 2) dX0_numbersOf_312 (by decide) ?_
      refine g_goto 326 dX0_numbersOf_313 (by decide) ?_
      exact g_iret rfl dX0_numbersOf_326 F
    · have F := F.2.2.2.2.2.1 (tsw_eq zh1 (by decide))
      refine h_tin 312 dX0_numbersOf_252 zh1 (by decide) (by decide) rfl (by decide) ?_
      refine g_iconst (v := 2) dX0_numbersOf_312 (by decide) ?_
      refine g_goto 326 dX0_numbersOf_313 (by decide) ?_
      exact g_iret rfl dX0_numbersOf_326 F
    · have F := F.2.2.2.2.2.2.1 (tsw_eq zh1 (by decide))
      refine h_tin 316 dX0_numbersOf_252 zh1 (by decide) (by decide) rfl (by decide) ?_
      refine g_iconst (v := 1) dX0_numbersOf_316 (by decide) ?_
      refine g_goto 326 dX0_numbersOf_317 (by decide) ?_
      exact g_iret rfl dX0_numbersOf_326 F
    · have F := F.2.2.2.2.2.2.2.1 (tsw_eq zh1 (by decide))
      refine h_tin 316 dX0_numbersOf_252 zh1 (by decide) (by decide) rfl (by decide) ?_
      refine g_iconst (v := 1) dX0_numbersOf_316 (by decide) ?_
      refine g_goto 326 dX0_numbersOf_317 (by decide) ?_
      exact g_iret rfl dX0_numbersOf_326 F
    · have F := F.2.2.2.2.2.2.2.2.1 (tsw_eq zh1 (by decide))
      refine h_tin 320 dX0_numbersOf_252 zh1 (by decide) (by decide) rfl (by decide) ?_
      refine g_iconst (v := 0) dX0_numbersOf_320 (by decide) ?_
      refine g_goto 326 dX0_numbersOf_321 (by decide) ?_
      exact g_iret rfl dX0_numbersOf_326 F
    · have F := F.2.2.2.2.2.2.2.2.2.1 (tsw_eq zh1 (by decide))
      refine h_tin 320 dX0_numbersOf_252 zh1 (by decide) (by decide) rfl (by decide) ?_
      refine g_iconst (v := 0) dX0_numbersOf_320 (by decide) ?_
      refine g_goto 326 dX0_numbersOf_321 (by decide) ?_
      exact g_iret rfl dX0_numbersOf_326 F
theorem rX0_error_0 {Γ : GE} {l : Launch} {h MC MS : Nat} {Q : Option Value → GH → Prop} {bc bs : Nat} {G : GH} (p0 : Int32) (F : (1 ≤ bc ∧ 7 ≤ bs ∧ ∀ q1, gC G q1 = 0 → gA Γ q1 → cV Γ l h mX9_init [.ref q1, .int ((-200) - p0)] (nO G q1 8) (bc - 1) (bs - 7) fun Gr6 br6 sr6 => Q (some (va_rf (some q1))) Gr6)) : GW Γ l mX0_error h MC MS Q 0 [(0, .int p0)] [] G bc bs := by
  obtain ⟨k3, F⟩ := F
  obtain ⟨k4, F⟩ := F
  refine g_new (C := RX9) (T := TX9) (N := 7) 8 rfl in_X9 tyX9_ok nd_X9 q1840 q1895 q145 k3 k4 dX0_error_0 (fun q1 z2 z2' => ?_)
  have F := F q1 z2 z2'
  refine g_dup dX0_error_3 (va_rf_cat _) ?_
  refine g_sipush (v := (-200)) dX0_error_4 (by decide) ?_
  refine g_iload_n dX0_error_7 rfl 0 rfl ?_
  refine g_isub dX0_error_8 ?_
  refine h_callIV (As := [.int ((-200) - p0)]) (rest := [va_rf (some q1)]) F 1 rfl rfl (lw_meth q1933) q145 q1931 q1932 rfl vm_X9_init.2 (by decide) rfl rfl (room_of (sc_R sc_nil) (Nat.le_of_ble_eq_true rfl)) dX0_error_9 (fun Gr6 br6 sr6 F => ?_)
  exact g_aret (r := (some q1)) rfl (Or.inl ⟨_, rfl⟩) dX0_error_12 F
theorem rX0_readNumber_0 {Γ : GE} {l : Launch} {h MC MS : Nat} {Q : Option Value → GH → Prop} {bc bs : Nat} {G : GH} (x : Nat) (p1 : Option Nat) (F : (gC G x = kO 0 ∧ cI Γ l h mX0_letterAt [va_rf p1, .int (gI G x 22)] G bc bs fun r2 Gr2 br2 sr2 => ((r2 = 32 → (gC Gr2 x = kO 0 ∧ gM Gr2 x = true ∧ cI Γ l h mX0_letterAt [va_rf p1, .int (gI (sI Gr2 x 22 ((gI Gr2 x 22) + 1)) x 22)] (sI Gr2 x 22 ((gI Gr2 x 22) + 1)) br2 sr2 fun r6 Gr6 br6 sr6 => cI Γ l h mX0_isBetween [.int r6, .int 48, .int 57] Gr6 br6 sr6 fun r8 Gr8 br8 sr8 => ((¬ r8 = 0 → (GW Γ l mX0_readNumber h MC MS Q 61 [(0, va_rf (some x)), (1, va_rf p1), (2, .int 0), (3, .int 0)] [] Gr8 br8 sr8)) ∧ (r8 = 0 → (gC Gr8 x = kO 0 ∧ cR Γ l h mX0_error [.int (gI Gr8 x 22)] Gr8 br8 sr8 fun r11 Gr11 br11 sr11 => False))))) ∧ (¬ r2 = 32 → (gC Gr2 x = kO 0 ∧ cR Γ l h mX0_error [.int (gI Gr2 x 22)] Gr2 br2 sr2 fun r15 Gr15 br15 sr15 => False))))) : GW Γ l mX0_readNumber h MC MS Q 0 [(0, va_rf (some x)), (1, va_rf p1)] [] G bc bs := by
  refine g_aload_n dX0_readNumber_0 rfl 1 rfl ?_
  refine g_aload_n dX0_readNumber_1 rfl 0 rfl ?_
  obtain ⟨c1, F⟩ := F
  refine h_get (v := .int (gI G x 22)) 0 22 (C := RX0) (T := TX0) (N := 25) rfl in_X0 (by decide) q259 (Or.inl rfl) rfl c1 rfl dX0_readNumber_2 ?_
  refine h_callSI (As := [va_rf p1, .int (gI G x 22)]) (rest := []) F 2 rfl (lw_S q1870 q1871 q108 q1872) vm_X0_letterAt.2 (by decide) rfl (room_of sc_nil (Nat.le_of_ble_eq_true rfl)) dX0_readNumber_5 (fun r2 Gr2 br2 sr2 F => ?_)
  refine g_bipush (v := 32) dX0_readNumber_8 (by decide) ?_
  refine g_icmp_eq 21 dX0_readNumber_10 (by decide) (fun h17 => ?_) (fun h17 => ?_)
  · have F := F.1 h17
    refine g_aload_n dX0_readNumber_21 rfl 0 rfl ?_
    refine g_dup dX0_readNumber_22 (va_rf_cat _) ?_
    obtain ⟨c4, F⟩ := F
    refine h_get (v := .int (gI Gr2 x 22)) 0 22 (C := RX0) (T := TX0) (N := 25) rfl in_X0 (by decide) q259 (Or.inl rfl) rfl c4 rfl dX0_readNumber_23 ?_
    refine g_iconst (v := 1) dX0_readNumber_26 (by decide) ?_
    refine g_iadd dX0_readNumber_27 ?_
    obtain ⟨m5, F⟩ := F
    refine h_putI (mi := mX0_readNumber) 0 22 (C := RX0) (T := TX0) (N := 25) rfl in_X0 tyX0_ok nmX0 (by decide) q259 (Or.inl rfl) (Or.inl rfl) rfl rfl c4 m5 rfl rfl dX0_readNumber_28 ?_
    refine g_aload_n dX0_readNumber_31 rfl 1 rfl ?_
    refine g_aload_n dX0_readNumber_32 rfl 0 rfl ?_
    refine h_get (v := .int (gI (sI Gr2 x 22 ((gI Gr2 x 22) + 1)) x 22)) 0 22 (C := RX0) (T := TX0) (N := 25) rfl in_X0 (by decide) q259 (Or.inl rfl) rfl c4 rfl dX0_readNumber_33 ?_
    refine h_callSI (As := [va_rf p1, .int (gI (sI Gr2 x 22 ((gI Gr2 x 22) + 1)) x 22)]) (rest := []) F 2 rfl (lw_S q1870 q1871 q108 q1872) vm_X0_letterAt.2 (by decide) rfl (room_of sc_nil (Nat.le_of_ble_eq_true rfl)) dX0_readNumber_36 (fun r6 Gr6 br6 sr6 F => ?_)
    refine g_bipush (v := 48) dX0_readNumber_39 (by decide) ?_
    refine g_bipush (v := 57) dX0_readNumber_41 (by decide) ?_
    refine h_callSI (As := [.int r6, .int 48, .int 57]) (rest := []) F 3 rfl (lw_S q498 q499 q108 q500) vm_X0_isBetween.2 (by decide) rfl (room_of sc_nil (Nat.le_of_ble_eq_true rfl)) dX0_readNumber_43 (fun r8 Gr8 br8 sr8 F => ?_)
    refine g_if_ne 57 dX0_readNumber_46 (by decide) (fun h13 => ?_) (fun h13 => ?_)
    · have F := F.1 h13
      refine g_iconst (v := 0) dX0_readNumber_57 (by decide) ?_
      refine s_istore_n (lv' := [(0, va_rf (some x)), (1, va_rf p1), (2, .int 0)]) (cat_R (cat_R cat_nil)) dX0_readNumber_58 rfl (by decide) rfl [1, 2, 0] rfl ?_
      refine g_iconst (v := 0) dX0_readNumber_59 (by decide) ?_
      refine s_istore_n (lv' := [(0, va_rf (some x)), (1, va_rf p1), (2, .int 0), (3, .int 0)]) (cat_R (cat_R (cat_I cat_nil))) dX0_readNumber_60 rfl (by decide) rfl [1, 2, 3, 0] rfl ?_
      exact F
    · have F := F.2 h13
      refine g_aload_n dX0_readNumber_49 rfl 0 rfl ?_
      obtain ⟨c10, F⟩ := F
      refine h_get (v := .int (gI Gr8 x 22)) 0 22 (C := RX0) (T := TX0) (N := 25) rfl in_X0 (by decide) q259 (Or.inl rfl) rfl c10 rfl dX0_readNumber_50 ?_
      refine h_callSR (As := [.int (gI Gr8 x 22)]) (rest := []) F 1 rfl (lw_S q1892 q1893 q108 q1894) vm_X0_error.2 (by decide) rfl (room_of sc_nil (Nat.le_of_ble_eq_true rfl)) dX0_readNumber_53 (fun r11 Gr11 br11 sr11 F => ?_)
      exact F.elim
  · have F := F.2 h17
    refine g_aload_n dX0_readNumber_13 rfl 0 rfl ?_
    obtain ⟨c14, F⟩ := F
    refine h_get (v := .int (gI Gr2 x 22)) 0 22 (C := RX0) (T := TX0) (N := 25) rfl in_X0 (by decide) q259 (Or.inl rfl) rfl c14 rfl dX0_readNumber_14 ?_
    refine h_callSR (As := [.int (gI Gr2 x 22)]) (rest := []) F 1 rfl (lw_S q1892 q1893 q108 q1894) vm_X0_error.2 (by decide) rfl (room_of sc_nil (Nat.le_of_ble_eq_true rfl)) dX0_readNumber_17 (fun r15 Gr15 br15 sr15 F => ?_)
    exact F.elim
theorem rX0_readNumber_61 {Γ : GE} {l : Launch} {h MC MS : Nat} {Q : Option Value → GH → Prop} {bc bs : Nat} {G : GH} (x : Nat) (p1 : Option Nat) (p2 : Int32) (p3 : Int32) (F : (((4 : Int32) ≤ p3 → (Q (some (.int p2)) G)) ∧ (¬ (4 : Int32) ≤ p3 → (gC G x = kO 0 ∧ cI Γ l h mX0_letterAt [va_rf p1, .int (gI G x 22)] G bc bs fun r2 Gr2 br2 sr2 => cI Γ l h mX0_isBetween [.int r2, .int 48, .int 57] Gr2 br2 sr2 fun r4 Gr4 br4 sr4 => ((r4 = 0 → (Q (some (.int p2)) Gr4)) ∧ (¬ r4 = 0 → (gC Gr4 x = kO 0 ∧ cI Γ l h mX0_letterAt [va_rf p1, .int (gI Gr4 x 22)] Gr4 br4 sr4 fun r7 Gr7 br7 sr7 => gC Gr7 x = kO 0 ∧ gM Gr7 x = true ∧ GW Γ l mX0_readNumber h MC MS Q 61 [(0, va_rf (some x)), (1, va_rf p1), (2, .int (((10 * p2) + r7) - 48)), (3, .int (p3 + 1))] [] (sI Gr7 x 22 ((gI Gr7 x 22) + 1)) br7 sr7))))))) : GW Γ l mX0_readNumber h MC MS Q 61 [(0, va_rf (some x)), (1, va_rf p1), (2, .int p2), (3, .int p3)] [] G bc bs := by
  refine g_iload_n dX0_readNumber_61 rfl 3 rfl ?_
  refine g_iconst (v := 4) dX0_readNumber_62 (by decide) ?_
  refine g_icmp_ge 117 dX0_readNumber_63 (by decide) (fun h12 => ?_) (fun h12 => ?_)
  · have F := F.1 h12
    refine g_iload_n dX0_readNumber_117 rfl 2 rfl ?_
    exact g_iret rfl dX0_readNumber_118 F
  · have F := F.2 h12
    refine g_aload_n dX0_readNumber_66 rfl 1 rfl ?_
    refine g_aload_n dX0_readNumber_67 rfl 0 rfl ?_
    obtain ⟨c1, F⟩ := F
    refine h_get (v := .int (gI G x 22)) 0 22 (C := RX0) (T := TX0) (N := 25) rfl in_X0 (by decide) q259 (Or.inl rfl) rfl c1 rfl dX0_readNumber_68 ?_
    refine h_callSI (As := [va_rf p1, .int (gI G x 22)]) (rest := []) F 2 rfl (lw_S q1870 q1871 q108 q1872) vm_X0_letterAt.2 (by decide) rfl (room_of sc_nil (Nat.le_of_ble_eq_true rfl)) dX0_readNumber_71 (fun r2 Gr2 br2 sr2 F => ?_)
    refine g_bipush (v := 48) dX0_readNumber_74 (by decide) ?_
    refine g_bipush (v := 57) dX0_readNumber_76 (by decide) ?_
    refine h_callSI (As := [.int r2, .int 48, .int 57]) (rest := []) F 3 rfl (lw_S q498 q499 q108 q500) vm_X0_isBetween.2 (by decide) rfl (room_of sc_nil (Nat.le_of_ble_eq_true rfl)) dX0_readNumber_78 (fun r4 Gr4 br4 sr4 F => ?_)
    refine g_if_eq 117 dX0_readNumber_81 (by decide) (fun h11 => ?_) (fun h11 => ?_)
    · have F := F.1 h11
      refine g_iload_n dX0_readNumber_117 rfl 2 rfl ?_
      exact g_iret rfl dX0_readNumber_118 F
    · have F := F.2 h11
      refine g_bipush (v := 10) dX0_readNumber_84 (by decide) ?_
      refine g_iload_n dX0_readNumber_86 rfl 2 rfl ?_
      refine g_imul dX0_readNumber_87 ?_
      refine g_aload_n dX0_readNumber_88 rfl 1 rfl ?_
      refine g_aload_n dX0_readNumber_89 rfl 0 rfl ?_
      obtain ⟨c6, F⟩ := F
      refine h_get (v := .int (gI Gr4 x 22)) 0 22 (C := RX0) (T := TX0) (N := 25) rfl in_X0 (by decide) q259 (Or.inl rfl) rfl c6 rfl dX0_readNumber_90 ?_
      refine h_callSI (As := [va_rf p1, .int (gI Gr4 x 22)]) (rest := [.int (10 * p2)]) F 2 rfl (lw_S q1870 q1871 q108 q1872) vm_X0_letterAt.2 (by decide) rfl (room_of (sc_I sc_nil) (Nat.le_of_ble_eq_true rfl)) dX0_readNumber_93 (fun r7 Gr7 br7 sr7 F => ?_)
      refine g_iadd dX0_readNumber_96 ?_
      refine g_bipush (v := 48) dX0_readNumber_97 (by decide) ?_
      refine g_isub dX0_readNumber_99 ?_
      refine s_istore_n (lv' := [(0, va_rf (some x)), (1, va_rf p1), (2, .int (((10 * p2) + r7) - 48)), (3, .int p3)]) (cat_R (cat_R (cat_I (cat_I cat_nil)))) dX0_readNumber_100 rfl (by decide) rfl [1, 2, 0, 3] rfl ?_
      refine g_aload_n dX0_readNumber_101 rfl 0 rfl ?_
      refine g_dup dX0_readNumber_102 (va_rf_cat _) ?_
      obtain ⟨c9, F⟩ := F
      refine h_get (v := .int (gI Gr7 x 22)) 0 22 (C := RX0) (T := TX0) (N := 25) rfl in_X0 (by decide) q259 (Or.inl rfl) rfl c9 rfl dX0_readNumber_103 ?_
      refine g_iconst (v := 1) dX0_readNumber_106 (by decide) ?_
      refine g_iadd dX0_readNumber_107 ?_
      obtain ⟨m10, F⟩ := F
      refine h_putI (mi := mX0_readNumber) 0 22 (C := RX0) (T := TX0) (N := 25) rfl in_X0 tyX0_ok nmX0 (by decide) q259 (Or.inl rfl) (Or.inl rfl) rfl rfl c9 m10 rfl rfl dX0_readNumber_108 ?_
      refine s_iinc (v := (p3 + 1)) (lv' := [(0, va_rf (some x)), (1, va_rf p1), (2, .int (((10 * p2) + r7) - 48)), (3, .int (p3 + 1))]) (cat_R (cat_R (cat_I (cat_I cat_nil)))) dX0_readNumber_111 (k0 := 3) rfl rfl (by decide) rfl [1, 2, 3, 0] rfl ?_
      refine g_goto 61 dX0_readNumber_114 (by decide) ?_
      exact F
theorem rX0_performAll_0 {Γ : GE} {l : Launch} {h MC MS : Nat} {Q : Option Value → GH → Prop} {bc bs : Nat} {G : GH} (x : Nat) (p1 : Int32) (F : (GW Γ l mX0_performAll h MC MS Q 2 [(0, va_rf (some x)), (1, .int p1), (2, .int 0)] [] G bc bs)) : GW Γ l mX0_performAll h MC MS Q 0 [(0, va_rf (some x)), (1, .int p1)] [] G bc bs := by
  refine g_iconst (v := 0) dX0_performAll_0 (by decide) ?_
  refine s_istore_n (lv' := [(0, va_rf (some x)), (1, .int p1), (2, .int 0)]) (cat_R (cat_I cat_nil)) dX0_performAll_1 rfl (by decide) rfl [1, 2, 0] rfl ?_
  exact F
theorem rX0_performAll_2 {Γ : GE} {l : Launch} {h MC MS : Nat} {Q : Option Value → GH → Prop} {bc bs : Nat} {G : GH} (x : Nat) (p1 : Int32) (p2 : Int32) (F : ((p1 ≤ p2 → (Q none G)) ∧ (¬ p1 ≤ p2 → (gC G x = kO 0 ∧ cI Γ l h mX0_perform [.ref x, .int p2] G bc bs fun r1 Gr1 br1 sr1 => (((0 : Int32) ≤ r1 → (GW Γ l mX0_performAll h MC MS Q 2 [(0, va_rf (some x)), (1, .int p1), (2, .int (p2 + 1))] [] Gr1 br1 sr1)) ∧ (¬ (0 : Int32) ≤ r1 → (1 ≤ br1 ∧ 7 ≤ sr1 ∧ ∀ q4, gC Gr1 q4 = 0 → gA Γ q4 → cV Γ l h mX9_init [.ref q4, .int ((-300) - p2)] (nO Gr1 q4 8) (br1 - 1) (sr1 - 7) fun Gr9 br9 sr9 => False))))))) : GW Γ l mX0_performAll h MC MS Q 2 [(0, va_rf (some x)), (1, .int p1), (2, .int p2)] [] G bc bs := by
  refine g_iload_n dX0_performAll_2 rfl 2 rfl ?_
  refine g_iload_n dX0_performAll_3 rfl 1 rfl ?_
  refine g_icmp_ge 34 dX0_performAll_4 (by decide) (fun h12 => ?_) (fun h12 => ?_)
  · have F := F.1 h12
    exact g_vret rfl dX0_performAll_34 F
  · have F := F.2 h12
    refine g_aload_n dX0_performAll_7 rfl 0 rfl ?_
    refine g_iload_n dX0_performAll_8 rfl 2 rfl ?_
    obtain ⟨c2, F⟩ := F
    refine h_callVI (ci := 0) (C := RX0) (T := TX0) (N := 25) (As := [.int p2]) (rest := []) F 1 rfl rfl (lw_V q1966 q1968 qs52 q108 q1969) vm_X0_perform (by decide) rfl c2 rfl (room_of sc_nil (Nat.le_of_ble_eq_true rfl)) dX0_performAll_9 (fun r1 Gr1 br1 sr1 F => ?_)
    refine g_if_ge 28 dX0_performAll_12 (by decide) (fun h11 => ?_) (fun h11 => ?_)
    · have F := F.1 h11
      refine s_iinc (v := (p2 + 1)) (lv' := [(0, va_rf (some x)), (1, .int p1), (2, .int (p2 + 1))]) (cat_R (cat_I (cat_I cat_nil))) dX0_performAll_28 (k0 := 2) rfl rfl (by decide) rfl [1, 2, 0] rfl ?_
      refine g_goto 2 dX0_performAll_31 (by decide) ?_
      exact F
    · have F := F.2 h11
      obtain ⟨k6, F⟩ := F
      obtain ⟨k7, F⟩ := F
      refine g_new (C := RX9) (T := TX9) (N := 7) 8 rfl in_X9 tyX9_ok nd_X9 q1840 q1895 q145 k6 k7 dX0_performAll_15 (fun q4 z5 z5' => ?_)
      have F := F q4 z5 z5'
      refine g_dup dX0_performAll_18 (va_rf_cat _) ?_
      refine g_sipush (v := (-300)) dX0_performAll_19 (by decide) ?_
      refine g_iload_n dX0_performAll_22 rfl 2 rfl ?_
      refine g_isub dX0_performAll_23 ?_
      refine h_callIV (As := [.int ((-300) - p2)]) (rest := [va_rf (some q4)]) F 1 rfl rfl (lw_meth q1933) q145 q1931 q1932 rfl vm_X9_init.2 (by decide) rfl rfl (room_of (sc_R sc_nil) (Nat.le_of_ble_eq_true rfl)) dX0_performAll_24 (fun Gr9 br9 sr9 F => ?_)
      exact F.elim
theorem rX0_perform_0 {Γ : GE} {l : Launch} {h MC MS : Nat} {Q : Option Value → GH → Prop} {bc bs : Nat} {G : GH} (x : Nat) (p1 : Int32) (F : (gC G x = kO 0 ∧ ∃ a2, (gR G x 24) = some a2 ∧ gC G a2 = kA 0 ∧ vp_in (4 * p1) (gL G a2) ∧ vp_in ((4 * p1) + 1) (gL G a2) ∧ ∃ a7, (gR G x 23) = some a7 ∧ gC G a7 = kA 6 ∧ gM G a7 = true ∧ vp_in p1 (gL G a7) ∧ ∃ a13, (gR G a7 p1.toNatClampNeg) = some a13 ∧ gC G a13 = kO 15 ∧ cI Γ l h mJ5_hashCode [.ref a13] G bc bs fun r12 Gr12 br12 sr12 => ((r12 = (-1367724422) → (gC Gr12 a13 = kO 15 ∧ cI Γ l h mJ5_equals [.ref a13, va_rf (some (Γ.2.2.2 37))] Gr12 br12 sr12 fun r17 Gr17 br17 sr17 => ((r17 = 0 → (GW Γ l mX0_perform h MC MS Q 273 [(0, va_rf (some x)), (1, .int p1), (2, .int (gI G a2 (4 * p1).toNatClampNeg)), (3, .int (gI G a2 ((4 * p1) + 1).toNatClampNeg)), (4, va_rf (gR G a7 p1.toNatClampNeg)), (5, .int (-1))] [] Gr17 br17 sr17)) ∧ (¬ r17 = 0 → (GW Γ l mX0_perform h MC MS Q 273 [(0, va_rf (some x)), (1, .int p1), (2, .int (gI G a2 (4 * p1).toNatClampNeg)), (3, .int (gI G a2 ((4 * p1) + 1).toNatClampNeg)), (4, va_rf (gR G a7 p1.toNatClampNeg)), (5, .int 6)] [] Gr17 br17 sr17))))) ∧ (r12 = 101491 → (gC Gr12 a13 = kO 15 ∧ cI Γ l h mJ5_equals [.ref a13, va_rf (some (Γ.2.2.2 31))] Gr12 br12 sr12 fun r21 Gr21 br21 sr21 => ((r21 = 0 → (GW Γ l mX0_perform h MC MS Q 273 [(0, va_rf (some x)), (1, .int p1), (2, .int (gI G a2 (4 * p1).toNatClampNeg)), (3, .int (gI G a2 ((4 * p1) + 1).toNatClampNeg)), (4, va_rf (gR G a7 p1.toNatClampNeg)), (5, .int (-1))] [] Gr21 br21 sr21)) ∧ (¬ r21 = 0 → (GW Γ l mX0_perform h MC MS Q 273 [(0, va_rf (some x)), (1, .int p1), (2, .int (gI G a2 (4 * p1).toNatClampNeg)), (3, .int (gI G a2 ((4 * p1) + 1).toNatClampNeg)), (4, va_rf (gR G a7 p1.toNatClampNeg)), (5, .int 2)] [] Gr21 br21 sr21))))) ∧ (r12 = 107022 → (gC Gr12 a13 = kO 15 ∧ cI Γ l h mJ5_equals [.ref a13, va_rf (some (Γ.2.2.2 30))] Gr12 br12 sr12 fun r25 Gr25 br25 sr25 => ((r25 = 0 → (GW Γ l mX0_perform h MC MS Q 273 [(0, va_rf (some x)), (1, .int p1), (2, .int (gI G a2 (4 * p1).toNatClampNeg)), (3, .int (gI G a2 ((4 * p1) + 1).toNatClampNeg)), (4, va_rf (gR G a7 p1.toNatClampNeg)), (5, .int (-1))] [] Gr25 br25 sr25)) ∧ (¬ r25 = 0 → (GW Γ l mX0_perform h MC MS Q 273 [(0, va_rf (some x)), (1, .int p1), (2, .int (gI G a2 (4 * p1).toNatClampNeg)), (3, .int (gI G a2 ((4 * p1) + 1).toNatClampNeg)), (4, va_rf (gR G a7 p1.toNatClampNeg)), (5, .int 0)] [] Gr25 br25 sr25))))) ∧ (r12 = 3062113 → (gC Gr12 a13 = kO 15 ∧ cI Γ l h mJ5_equals [.ref a13, va_rf (some (Γ.2.2.2 36))] Gr12 br12 sr12 fun r29 Gr29 br29 sr29 => ((r29 = 0 → (GW Γ l mX0_perform h MC MS Q 273 [(0, va_rf (some x)), (1, .int p1), (2, .int (gI G a2 (4 * p1).toNatClampNeg)), (3, .int (gI G a2 ((4 * p1) + 1).toNatClampNeg)), (4, va_rf (gR G a7 p1.toNatClampNeg)), (5, .int (-1))] [] Gr29 br29 sr29)) ∧ (¬ r29 = 0 → (GW Γ l mX0_perform h MC MS Q 273 [(0, va_rf (some x)), (1, .int p1), (2, .int (gI G a2 (4 * p1).toNatClampNeg)), (3, .int (gI G a2 ((4 * p1) + 1).toNatClampNeg)), (4, va_rf (gR G a7 p1.toNatClampNeg)), (5, .int 1)] [] Gr29 br29 sr29))))) ∧ (r12 = 3092207 → (gC Gr12 a13 = kO 15 ∧ cI Γ l h mJ5_equals [.ref a13, va_rf (some (Γ.2.2.2 33))] Gr12 br12 sr12 fun r33 Gr33 br33 sr33 => ((r33 = 0 → (GW Γ l mX0_perform h MC MS Q 273 [(0, va_rf (some x)), (1, .int p1), (2, .int (gI G a2 (4 * p1).toNatClampNeg)), (3, .int (gI G a2 ((4 * p1) + 1).toNatClampNeg)), (4, va_rf (gR G a7 p1.toNatClampNeg)), (5, .int (-1))] [] Gr33 br33 sr33)) ∧ (¬ r33 = 0 → (GW Γ l mX0_perform h MC MS Q 273 [(0, va_rf (some x)), (1, .int p1), (2, .int (gI G a2 (4 * p1).toNatClampNeg)), (3, .int (gI G a2 ((4 * p1) + 1).toNatClampNeg)), (4, va_rf (gR G a7 p1.toNatClampNeg)), (5, .int 4)] [] Gr33 br33 sr33))))) ∧ (r12 = 3314342 → (gC Gr12 a13 = kO 15 ∧ cI Γ l h mJ5_equals [.ref a13, va_rf (some (Γ.2.2.2 34))] Gr12 br12 sr12 fun r37 Gr37 br37 sr37 => ((r37 = 0 → (GW Γ l mX0_perform h MC MS Q 273 [(0, va_rf (some x)), (1, .int p1), (2, .int (gI G a2 (4 * p1).toNatClampNeg)), (3, .int (gI G a2 ((4 * p1) + 1).toNatClampNeg)), (4, va_rf (gR G a7 p1.toNatClampNeg)), (5, .int (-1))] [] Gr37 br37 sr37)) ∧ (¬ r37 = 0 → (GW Γ l mX0_perform h MC MS Q 273 [(0, va_rf (some x)), (1, .int p1), (2, .int (gI G a2 (4 * p1).toNatClampNeg)), (3, .int (gI G a2 ((4 * p1) + 1).toNatClampNeg)), (4, va_rf (gR G a7 p1.toNatClampNeg)), (5, .int 5)] [] Gr37 br37 sr37))))) ∧ (r12 = 3433178 → (gC Gr12 a13 = kO 15 ∧ cI Γ l h mJ5_equals [.ref a13, va_rf (some (Γ.2.2.2 38))] Gr12 br12 sr12 fun r41 Gr41 br41 sr41 => ((r41 = 0 → (GW Γ l mX0_perform h MC MS Q 273 [(0, va_rf (some x)), (1, .int p1), (2, .int (gI G a2 (4 * p1).toNatClampNeg)), (3, .int (gI G a2 ((4 * p1) + 1).toNatClampNeg)), (4, va_rf (gR G a7 p1.toNatClampNeg)), (5, .int (-1))] [] Gr41 br41 sr41)) ∧ (¬ r41 = 0 → (GW Γ l mX0_perform h MC MS Q 273 [(0, va_rf (some x)), (1, .int p1), (2, .int (gI G a2 (4 * p1).toNatClampNeg)), (3, .int (gI G a2 ((4 * p1) + 1).toNatClampNeg)), (4, va_rf (gR G a7 p1.toNatClampNeg)), (5, .int 8)] [] Gr41 br41 sr41))))) ∧ (r12 = 3500280 → (gC Gr12 a13 = kO 15 ∧ cI Γ l h mJ5_equals [.ref a13, va_rf (some (Γ.2.2.2 32))] Gr12 br12 sr12 fun r45 Gr45 br45 sr45 => ((r45 = 0 → (GW Γ l mX0_perform h MC MS Q 273 [(0, va_rf (some x)), (1, .int p1), (2, .int (gI G a2 (4 * p1).toNatClampNeg)), (3, .int (gI G a2 ((4 * p1) + 1).toNatClampNeg)), (4, va_rf (gR G a7 p1.toNatClampNeg)), (5, .int (-1))] [] Gr45 br45 sr45)) ∧ (¬ r45 = 0 → (GW Γ l mX0_perform h MC MS Q 273 [(0, va_rf (some x)), (1, .int p1), (2, .int (gI G a2 (4 * p1).toNatClampNeg)), (3, .int (gI G a2 ((4 * p1) + 1).toNatClampNeg)), (4, va_rf (gR G a7 p1.toNatClampNeg)), (5, .int 3)] [] Gr45 br45 sr45))))) ∧ (r12 = 3512060 → (gC Gr12 a13 = kO 15 ∧ cI Γ l h mJ5_equals [.ref a13, va_rf (some (Γ.2.2.2 35))] Gr12 br12 sr12 fun r49 Gr49 br49 sr49 => ((r49 = 0 → (GW Γ l mX0_perform h MC MS Q 273 [(0, va_rf (some x)), (1, .int p1), (2, .int (gI G a2 (4 * p1).toNatClampNeg)), (3, .int (gI G a2 ((4 * p1) + 1).toNatClampNeg)), (4, va_rf (gR G a7 p1.toNatClampNeg)), (5, .int (-1))] [] Gr49 br49 sr49)) ∧ (¬ r49 = 0 → (GW Γ l mX0_perform h MC MS Q 273 [(0, va_rf (some x)), (1, .int p1), (2, .int (gI G a2 (4 * p1).toNatClampNeg)), (3, .int (gI G a2 ((4 * p1) + 1).toNatClampNeg)), (4, va_rf (gR G a7 p1.toNatClampNeg)), (5, .int 7)] [] Gr49 br49 sr49))))) ∧ (¬ r12 = (-1367724422) → ¬ r12 = 101491 → ¬ r12 = 107022 → ¬ r12 = 3062113 → ¬ r12 = 3092207 → ¬ r12 = 3314342 → ¬ r12 = 3433178 → ¬ r12 = 3500280 → ¬ r12 = 3512060 → (GW Γ l mX0_perform h MC MS Q 273 [(0, va_rf (some x)), (1, .int p1), (2, .int (gI G a2 (4 * p1).toNatClampNeg)), (3, .int (gI G a2 ((4 * p1) + 1).toNatClampNeg)), (4, va_rf (gR G a7 p1.toNatClampNeg)), (5, .int (-1))] [] Gr12 br12 sr12))))) : GW Γ l mX0_perform h MC MS Q 0 [(0, va_rf (some x)), (1, .int p1)] [] G bc bs := by
  refine g_aload_n dX0_perform_0 rfl 0 rfl ?_
  obtain ⟨c1, F⟩ := F
  refine h_get (v := va_rf (gR G x 24)) 0 24 (C := RX0) (T := TX0) (N := 25) rfl in_X0 (by decide) q261 (Or.inl rfl) rfl c1 rfl dX0_perform_1 ?_
  refine g_iconst (v := 4) dX0_perform_4 (by decide) ?_
  refine g_iload_n dX0_perform_5 rfl 1 rfl ?_
  refine g_imul dX0_perform_6 ?_
  obtain ⟨a2, e3, F⟩ := F
  obtain ⟨c4, F⟩ := F
  obtain ⟨k5, F⟩ := F
  refine h_iald e3 c4 k5 dX0_perform_7 ?_
  refine s_istore_n (lv' := [(0, va_rf (some x)), (1, .int p1), (2, .int (gI G a2 (4 * p1).toNatClampNeg))]) (cat_R (cat_I cat_nil)) dX0_perform_8 rfl (by decide) rfl [1, 2, 0] rfl ?_
  refine g_aload_n dX0_perform_9 rfl 0 rfl ?_
  refine h_get (v := va_rf (gR G x 24)) 0 24 (C := RX0) (T := TX0) (N := 25) rfl in_X0 (by decide) q261 (Or.inl rfl) rfl c1 rfl dX0_perform_10 ?_
  refine g_iconst (v := 4) dX0_perform_13 (by decide) ?_
  refine g_iload_n dX0_perform_14 rfl 1 rfl ?_
  refine g_imul dX0_perform_15 ?_
  refine g_iconst (v := 1) dX0_perform_16 (by decide) ?_
  refine g_iadd dX0_perform_17 ?_
  obtain ⟨k6, F⟩ := F
  refine h_iald e3 c4 k6 dX0_perform_18 ?_
  refine s_istore_n (lv' := [(0, va_rf (some x)), (1, .int p1), (2, .int (gI G a2 (4 * p1).toNatClampNeg)), (3, .int (gI G a2 ((4 * p1) + 1).toNatClampNeg))]) (cat_R (cat_I (cat_I cat_nil))) dX0_perform_19 rfl (by decide) rfl [1, 2, 3, 0] rfl ?_
  refine g_aload_n dX0_perform_20 rfl 0 rfl ?_
  refine h_get (v := va_rf (gR G x 23)) 0 23 (C := RX0) (T := TX0) (N := 25) rfl in_X0 (by decide) q260 (Or.inl rfl) rfl c1 rfl dX0_perform_21 ?_
  refine g_iload_n dX0_perform_24 rfl 1 rfl ?_
  obtain ⟨a7, e8, F⟩ := F
  obtain ⟨c9, F⟩ := F
  obtain ⟨m10, F⟩ := F
  obtain ⟨k11, F⟩ := F
  refine h_aald 6 e8 c9 (by decide) (by decide) m10 k11 dX0_perform_25 ?_
  refine s_astore (lv' := [(0, va_rf (some x)), (1, .int p1), (2, .int (gI G a2 (4 * p1).toNatClampNeg)), (3, .int (gI G a2 ((4 * p1) + 1).toNatClampNeg)), (4, va_rf (gR G a7 p1.toNatClampNeg))]) (cat_R (cat_I (cat_I (cat_I cat_nil)))) dX0_perform_26 (by decide) rfl [1, 2, 3, 4, 0] rfl ?_
  refine g_iconst (v := (-1)) dX0_perform_28 (by decide) ?_
  refine s_istore (lv' := [(0, va_rf (some x)), (1, .int p1), (2, .int (gI G a2 (4 * p1).toNatClampNeg)), (3, .int (gI G a2 ((4 * p1) + 1).toNatClampNeg)), (4, va_rf (gR G a7 p1.toNatClampNeg)), (5, .int (-1))]) (cat_R (cat_I (cat_I (cat_I (cat_R cat_nil))))) dX0_perform_29 (by decide) rfl [1, 2, 3, 4, 5, 0] rfl ?_
  refine g_aload dX0_perform_31 4 rfl ?_
  obtain ⟨a13, e14, F⟩ := F
  obtain ⟨c15, F⟩ := F
  refine h_callVI (ci := 15) (C := RJ5) (T := TJ5) (N := 4) (As := []) (rest := []) F 0 rfl rfl (lw_V q1880 q602 q2525 q115 q603) vm_J5_hashCode (by decide) e14 c15 rfl (room_of sc_nil (Nat.le_of_ble_eq_true rfl)) dX0_perform_33 (fun r12 Gr12 br12 sr12 F => ?_)
  by_cases h53 : r12 = (-1367724422)
  · have F := F.1 h53
    refine h_lsw 222 dX0_perform_36 (by decide) (off := 186) (by rw [h53]; decide +kernel) (by decide) ?_
    refine g_aload dX0_perform_222 4 rfl ?_
    refine h_ldcwS (tx := "cancel") 37 (by decide +kernel) dX0_perform_224 ?_
    obtain ⟨c18, F⟩ := F
    refine h_callVI (ci := 15) (C := RJ5) (T := TJ5) (N := 4) (As := [va_rf (some (Γ.2.2.2 37))]) (rest := []) F 1 rfl rfl (lw_V q1882 q972 q2526 q115 q973) vm_J5_equals (by decide) e14 c18 rfl (room_of sc_nil (Nat.le_of_ble_eq_true rfl)) dX0_perform_227 (fun r17 Gr17 br17 sr17 F => ?_)
    refine g_if_eq 273 dX0_perform_230 (by decide) (fun h20 => ?_) (fun h20 => ?_)
    · have F := F.1 h20
      exact F
    · have F := F.2 h20
      refine g_bipush (v := 6) dX0_perform_233 (by decide) ?_
      refine s_istore (lv' := [(0, va_rf (some x)), (1, .int p1), (2, .int (gI G a2 (4 * p1).toNatClampNeg)), (3, .int (gI G a2 ((4 * p1) + 1).toNatClampNeg)), (4, va_rf (gR G a7 p1.toNatClampNeg)), (5, .int 6)]) (cat_R (cat_I (cat_I (cat_I (cat_R (cat_I cat_nil)))))) dX0_perform_235 (by decide) rfl [1, 2, 3, 4, 5, 0] rfl ?_
      refine g_goto 273 dX0_perform_237 (by decide) ?_
      exact F
  ·
    by_cases h54 : r12 = 101491
    · have F := F.2.1 h54
      refine h_lsw 154 dX0_perform_36 (by decide) (off := 118) (by rw [h54]; decide +kernel) (by decide) ?_
      refine g_aload dX0_perform_154 4 rfl ?_
      refine h_ldcwS (tx := "fly") 31 (by decide +kernel) dX0_perform_156 ?_
      obtain ⟨c22, F⟩ := F
      refine h_callVI (ci := 15) (C := RJ5) (T := TJ5) (N := 4) (As := [va_rf (some (Γ.2.2.2 31))]) (rest := []) F 1 rfl rfl (lw_V q1882 q972 q2526 q115 q973) vm_J5_equals (by decide) e14 c22 rfl (room_of sc_nil (Nat.le_of_ble_eq_true rfl)) dX0_perform_159 (fun r21 Gr21 br21 sr21 F => ?_)
      refine g_if_eq 273 dX0_perform_162 (by decide) (fun h24 => ?_) (fun h24 => ?_)
      · have F := F.1 h24
        exact F
      · have F := F.2 h24
        refine g_iconst (v := 2) dX0_perform_165 (by decide) ?_
        refine s_istore (lv' := [(0, va_rf (some x)), (1, .int p1), (2, .int (gI G a2 (4 * p1).toNatClampNeg)), (3, .int (gI G a2 ((4 * p1) + 1).toNatClampNeg)), (4, va_rf (gR G a7 p1.toNatClampNeg)), (5, .int 2)]) (cat_R (cat_I (cat_I (cat_I (cat_R (cat_I cat_nil)))))) dX0_perform_166 (by decide) rfl [1, 2, 3, 4, 5, 0] rfl ?_
        refine g_goto 273 dX0_perform_168 (by decide) ?_
        exact F
    ·
      by_cases h55 : r12 = 107022
      · have F := F.2.2.1 h55
        refine h_lsw 120 dX0_perform_36 (by decide) (off := 84) (by rw [h55]; decide +kernel) (by decide) ?_
        refine g_aload dX0_perform_120 4 rfl ?_
        refine h_ldcwS (tx := "leg") 30 (by decide +kernel) dX0_perform_122 ?_
        obtain ⟨c26, F⟩ := F
        refine h_callVI (ci := 15) (C := RJ5) (T := TJ5) (N := 4) (As := [va_rf (some (Γ.2.2.2 30))]) (rest := []) F 1 rfl rfl (lw_V q1882 q972 q2526 q115 q973) vm_J5_equals (by decide) e14 c26 rfl (room_of sc_nil (Nat.le_of_ble_eq_true rfl)) dX0_perform_125 (fun r25 Gr25 br25 sr25 F => ?_)
        refine g_if_eq 273 dX0_perform_128 (by decide) (fun h28 => ?_) (fun h28 => ?_)
        · have F := F.1 h28
          exact F
        · have F := F.2 h28
          refine g_iconst (v := 0) dX0_perform_131 (by decide) ?_
          refine s_istore (lv' := [(0, va_rf (some x)), (1, .int p1), (2, .int (gI G a2 (4 * p1).toNatClampNeg)), (3, .int (gI G a2 ((4 * p1) + 1).toNatClampNeg)), (4, va_rf (gR G a7 p1.toNatClampNeg)), (5, .int 0)]) (cat_R (cat_I (cat_I (cat_I (cat_R (cat_I cat_nil)))))) dX0_perform_132 (by decide) rfl [1, 2, 3, 4, 5, 0] rfl ?_
          refine g_goto 273 dX0_perform_134 (by decide) ?_
          exact F
      ·
        by_cases h56 : r12 = 3062113
        · have F := F.2.2.2.1 h56
          refine h_lsw 137 dX0_perform_36 (by decide) (off := 101) (by rw [h56]; decide +kernel) (by decide) ?_
          refine g_aload dX0_perform_137 4 rfl ?_
          refine h_ldcwS (tx := "crew") 36 (by decide +kernel) dX0_perform_139 ?_
          obtain ⟨c30, F⟩ := F
          refine h_callVI (ci := 15) (C := RJ5) (T := TJ5) (N := 4) (As := [va_rf (some (Γ.2.2.2 36))]) (rest := []) F 1 rfl rfl (lw_V q1882 q972 q2526 q115 q973) vm_J5_equals (by decide) e14 c30 rfl (room_of sc_nil (Nat.le_of_ble_eq_true rfl)) dX0_perform_142 (fun r29 Gr29 br29 sr29 F => ?_)
          refine g_if_eq 273 dX0_perform_145 (by decide) (fun h32 => ?_) (fun h32 => ?_)
          · have F := F.1 h32
            exact F
          · have F := F.2 h32
            refine g_iconst (v := 1) dX0_perform_148 (by decide) ?_
            refine s_istore (lv' := [(0, va_rf (some x)), (1, .int p1), (2, .int (gI G a2 (4 * p1).toNatClampNeg)), (3, .int (gI G a2 ((4 * p1) + 1).toNatClampNeg)), (4, va_rf (gR G a7 p1.toNatClampNeg)), (5, .int 1)]) (cat_R (cat_I (cat_I (cat_I (cat_R (cat_I cat_nil)))))) dX0_perform_149 (by decide) rfl [1, 2, 3, 4, 5, 0] rfl ?_
            refine g_goto 273 dX0_perform_151 (by decide) ?_
            exact F
        ·
          by_cases h57 : r12 = 3092207
          · have F := F.2.2.2.2.1 h57
            refine h_lsw 188 dX0_perform_36 (by decide) (off := 152) (by rw [h57]; decide +kernel) (by decide) ?_
            refine g_aload dX0_perform_188 4 rfl ?_
            refine h_ldcwS (tx := "drop") 33 (by decide +kernel) dX0_perform_190 ?_
            obtain ⟨c34, F⟩ := F
            refine h_callVI (ci := 15) (C := RJ5) (T := TJ5) (N := 4) (As := [va_rf (some (Γ.2.2.2 33))]) (rest := []) F 1 rfl rfl (lw_V q1882 q972 q2526 q115 q973) vm_J5_equals (by decide) e14 c34 rfl (room_of sc_nil (Nat.le_of_ble_eq_true rfl)) dX0_perform_193 (fun r33 Gr33 br33 sr33 F => ?_)
            refine g_if_eq 273 dX0_perform_196 (by decide) (fun h36 => ?_) (fun h36 => ?_)
            · have F := F.1 h36
              exact F
            · have F := F.2 h36
              refine g_iconst (v := 4) dX0_perform_199 (by decide) ?_
              refine s_istore (lv' := [(0, va_rf (some x)), (1, .int p1), (2, .int (gI G a2 (4 * p1).toNatClampNeg)), (3, .int (gI G a2 ((4 * p1) + 1).toNatClampNeg)), (4, va_rf (gR G a7 p1.toNatClampNeg)), (5, .int 4)]) (cat_R (cat_I (cat_I (cat_I (cat_R (cat_I cat_nil)))))) dX0_perform_200 (by decide) rfl [1, 2, 3, 4, 5, 0] rfl ?_
              refine g_goto 273 dX0_perform_202 (by decide) ?_
              exact F
          ·
            by_cases h58 : r12 = 3314342
            · have F := F.2.2.2.2.2.1 h58
              refine h_lsw 205 dX0_perform_36 (by decide) (off := 169) (by rw [h58]; decide +kernel) (by decide) ?_
              refine g_aload dX0_perform_205 4 rfl ?_
              refine h_ldcwS (tx := "late") 34 (by decide +kernel) dX0_perform_207 ?_
              obtain ⟨c38, F⟩ := F
              refine h_callVI (ci := 15) (C := RJ5) (T := TJ5) (N := 4) (As := [va_rf (some (Γ.2.2.2 34))]) (rest := []) F 1 rfl rfl (lw_V q1882 q972 q2526 q115 q973) vm_J5_equals (by decide) e14 c38 rfl (room_of sc_nil (Nat.le_of_ble_eq_true rfl)) dX0_perform_210 (fun r37 Gr37 br37 sr37 F => ?_)
              refine g_if_eq 273 dX0_perform_213 (by decide) (fun h40 => ?_) (fun h40 => ?_)
              · have F := F.1 h40
                exact F
              · have F := F.2 h40
                refine g_iconst (v := 5) dX0_perform_216 (by decide) ?_
                refine s_istore (lv' := [(0, va_rf (some x)), (1, .int p1), (2, .int (gI G a2 (4 * p1).toNatClampNeg)), (3, .int (gI G a2 ((4 * p1) + 1).toNatClampNeg)), (4, va_rf (gR G a7 p1.toNatClampNeg)), (5, .int 5)]) (cat_R (cat_I (cat_I (cat_I (cat_R (cat_I cat_nil)))))) dX0_perform_217 (by decide) rfl [1, 2, 3, 4, 5, 0] rfl ?_
                refine g_goto 273 dX0_perform_219 (by decide) ?_
                exact F
            ·
              by_cases h59 : r12 = 3433178
              · have F := F.2.2.2.2.2.2.1 h59
                refine h_lsw 258 dX0_perform_36 (by decide) (off := 222) (by rw [h59]; decide +kernel) (by decide) ?_
                refine g_aload dX0_perform_258 4 rfl ?_
                refine h_ldcwS (tx := "pair") 38 (by decide +kernel) dX0_perform_260 ?_
                obtain ⟨c42, F⟩ := F
                refine h_callVI (ci := 15) (C := RJ5) (T := TJ5) (N := 4) (As := [va_rf (some (Γ.2.2.2 38))]) (rest := []) F 1 rfl rfl (lw_V q1882 q972 q2526 q115 q973) vm_J5_equals (by decide) e14 c42 rfl (room_of sc_nil (Nat.le_of_ble_eq_true rfl)) dX0_perform_263 (fun r41 Gr41 br41 sr41 F => ?_)
                refine g_if_eq 273 dX0_perform_266 (by decide) (fun h44 => ?_) (fun h44 => ?_)
                · have F := F.1 h44
                  exact F
                · have F := F.2 h44
                  refine g_bipush (v := 8) dX0_perform_269 (by decide) ?_
                  refine s_istore (lv' := [(0, va_rf (some x)), (1, .int p1), (2, .int (gI G a2 (4 * p1).toNatClampNeg)), (3, .int (gI G a2 ((4 * p1) + 1).toNatClampNeg)), (4, va_rf (gR G a7 p1.toNatClampNeg)), (5, .int 8)]) (cat_R (cat_I (cat_I (cat_I (cat_R (cat_I cat_nil)))))) dX0_perform_271 (by decide) rfl [1, 2, 3, 4, 5, 0] rfl ?_
                  exact F
              ·
                by_cases h60 : r12 = 3500280
                · have F := F.2.2.2.2.2.2.2.1 h60
                  refine h_lsw 171 dX0_perform_36 (by decide) (off := 135) (by rw [h60]; decide +kernel) (by decide) ?_
                  refine g_aload dX0_perform_171 4 rfl ?_
                  refine h_ldcwS (tx := "ride") 32 (by decide +kernel) dX0_perform_173 ?_
                  obtain ⟨c46, F⟩ := F
                  refine h_callVI (ci := 15) (C := RJ5) (T := TJ5) (N := 4) (As := [va_rf (some (Γ.2.2.2 32))]) (rest := []) F 1 rfl rfl (lw_V q1882 q972 q2526 q115 q973) vm_J5_equals (by decide) e14 c46 rfl (room_of sc_nil (Nat.le_of_ble_eq_true rfl)) dX0_perform_176 (fun r45 Gr45 br45 sr45 F => ?_)
                  refine g_if_eq 273 dX0_perform_179 (by decide) (fun h48 => ?_) (fun h48 => ?_)
                  · have F := F.1 h48
                    exact F
                  · have F := F.2 h48
                    refine g_iconst (v := 3) dX0_perform_182 (by decide) ?_
                    refine s_istore (lv' := [(0, va_rf (some x)), (1, .int p1), (2, .int (gI G a2 (4 * p1).toNatClampNeg)), (3, .int (gI G a2 ((4 * p1) + 1).toNatClampNeg)), (4, va_rf (gR G a7 p1.toNatClampNeg)), (5, .int 3)]) (cat_R (cat_I (cat_I (cat_I (cat_R (cat_I cat_nil)))))) dX0_perform_183 (by decide) rfl [1, 2, 3, 4, 5, 0] rfl ?_
                    refine g_goto 273 dX0_perform_185 (by decide) ?_
                    exact F
                ·
                  by_cases h61 : r12 = 3512060
                  · have F := F.2.2.2.2.2.2.2.2.1 h61
                    refine h_lsw 240 dX0_perform_36 (by decide) (off := 204) (by rw [h61]; decide +kernel) (by decide) ?_
                    refine g_aload dX0_perform_240 4 rfl ?_
                    refine h_ldcwS (tx := "rule") 35 (by decide +kernel) dX0_perform_242 ?_
                    obtain ⟨c50, F⟩ := F
                    refine h_callVI (ci := 15) (C := RJ5) (T := TJ5) (N := 4) (As := [va_rf (some (Γ.2.2.2 35))]) (rest := []) F 1 rfl rfl (lw_V q1882 q972 q2526 q115 q973) vm_J5_equals (by decide) e14 c50 rfl (room_of sc_nil (Nat.le_of_ble_eq_true rfl)) dX0_perform_245 (fun r49 Gr49 br49 sr49 F => ?_)
                    refine g_if_eq 273 dX0_perform_248 (by decide) (fun h52 => ?_) (fun h52 => ?_)
                    · have F := F.1 h52
                      exact F
                    · have F := F.2 h52
                      refine g_bipush (v := 7) dX0_perform_251 (by decide) ?_
                      refine s_istore (lv' := [(0, va_rf (some x)), (1, .int p1), (2, .int (gI G a2 (4 * p1).toNatClampNeg)), (3, .int (gI G a2 ((4 * p1) + 1).toNatClampNeg)), (4, va_rf (gR G a7 p1.toNatClampNeg)), (5, .int 7)]) (cat_R (cat_I (cat_I (cat_I (cat_R (cat_I cat_nil)))))) dX0_perform_253 (by decide) rfl [1, 2, 3, 4, 5, 0] rfl ?_
                      refine g_goto 273 dX0_perform_255 (by decide) ?_
                      exact F
                  ·
                    have F := F.2.2.2.2.2.2.2.2.2 h53 h54 h55 h56 h57 h58 h59 h60 h61
                    refine h_lsw 273 dX0_perform_36 (by decide) (off := 237) ((lv_osw h53 rfl).trans ((lv_osw h54 rfl).trans ((lv_osw h55 rfl).trans ((lv_osw h56 rfl).trans ((lv_osw h57 rfl).trans ((lv_osw h58 rfl).trans ((lv_osw h59 rfl).trans ((lv_osw h60 rfl).trans ((lv_osw h61 rfl).trans rfl))))))))) (by decide) ?_
                    exact F
theorem rX0_perform_273 {Γ : GE} {l : Launch} {h MC MS : Nat} {Q : Option Value → GH → Prop} {bc bs : Nat} {G : GH} (x : Nat) (p1 : Int32) (p2 : Int32) (p3 : Int32) (p4 : Option Nat) (p5 : Int32) (F : ((p5 = 0 → (gC G x = kO 0 ∧ ∃ a3, (gR G x 24) = some a3 ∧ gC G a3 = kA 0 ∧ vp_in ((4 * p1) + 2) (gL G a3) ∧ vp_in ((4 * p1) + 3) (gL G a3) ∧ cI Γ l h mX0_addLeg [.ref x, .int p2, .int p3, .int (gI G a3 ((4 * p1) + 2).toNatClampNeg), .int (gI G a3 ((4 * p1) + 3).toNatClampNeg)] G bc bs fun r8 Gr8 br8 sr8 => Q (some (.int r8)) Gr8)) ∧ (p5 = 1 → (gC G x = kO 0 ∧ cI Γ l h mX0_addCrew [.ref x, .int p2] G bc bs fun r10 Gr10 br10 sr10 => Q (some (.int r10)) Gr10)) ∧ (p5 = 2 → (gC G x = kO 0 ∧ cI Γ l h mX0_fly [.ref x, .int p2, .int p3] G bc bs fun r13 Gr13 br13 sr13 => Q (some (.int r13)) Gr13)) ∧ (p5 = 3 → (gC G x = kO 0 ∧ cI Γ l h mX0_ride [.ref x, .int p2, .int p3] G bc bs fun r16 Gr16 br16 sr16 => Q (some (.int r16)) Gr16)) ∧ (p5 = 4 → (gC G x = kO 0 ∧ cI Γ l h mX0_drop [.ref x, .int p2, .int p3] G bc bs fun r19 Gr19 br19 sr19 => Q (some (.int r19)) Gr19)) ∧ (p5 = 5 → (gC G x = kO 0 ∧ cI Γ l h mX0_delay [.ref x, .int p2, .int p3] G bc bs fun r22 Gr22 br22 sr22 => Q (some (.int r22)) Gr22)) ∧ (p5 = 6 → (gC G x = kO 0 ∧ cI Γ l h mX0_cancel [.ref x, .int p2] G bc bs fun r25 Gr25 br25 sr25 => Q (some (.int r25)) Gr25)) ∧ (p5 = 7 → (gC G x = kO 0 ∧ cI Γ l h mX0_setRule [.ref x, .int p2, .int p3] G bc bs fun r28 Gr28 br28 sr28 => Q (some (.int r28)) Gr28)) ∧ (p5 = 8 → (gC G x = kO 0 ∧ cI Γ l h mX0_pair [.ref x] G bc bs fun r31 Gr31 br31 sr31 => Q (some (.int r31)) Gr31)) ∧ ((p5.toInt < 0 ∨ 8 < p5.toInt) → (gC G x = kO 0 ∧ cI Γ l h mX0_repair [.ref x] G bc bs fun r34 Gr34 br34 sr34 => Q (some (.int r34)) Gr34)))) : GW Γ l mX0_perform h MC MS Q 273 [(0, va_rf (some x)), (1, .int p1), (2, .int p2), (3, .int p3), (4, va_rf p4), (5, .int p5)] [] G bc bs := by
  refine g_iload dX0_perform_273 5 rfl ?_
  by_cases h1 : (p5.toInt < 0 ∨ 8 < p5.toInt)
  · have F := F.2.2.2.2.2.2.2.2.2 h1
    refine h_tout 403 dX0_perform_275 h1 (by decide) ?_
    refine g_aload_n dX0_perform_403 rfl 0 rfl ?_
    obtain ⟨c35, F⟩ := F
    refine h_callVI (ci := 0) (C := RX0) (T := TX0) (N := 25) (As := []) (rest := []) F 0 rfl rfl (lw_V q1979 q1451 q1452 q108 q1453) vm_X0_repair (by decide) rfl c35 rfl (room_of sc_nil (Nat.le_of_ble_eq_true rfl)) dX0_perform_404 (fun r34 Gr34 br34 sr34 F => ?_)
    exact g_iret rfl dX0_perform_407 F
  · have zh1 : p5.toInt = 0 ∨ p5.toInt = 1 ∨ p5.toInt = 2 ∨ p5.toInt = 3 ∨ p5.toInt = 4 ∨ p5.toInt = 5 ∨ p5.toInt = 6 ∨ p5.toInt = 7 ∨ p5.toInt = 8 := by omega
    rcases zh1 with zh1 | zh1 | zh1 | zh1 | zh1 | zh1 | zh1 | zh1 | zh1
    · have F := F.1 (tsw_eq zh1 (by decide))
      refine h_tin 324 dX0_perform_275 zh1 (by decide) (by decide) rfl (by decide) ?_
      refine g_aload_n dX0_perform_324 rfl 0 rfl ?_
      refine g_iload_n dX0_perform_325 rfl 2 rfl ?_
      refine g_iload_n dX0_perform_326 rfl 3 rfl ?_
      refine g_aload_n dX0_perform_327 rfl 0 rfl ?_
      obtain ⟨c2, F⟩ := F
      refine h_get (v := va_rf (gR G x 24)) 0 24 (C := RX0) (T := TX0) (N := 25) rfl in_X0 (by decide) q261 (Or.inl rfl) rfl c2 rfl dX0_perform_328 ?_
      refine g_iconst (v := 4) dX0_perform_331 (by decide) ?_
      refine g_iload_n dX0_perform_332 rfl 1 rfl ?_
      refine g_imul dX0_perform_333 ?_
      refine g_iconst (v := 2) dX0_perform_334 (by decide) ?_
      refine g_iadd dX0_perform_335 ?_
      obtain ⟨a3, e4, F⟩ := F
      obtain ⟨c5, F⟩ := F
      obtain ⟨k6, F⟩ := F
      refine h_iald e4 c5 k6 dX0_perform_336 ?_
      refine g_aload_n dX0_perform_337 rfl 0 rfl ?_
      refine h_get (v := va_rf (gR G x 24)) 0 24 (C := RX0) (T := TX0) (N := 25) rfl in_X0 (by decide) q261 (Or.inl rfl) rfl c2 rfl dX0_perform_338 ?_
      refine g_iconst (v := 4) dX0_perform_341 (by decide) ?_
      refine g_iload_n dX0_perform_342 rfl 1 rfl ?_
      refine g_imul dX0_perform_343 ?_
      refine g_iconst (v := 3) dX0_perform_344 (by decide) ?_
      refine g_iadd dX0_perform_345 ?_
      obtain ⟨k7, F⟩ := F
      refine h_iald e4 c5 k7 dX0_perform_346 ?_
      refine h_callVI (ci := 0) (C := RX0) (T := TX0) (N := 25) (As := [.int p2, .int p3, .int (gI G a3 ((4 * p1) + 2).toNatClampNeg), .int (gI G a3 ((4 * p1) + 3).toNatClampNeg)]) (rest := []) F 4 rfl rfl (lw_V q1970 q495 q496 q108 q497) vm_X0_addLeg (by decide) rfl c2 rfl (room_of sc_nil (Nat.le_of_ble_eq_true rfl)) dX0_perform_347 (fun r8 Gr8 br8 sr8 F => ?_)
      exact g_iret rfl dX0_perform_350 F
    · have F := F.2.1 (tsw_eq zh1 (by decide))
      refine h_tin 351 dX0_perform_275 zh1 (by decide) (by decide) rfl (by decide) ?_
      refine g_aload_n dX0_perform_351 rfl 0 rfl ?_
      refine g_iload_n dX0_perform_352 rfl 2 rfl ?_
      obtain ⟨c11, F⟩ := F
      refine h_callVI (ci := 0) (C := RX0) (T := TX0) (N := 25) (As := [.int p2]) (rest := []) F 1 rfl rfl (lw_V q1971 q1067 q1068 q108 q1069) vm_X0_addCrew (by decide) rfl c11 rfl (room_of sc_nil (Nat.le_of_ble_eq_true rfl)) dX0_perform_353 (fun r10 Gr10 br10 sr10 F => ?_)
      exact g_iret rfl dX0_perform_356 F
    · have F := F.2.2.1 (tsw_eq zh1 (by decide))
      refine h_tin 357 dX0_perform_275 zh1 (by decide) (by decide) rfl (by decide) ?_
      refine g_aload_n dX0_perform_357 rfl 0 rfl ?_
      refine g_iload_n dX0_perform_358 rfl 2 rfl ?_
      refine g_iload_n dX0_perform_359 rfl 3 rfl ?_
      obtain ⟨c14, F⟩ := F
      refine h_callVI (ci := 0) (C := RX0) (T := TX0) (N := 25) (As := [.int p2, .int p3]) (rest := []) F 2 rfl rfl (lw_V q1972 q1115 q1116 q108 q1117) vm_X0_fly (by decide) rfl c14 rfl (room_of sc_nil (Nat.le_of_ble_eq_true rfl)) dX0_perform_360 (fun r13 Gr13 br13 sr13 F => ?_)
      exact g_iret rfl dX0_perform_363 F
    · have F := F.2.2.2.1 (tsw_eq zh1 (by decide))
      refine h_tin 364 dX0_perform_275 zh1 (by decide) (by decide) rfl (by decide) ?_
      refine g_aload_n dX0_perform_364 rfl 0 rfl ?_
      refine g_iload_n dX0_perform_365 rfl 2 rfl ?_
      refine g_iload_n dX0_perform_366 rfl 3 rfl ?_
      obtain ⟨c17, F⟩ := F
      refine h_callVI (ci := 0) (C := RX0) (T := TX0) (N := 25) (As := [.int p2, .int p3]) (rest := []) F 2 rfl rfl (lw_V q1973 q1226 q1227 q108 q1228) vm_X0_ride (by decide) rfl c17 rfl (room_of sc_nil (Nat.le_of_ble_eq_true rfl)) dX0_perform_367 (fun r16 Gr16 br16 sr16 F => ?_)
      exact g_iret rfl dX0_perform_370 F
    · have F := F.2.2.2.2.1 (tsw_eq zh1 (by decide))
      refine h_tin 371 dX0_perform_275 zh1 (by decide) (by decide) rfl (by decide) ?_
      refine g_aload_n dX0_perform_371 rfl 0 rfl ?_
      refine g_iload_n dX0_perform_372 rfl 2 rfl ?_
      refine g_iload_n dX0_perform_373 rfl 3 rfl ?_
      obtain ⟨c20, F⟩ := F
      refine h_callVI (ci := 0) (C := RX0) (T := TX0) (N := 25) (As := [.int p2, .int p3]) (rest := []) F 2 rfl rfl (lw_V q1974 q1230 q1231 q108 q1232) vm_X0_drop (by decide) rfl c20 rfl (room_of sc_nil (Nat.le_of_ble_eq_true rfl)) dX0_perform_374 (fun r19 Gr19 br19 sr19 F => ?_)
      exact g_iret rfl dX0_perform_377 F
    · have F := F.2.2.2.2.2.1 (tsw_eq zh1 (by decide))
      refine h_tin 378 dX0_perform_275 zh1 (by decide) (by decide) rfl (by decide) ?_
      refine g_aload_n dX0_perform_378 rfl 0 rfl ?_
      refine g_iload_n dX0_perform_379 rfl 2 rfl ?_
      refine g_iload_n dX0_perform_380 rfl 3 rfl ?_
      obtain ⟨c23, F⟩ := F
      refine h_callVI (ci := 0) (C := RX0) (T := TX0) (N := 25) (As := [.int p2, .int p3]) (rest := []) F 2 rfl rfl (lw_V q1975 q1322 q1323 q108 q1324) vm_X0_delay (by decide) rfl c23 rfl (room_of sc_nil (Nat.le_of_ble_eq_true rfl)) dX0_perform_381 (fun r22 Gr22 br22 sr22 F => ?_)
      exact g_iret rfl dX0_perform_384 F
    · have F := F.2.2.2.2.2.2.1 (tsw_eq zh1 (by decide))
      refine h_tin 385 dX0_perform_275 zh1 (by decide) (by decide) rfl (by decide) ?_
      refine g_aload_n dX0_perform_385 rfl 0 rfl ?_
      refine g_iload_n dX0_perform_386 rfl 2 rfl ?_
      obtain ⟨c26, F⟩ := F
      refine h_callVI (ci := 0) (C := RX0) (T := TX0) (N := 25) (As := [.int p2]) (rest := []) F 1 rfl rfl (lw_V q1976 q1330 q1331 q108 q1332) vm_X0_cancel (by decide) rfl c26 rfl (room_of sc_nil (Nat.le_of_ble_eq_true rfl)) dX0_perform_387 (fun r25 Gr25 br25 sr25 F => ?_)
      exact g_iret rfl dX0_perform_390 F
    · have F := F.2.2.2.2.2.2.2.1 (tsw_eq zh1 (by decide))
      refine h_tin 391 dX0_perform_275 zh1 (by decide) (by decide) rfl (by decide) ?_
      refine g_aload_n dX0_perform_391 rfl 0 rfl ?_
      refine g_iload_n dX0_perform_392 rfl 2 rfl ?_
      refine g_iload_n dX0_perform_393 rfl 3 rfl ?_
      obtain ⟨c29, F⟩ := F
      refine h_callVI (ci := 0) (C := RX0) (T := TX0) (N := 25) (As := [.int p2, .int p3]) (rest := []) F 2 rfl rfl (lw_V q1977 q1101 q1102 q108 q1103) vm_X0_setRule (by decide) rfl c29 rfl (room_of sc_nil (Nat.le_of_ble_eq_true rfl)) dX0_perform_394 (fun r28 Gr28 br28 sr28 F => ?_)
      exact g_iret rfl dX0_perform_397 F
    · have F := F.2.2.2.2.2.2.2.2.1 (tsw_eq zh1 (by decide))
      refine h_tin 398 dX0_perform_275 zh1 (by decide) (by decide) rfl (by decide) ?_
      refine g_aload_n dX0_perform_398 rfl 0 rfl ?_
      obtain ⟨c32, F⟩ := F
      refine h_callVI (ci := 0) (C := RX0) (T := TX0) (N := 25) (As := []) (rest := []) F 0 rfl rfl (lw_V q1978 q1443 q1444 q108 q1445) vm_X0_pair (by decide) rfl c32 rfl (room_of sc_nil (Nat.le_of_ble_eq_true rfl)) dX0_perform_399 (fun r31 Gr31 br31 sr31 F => ?_)
      exact g_iret rfl dX0_perform_402 F
theorem rX6_init_0 {Γ : GE} {l : Launch} {h MC MS : Nat} {Q : Option Value → GH → Prop} {bc bs : Nat} {G : GH} (x : Nat) (F : (0 < h ∧ Q none G)) : GW Γ l mX6_init h MC MS Q 0 [(0, va_rf (some x))] [] G bc bs := by
  refine g_aload_n dX6_init_0 rfl 0 rfl ?_
  obtain ⟨k1, F⟩ := F
  refine h_objInit q1358 q152 q153 rfl dX6_init_1 k1 (room_of sc_nil (Nat.le_of_ble_eq_true rfl)) ?_
  exact g_vret rfl dX6_init_4 F
theorem rX6_see_0 {Γ : GE} {l : Launch} {h MC MS : Nat} {Q : Option Value → GH → Prop} {bc bs : Nat} {G : GH} (x : Nat) (p1 : Option Nat) (F : (gC G x = kO 7 ∧ (((gR G x 0) = none → (gM G x = true ∧ Q none (sR G x 0 p1))) ∧ (∀ a2, (gR G x 0) = some a2 → (cI Γ l h mX6_isCheaper [va_rf p1, va_rf (gR G x 0)] G bc bs fun r5 Gr5 br5 sr5 => ((r5 = 0 → (Q none Gr5)) ∧ (¬ r5 = 0 → (gC Gr5 x = kO 7 ∧ gM Gr5 x = true ∧ Q none (sR Gr5 x 0 p1))))))))) : GW Γ l mX6_see h MC MS Q 0 [(0, va_rf (some x)), (1, va_rf p1)] [] G bc bs := by
  refine g_aload_n dX6_see_0 rfl 0 rfl ?_
  obtain ⟨c1, F⟩ := F
  refine h_get (v := va_rf (gR G x 0)) 7 0 (C := RX6) (T := TX6) (N := 1) rfl in_X6 (by decide) q1359 (Or.inl rfl) rfl c1 rfl dX6_see_1 ?_
  refine g_ifnull 18 dX6_see_4 (by decide) (fun e3 => ?_) (fun a2 e3 => ?_)
  · have F := F.1 e3
    refine g_aload_n dX6_see_18 rfl 0 rfl ?_
    refine g_aload_n dX6_see_19 rfl 1 rfl ?_
    obtain ⟨m4, F⟩ := F
    refine h_putR (mi := mX6_see) 7 0 (C := RX6) (T := TX6) (N := 1) rfl in_X6 tyX6_ok nmX6 (by decide) q1359 (Or.inl rfl) (Or.inl rfl) rfl rfl rfl c1 m4 dX6_see_20 ?_
    exact g_vret rfl dX6_see_23 F
  · have F := F.2 a2 e3
    refine g_aload_n dX6_see_7 rfl 1 rfl ?_
    refine g_aload_n dX6_see_8 rfl 0 rfl ?_
    refine h_get (v := va_rf (gR G x 0)) 7 0 (C := RX6) (T := TX6) (N := 1) rfl in_X6 (by decide) q1359 (Or.inl rfl) rfl c1 rfl dX6_see_9 ?_
    refine h_callSI (As := [va_rf p1, va_rf (gR G x 0)]) (rest := []) F 2 rfl (lw_S q1394 q1395 q140 q1396) vm_X6_isCheaper.2 (by decide) rfl (room_of sc_nil (Nat.le_of_ble_eq_true rfl)) dX6_see_12 (fun r5 Gr5 br5 sr5 F => ?_)
    refine g_if_eq 23 dX6_see_15 (by decide) (fun h9 => ?_) (fun h9 => ?_)
    · have F := F.1 h9
      exact g_vret rfl dX6_see_23 F
    · have F := F.2 h9
      refine g_aload_n dX6_see_18 rfl 0 rfl ?_
      refine g_aload_n dX6_see_19 rfl 1 rfl ?_
      obtain ⟨c7, F⟩ := F
      obtain ⟨m8, F⟩ := F
      refine h_putR (mi := mX6_see) 7 0 (C := RX6) (T := TX6) (N := 1) rfl in_X6 tyX6_ok nmX6 (by decide) q1359 (Or.inl rfl) (Or.inl rfl) rfl rfl rfl c7 m8 dX6_see_20 ?_
      exact g_vret rfl dX6_see_23 F
theorem rX6_isCheaper_0 {Γ : GE} {l : Launch} {h MC MS : Nat} {Q : Option Value → GH → Prop} {bc bs : Nat} {G : GH} (p0 : Option Nat) (p1 : Option Nat) (F : (∃ a2, p0 = some a2 ∧ gC G a2 = kO 6 ∧ cI Γ l h mX7_price [.ref a2] G bc bs fun r1 Gr1 br1 sr1 => ∃ a7, p1 = some a7 ∧ gC Gr1 a7 = kO 6 ∧ cI Γ l h mX7_price [.ref a7] Gr1 br1 sr1 fun r6 Gr6 br6 sr6 => ((r1 = r6 → (gC Gr6 a2 = kO 6 ∧ cI Γ l h mX7_minutes [.ref a2] Gr6 br6 sr6 fun r11 Gr11 br11 sr11 => gC Gr11 a7 = kO 6 ∧ cI Γ l h mX7_minutes [.ref a7] Gr11 br11 sr11 fun r14 Gr14 br14 sr14 => ((r14 ≤ r11 → (Q (some (.int 0)) Gr14)) ∧ (¬ r14 ≤ r11 → (Q (some (.int 1)) Gr14))))) ∧ (¬ r1 = r6 → (gC Gr6 a2 = kO 6 ∧ cI Γ l h mX7_price [.ref a2] Gr6 br6 sr6 fun r18 Gr18 br18 sr18 => gC Gr18 a7 = kO 6 ∧ cI Γ l h mX7_price [.ref a7] Gr18 br18 sr18 fun r21 Gr21 br21 sr21 => ((r21 ≤ r18 → (Q (some (.int 0)) Gr21)) ∧ (¬ r21 ≤ r18 → (Q (some (.int 1)) Gr21)))))))) : GW Γ l mX6_isCheaper h MC MS Q 0 [(0, va_rf p0), (1, va_rf p1)] [] G bc bs := by
  refine g_aload_n dX6_isCheaper_0 rfl 0 rfl ?_
  obtain ⟨a2, e3, F⟩ := F
  obtain ⟨c4, F⟩ := F
  refine h_callFI (ci := 6) (x := ⟨"CrewPairer$Priced", "price", "()I"⟩) (C := RX7) (T := TX7) (N := 4) (As := []) (rest := []) F 0 rfl rfl q1398 (by decide +kernel) q1402 q1404 q141 q1406 ⟨by decide +kernel, by decide +kernel, by decide +kernel⟩ (by decide) e3 c4 rfl (room_of sc_nil (Nat.le_of_ble_eq_true rfl)) dX6_isCheaper_1 (fun r1 Gr1 br1 sr1 F => ?_)
  refine g_aload_n dX6_isCheaper_6 rfl 1 rfl ?_
  obtain ⟨a7, e8, F⟩ := F
  obtain ⟨c9, F⟩ := F
  refine h_callFI (ci := 6) (x := ⟨"CrewPairer$Priced", "price", "()I"⟩) (C := RX7) (T := TX7) (N := 4) (As := []) (rest := [.int r1]) F 0 rfl rfl q1398 (by decide +kernel) q1402 q1404 q141 q1406 ⟨by decide +kernel, by decide +kernel, by decide +kernel⟩ (by decide) e8 c9 rfl (room_of (sc_I sc_nil) (Nat.le_of_ble_eq_true rfl)) dX6_isCheaper_7 (fun r6 Gr6 br6 sr6 F => ?_)
  refine g_icmp_eq 38 dX6_isCheaper_12 (by decide) (fun h25 => ?_) (fun h25 => ?_)
  · have F := F.1 h25
    refine g_aload_n dX6_isCheaper_38 rfl 0 rfl ?_
    obtain ⟨c12, F⟩ := F
    refine h_callFI (ci := 6) (x := ⟨"CrewPairer$Priced", "minutes", "()I"⟩) (C := RX7) (T := TX7) (N := 4) (As := []) (rest := []) F 0 rfl rfl q1408 (by decide +kernel) q1411 q1413 q141 q1415 ⟨by decide +kernel, by decide +kernel, by decide +kernel⟩ (by decide) e3 c12 rfl (room_of sc_nil (Nat.le_of_ble_eq_true rfl)) dX6_isCheaper_39 (fun r11 Gr11 br11 sr11 F => ?_)
    refine g_aload_n dX6_isCheaper_44 rfl 1 rfl ?_
    obtain ⟨c15, F⟩ := F
    refine h_callFI (ci := 6) (x := ⟨"CrewPairer$Priced", "minutes", "()I"⟩) (C := RX7) (T := TX7) (N := 4) (As := []) (rest := [.int r11]) F 0 rfl rfl q1408 (by decide +kernel) q1411 q1413 q141 q1415 ⟨by decide +kernel, by decide +kernel, by decide +kernel⟩ (by decide) e8 c15 rfl (room_of (sc_I sc_nil) (Nat.le_of_ble_eq_true rfl)) dX6_isCheaper_45 (fun r14 Gr14 br14 sr14 F => ?_)
    refine g_icmp_ge 57 dX6_isCheaper_50 (by decide) (fun h17 => ?_) (fun h17 => ?_)
    · have F := F.1 h17
      refine g_iconst (v := 0) dX6_isCheaper_57 (by decide) ?_
      exact g_zret rfl rfl dX6_isCheaper_58 F
    · have F := F.2 h17
      refine g_iconst (v := 1) dX6_isCheaper_53 (by decide) ?_
      refine g_goto 58 dX6_isCheaper_54 (by decide) ?_
      exact g_zret rfl rfl dX6_isCheaper_58 F
  · have F := F.2 h25
    refine g_aload_n dX6_isCheaper_15 rfl 0 rfl ?_
    obtain ⟨c19, F⟩ := F
    refine h_callFI (ci := 6) (x := ⟨"CrewPairer$Priced", "price", "()I"⟩) (C := RX7) (T := TX7) (N := 4) (As := []) (rest := []) F 0 rfl rfl q1398 (by decide +kernel) q1402 q1404 q141 q1406 ⟨by decide +kernel, by decide +kernel, by decide +kernel⟩ (by decide) e3 c19 rfl (room_of sc_nil (Nat.le_of_ble_eq_true rfl)) dX6_isCheaper_16 (fun r18 Gr18 br18 sr18 F => ?_)
    refine g_aload_n dX6_isCheaper_21 rfl 1 rfl ?_
    obtain ⟨c22, F⟩ := F
    refine h_callFI (ci := 6) (x := ⟨"CrewPairer$Priced", "price", "()I"⟩) (C := RX7) (T := TX7) (N := 4) (As := []) (rest := [.int r18]) F 0 rfl rfl q1398 (by decide +kernel) q1402 q1404 q141 q1406 ⟨by decide +kernel, by decide +kernel, by decide +kernel⟩ (by decide) e8 c22 rfl (room_of (sc_I sc_nil) (Nat.le_of_ble_eq_true rfl)) dX6_isCheaper_22 (fun r21 Gr21 br21 sr21 F => ?_)
    refine g_icmp_ge 34 dX6_isCheaper_27 (by decide) (fun h24 => ?_) (fun h24 => ?_)
    · have F := F.1 h24
      refine g_iconst (v := 0) dX6_isCheaper_34 (by decide) ?_
      refine g_goto 58 dX6_isCheaper_35 (by decide) ?_
      exact g_zret rfl rfl dX6_isCheaper_58 F
    · have F := F.2 h24
      refine g_iconst (v := 1) dX6_isCheaper_30 (by decide) ?_
      refine g_goto 58 dX6_isCheaper_31 (by decide) ?_
      exact g_zret rfl rfl dX6_isCheaper_58 F
theorem rX6_seeAll_0 {Γ : GE} {l : Launch} {h MC MS : Nat} {Q : Option Value → GH → Prop} {bc bs : Nat} {G : GH} (x : Nat) (p1 : Option Nat) (F : (GW Γ l mX6_seeAll h MC MS Q 2 [(0, va_rf (some x)), (1, va_rf p1), (2, .int 0)] [] G bc bs)) : GW Γ l mX6_seeAll h MC MS Q 0 [(0, va_rf (some x)), (1, va_rf p1)] [] G bc bs := by
  refine g_iconst (v := 0) dX6_seeAll_0 (by decide) ?_
  refine s_istore_n (lv' := [(0, va_rf (some x)), (1, va_rf p1), (2, .int 0)]) (cat_R (cat_R cat_nil)) dX6_seeAll_1 rfl (by decide) rfl [1, 2, 0] rfl ?_
  exact F
theorem rX6_seeAll_2 {Γ : GE} {l : Launch} {h MC MS : Nat} {Q : Option Value → GH → Prop} {bc bs : Nat} {G : GH} (x : Nat) (p1 : Option Nat) (p2 : Int32) (F : (∃ a2, p1 = some a2 ∧ gC G a2 = kO 9 ∧ cI Γ l h mJ2_size [.ref a2] G bc bs fun r1 Gr1 br1 sr1 => ((r1 ≤ p2 → (Q none Gr1)) ∧ (¬ r1 ≤ p2 → (gC Gr1 a2 = kO 9 ∧ cR Γ l h mJ2_get [.ref a2, .int p2] Gr1 br1 sr1 fun r6 Gr6 br6 sr6 => okCast Gr6 r6 "CrewPairer$Priced" ∧ gC Gr6 x = kO 7 ∧ cV Γ l h mX6_see [.ref x, va_rf r6] Gr6 br6 sr6 fun Gr10 br10 sr10 => GW Γ l mX6_seeAll h MC MS Q 2 [(0, va_rf (some x)), (1, va_rf p1), (2, .int (p2 + 1))] [] Gr10 br10 sr10))))) : GW Γ l mX6_seeAll h MC MS Q 2 [(0, va_rf (some x)), (1, va_rf p1), (2, .int p2)] [] G bc bs := by
  refine g_iload_n dX6_seeAll_2 rfl 2 rfl ?_
  refine g_aload_n dX6_seeAll_3 rfl 1 rfl ?_
  obtain ⟨a2, e3, F⟩ := F
  obtain ⟨c4, F⟩ := F
  refine h_callVI (ci := 9) (C := RJ2) (T := TJ2) (N := 3) (As := []) (rest := [.int p2]) F 0 rfl rfl (lw_V q1438 q328 q329 q112 q330) vm_J2_size (by decide) e3 c4 rfl (room_of (sc_I sc_nil) (Nat.le_of_ble_eq_true rfl)) dX6_seeAll_4 (fun r1 Gr1 br1 sr1 F => ?_)
  refine g_icmp_ge 28 dX6_seeAll_7 (by decide) (fun h13 => ?_) (fun h13 => ?_)
  · have F := F.1 h13
    exact g_vret rfl dX6_seeAll_28 F
  · have F := F.2 h13
    refine g_aload_n dX6_seeAll_10 rfl 0 rfl ?_
    refine g_aload_n dX6_seeAll_11 rfl 1 rfl ?_
    refine g_iload_n dX6_seeAll_12 rfl 2 rfl ?_
    obtain ⟨c7, F⟩ := F
    refine h_callVR (ci := 9) (C := RJ2) (T := TJ2) (N := 3) (As := [.int p2]) (rest := [va_rf (some x)]) F 1 rfl rfl (lw_V q1439 q332 q333 q112 q334) vm_J2_get (by decide) e3 c7 rfl (room_of (sc_R sc_nil) (Nat.le_of_ble_eq_true rfl)) dX6_seeAll_13 (fun r6 Gr6 br6 sr6 F => ?_)
    obtain ⟨k9, F⟩ := F
    refine h_castO q1440 k9 dX6_seeAll_16 ?_
    obtain ⟨c11, F⟩ := F
    refine h_callVV (ci := 7) (C := RX6) (T := TX6) (N := 1) (As := [va_rf r6]) (rest := []) F 1 rfl rfl (lw_V q1441 q1391 q1392 q140 q1393) vm_X6_see (by decide) rfl c11 rfl (room_of sc_nil (Nat.le_of_ble_eq_true rfl)) dX6_seeAll_19 (fun Gr10 br10 sr10 F => ?_)
    refine s_iinc (v := (p2 + 1)) (lv' := [(0, va_rf (some x)), (1, va_rf p1), (2, .int (p2 + 1))]) (cat_R (cat_R (cat_I cat_nil))) dX6_seeAll_22 (k0 := 2) rfl rfl (by decide) rfl [1, 2, 0] rfl ?_
    refine g_goto 2 dX6_seeAll_25 (by decide) ?_
    exact F
theorem rX1_init_0 {Γ : GE} {l : Launch} {h MC MS : Nat} {Q : Option Value → GH → Prop} {bc bs : Nat} {G : GH} (x : Nat) (F : (0 < h ∧ 1 ≤ bc ∧ 3 ≤ bs ∧ ∀ q2, gC G q2 = 0 → gA Γ q2 → cV Γ l h mJ2_init [.ref q2] (nO G q2 9) (bc - 1) (bs - 3) fun Gr7 br7 sr7 => gC Gr7 x = kO 2 ∧ gM Gr7 x = true ∧ 1 ≤ br7 ∧ 3 ≤ sr7 ∧ ∀ q11, gC (sR Gr7 x 0 (some q2)) q11 = 0 → gA Γ q11 → cV Γ l h mJ2_init [.ref q11] (nO (sR Gr7 x 0 (some q2)) q11 9) (br7 - 1) (sr7 - 3) fun Gr16 br16 sr16 => gC Gr16 x = kO 2 ∧ gM Gr16 x = true ∧ 1 ≤ br16 ∧ 8 ≤ sr16 ∧ ∀ q20, gC (sR Gr16 x 1 (some q11)) q20 = 0 → gA Γ q20 → gC (nA (sR Gr16 x 1 (some q11)) q20 0 8) q20 = kA 0 ∧ gM (nA (sR Gr16 x 1 (some q11)) q20 0 8) q20 = true ∧ vp_in 0 (gL (nA (sR Gr16 x 1 (some q11)) q20 0 8) q20) ∧ vp_in 1 (gL (sI (nA (sR Gr16 x 1 (some q11)) q20 0 8) q20 (0 : Int32).toNatClampNeg 30) q20) ∧ vp_in 2 (gL (sI (sI (nA (sR Gr16 x 1 (some q11)) q20 0 8) q20 (0 : Int32).toNatClampNeg 30) q20 (1 : Int32).toNatClampNeg 600) q20) ∧ vp_in 3 (gL (sI (sI (sI (nA (sR Gr16 x 1 (some q11)) q20 0 8) q20 (0 : Int32).toNatClampNeg 30) q20 (1 : Int32).toNatClampNeg 600) q20 (2 : Int32).toNatClampNeg 720) q20) ∧ vp_in 4 (gL (sI (sI (sI (sI (nA (sR Gr16 x 1 (some q11)) q20 0 8) q20 (0 : Int32).toNatClampNeg 30) q20 (1 : Int32).toNatClampNeg 600) q20 (2 : Int32).toNatClampNeg 720) q20 (3 : Int32).toNatClampNeg 480) q20) ∧ vp_in 5 (gL (sI (sI (sI (sI (sI (nA (sR Gr16 x 1 (some q11)) q20 0 8) q20 (0 : Int32).toNatClampNeg 30) q20 (1 : Int32).toNatClampNeg 600) q20 (2 : Int32).toNatClampNeg 720) q20 (3 : Int32).toNatClampNeg 480) q20 (4 : Int32).toNatClampNeg 4) q20) ∧ vp_in 6 (gL (sI (sI (sI (sI (sI (sI (nA (sR Gr16 x 1 (some q11)) q20 0 8) q20 (0 : Int32).toNatClampNeg 30) q20 (1 : Int32).toNatClampNeg 600) q20 (2 : Int32).toNatClampNeg 720) q20 (3 : Int32).toNatClampNeg 480) q20 (4 : Int32).toNatClampNeg 4) q20 (5 : Int32).toNatClampNeg 600) q20) ∧ vp_in 7 (gL (sI (sI (sI (sI (sI (sI (sI (nA (sR Gr16 x 1 (some q11)) q20 0 8) q20 (0 : Int32).toNatClampNeg 30) q20 (1 : Int32).toNatClampNeg 600) q20 (2 : Int32).toNatClampNeg 720) q20 (3 : Int32).toNatClampNeg 480) q20 (4 : Int32).toNatClampNeg 4) q20 (5 : Int32).toNatClampNeg 600) q20 (6 : Int32).toNatClampNeg 10) q20) ∧ gC (sI (sI (sI (sI (sI (sI (sI (sI (nA (sR Gr16 x 1 (some q11)) q20 0 8) q20 (0 : Int32).toNatClampNeg 30) q20 (1 : Int32).toNatClampNeg 600) q20 (2 : Int32).toNatClampNeg 720) q20 (3 : Int32).toNatClampNeg 480) q20 (4 : Int32).toNatClampNeg 4) q20 (5 : Int32).toNatClampNeg 600) q20 (6 : Int32).toNatClampNeg 10) q20 (7 : Int32).toNatClampNeg 500) x = kO 2 ∧ gM (sI (sI (sI (sI (sI (sI (sI (sI (nA (sR Gr16 x 1 (some q11)) q20 0 8) q20 (0 : Int32).toNatClampNeg 30) q20 (1 : Int32).toNatClampNeg 600) q20 (2 : Int32).toNatClampNeg 720) q20 (3 : Int32).toNatClampNeg 480) q20 (4 : Int32).toNatClampNeg 4) q20 (5 : Int32).toNatClampNeg 600) q20 (6 : Int32).toNatClampNeg 10) q20 (7 : Int32).toNatClampNeg 500) x = true ∧ Q none (sR (sI (sI (sI (sI (sI (sI (sI (sI (nA (sR Gr16 x 1 (some q11)) q20 0 8) q20 (0 : Int32).toNatClampNeg 30) q20 (1 : Int32).toNatClampNeg 600) q20 (2 : Int32).toNatClampNeg 720) q20 (3 : Int32).toNatClampNeg 480) q20 (4 : Int32).toNatClampNeg 4) q20 (5 : Int32).toNatClampNeg 600) q20 (6 : Int32).toNatClampNeg 10) q20 (7 : Int32).toNatClampNeg 500) x 2 (some q20)))) : GW Γ l mX1_init h MC MS Q 0 [(0, va_rf (some x))] [] G bc bs := by
  refine g_aload_n dX1_init_0 rfl 0 rfl ?_
  obtain ⟨k1, F⟩ := F
  refine h_objInit q159 q152 q153 rfl dX1_init_1 k1 (room_of sc_nil (Nat.le_of_ble_eq_true rfl)) ?_
  refine g_aload_n dX1_init_4 rfl 0 rfl ?_
  obtain ⟨k4, F⟩ := F
  obtain ⟨k5, F⟩ := F
  refine g_new (C := RJ2) (T := TJ2) (N := 3) 9 rfl in_J2 tyJ2_ok nd_J2 q160 q161 q112 k4 k5 dX1_init_5 (fun q2 z3 z3' => ?_)
  have F := F q2 z3 z3'
  refine g_dup dX1_init_8 (va_rf_cat _) ?_
  refine h_callIV (As := []) (rest := [va_rf (some q2), va_rf (some x)]) F 0 rfl rfl (lw_meth q164) q112 q162 q163 rfl vm_J2_init.2 (by decide) rfl rfl (room_of (sc_R (sc_R sc_nil)) (Nat.le_of_ble_eq_true rfl)) dX1_init_9 (fun Gr7 br7 sr7 F => ?_)
  obtain ⟨c9, F⟩ := F
  obtain ⟨m10, F⟩ := F
  refine h_putR (mi := mX1_init) 2 0 (C := RX1) (T := TX1) (N := 3) rfl in_X1 tyX1_ok nmX1 (by decide) q186 (Or.inl rfl) (Or.inr ⟨rfl, rfl⟩) rfl rfl rfl c9 m10 dX1_init_12 ?_
  refine g_aload_n dX1_init_15 rfl 0 rfl ?_
  obtain ⟨k13, F⟩ := F
  obtain ⟨k14, F⟩ := F
  refine g_new (C := RJ2) (T := TJ2) (N := 3) 9 rfl in_J2 tyJ2_ok nd_J2 q160 q161 q112 k13 k14 dX1_init_16 (fun q11 z12 z12' => ?_)
  have F := F q11 z12 z12'
  refine g_dup dX1_init_19 (va_rf_cat _) ?_
  refine h_callIV (As := []) (rest := [va_rf (some q11), va_rf (some x)]) F 0 rfl rfl (lw_meth q164) q112 q162 q163 rfl vm_J2_init.2 (by decide) rfl rfl (room_of (sc_R (sc_R sc_nil)) (Nat.le_of_ble_eq_true rfl)) dX1_init_20 (fun Gr16 br16 sr16 F => ?_)
  obtain ⟨c18, F⟩ := F
  obtain ⟨m19, F⟩ := F
  refine h_putR (mi := mX1_init) 2 1 (C := RX1) (T := TX1) (N := 3) rfl in_X1 tyX1_ok nmX1 (by decide) q188 (Or.inl rfl) (Or.inr ⟨rfl, rfl⟩) rfl rfl rfl c18 m19 dX1_init_23 ?_
  refine g_aload_n dX1_init_26 rfl 0 rfl ?_
  refine g_bipush (v := 8) dX1_init_27 (by decide) ?_
  obtain ⟨k21, F⟩ := F
  obtain ⟨k22, F⟩ := F
  refine g_newa (atype := .int) 0 8 (by decide) rfl q199 (by decide) (by decide) (Nat.le_of_ble_eq_true rfl) k21 k22 dX1_init_29 (fun q20 z23 z23' => ?_)
  have F := F q20 z23 z23'
  refine g_dup dX1_init_31 (va_rf_cat _) ?_
  refine g_iconst (v := 0) dX1_init_32 (by decide) ?_
  refine g_bipush (v := 30) dX1_init_33 (by decide) ?_
  obtain ⟨c25, F⟩ := F
  obtain ⟨m26, F⟩ := F
  obtain ⟨k27, F⟩ := F
  refine h_iast rfl c25 m26 k27 dX1_init_35 ?_
  refine g_dup dX1_init_36 (va_rf_cat _) ?_
  refine g_iconst (v := 1) dX1_init_37 (by decide) ?_
  refine g_sipush (v := 600) dX1_init_38 (by decide) ?_
  obtain ⟨k28, F⟩ := F
  refine h_iast rfl c25 m26 k28 dX1_init_41 ?_
  refine g_dup dX1_init_42 (va_rf_cat _) ?_
  refine g_iconst (v := 2) dX1_init_43 (by decide) ?_
  refine g_sipush (v := 720) dX1_init_44 (by decide) ?_
  obtain ⟨k29, F⟩ := F
  refine h_iast rfl c25 m26 k29 dX1_init_47 ?_
  refine g_dup dX1_init_48 (va_rf_cat _) ?_
  refine g_iconst (v := 3) dX1_init_49 (by decide) ?_
  refine g_sipush (v := 480) dX1_init_50 (by decide) ?_
  obtain ⟨k30, F⟩ := F
  refine h_iast rfl c25 m26 k30 dX1_init_53 ?_
  refine g_dup dX1_init_54 (va_rf_cat _) ?_
  refine g_iconst (v := 4) dX1_init_55 (by decide) ?_
  refine g_iconst (v := 4) dX1_init_56 (by decide) ?_
  obtain ⟨k31, F⟩ := F
  refine h_iast rfl c25 m26 k31 dX1_init_57 ?_
  refine g_dup dX1_init_58 (va_rf_cat _) ?_
  refine g_iconst (v := 5) dX1_init_59 (by decide) ?_
  refine g_sipush (v := 600) dX1_init_60 (by decide) ?_
  obtain ⟨k32, F⟩ := F
  refine h_iast rfl c25 m26 k32 dX1_init_63 ?_
  refine g_dup dX1_init_64 (va_rf_cat _) ?_
  refine g_bipush (v := 6) dX1_init_65 (by decide) ?_
  refine g_bipush (v := 10) dX1_init_67 (by decide) ?_
  obtain ⟨k33, F⟩ := F
  refine h_iast rfl c25 m26 k33 dX1_init_69 ?_
  refine g_dup dX1_init_70 (va_rf_cat _) ?_
  refine g_bipush (v := 7) dX1_init_71 (by decide) ?_
  refine g_sipush (v := 500) dX1_init_73 (by decide) ?_
  obtain ⟨k34, F⟩ := F
  refine h_iast rfl c25 m26 k34 dX1_init_76 ?_
  obtain ⟨c35, F⟩ := F
  obtain ⟨m36, F⟩ := F
  refine h_putR (mi := mX1_init) 2 2 (C := RX1) (T := TX1) (N := 3) rfl in_X1 tyX1_ok nmX1 (by decide) q190 (Or.inl rfl) (Or.inr ⟨rfl, rfl⟩) rfl rfl rfl c35 m36 dX1_init_77 ?_
  exact g_vret rfl dX1_init_80 F
theorem rX1_copy_0 {Γ : GE} {l : Launch} {h MC MS : Nat} {Q : Option Value → GH → Prop} {bc bs : Nat} {G : GH} (x : Nat) (F : (1 ≤ bc ∧ 3 ≤ bs ∧ ∀ q1, gC G q1 = 0 → gA Γ q1 → cV Γ l h mX1_init [.ref q1] (nO G q1 2) (bc - 1) (bs - 3) fun Gr6 br6 sr6 => GW Γ l mX1_copy h MC MS Q 10 [(0, va_rf (some x)), (1, va_rf (some q1)), (2, .int 0)] [] Gr6 br6 sr6)) : GW Γ l mX1_copy h MC MS Q 0 [(0, va_rf (some x))] [] G bc bs := by
  obtain ⟨k3, F⟩ := F
  obtain ⟨k4, F⟩ := F
  refine g_new (C := RX1) (T := TX1) (N := 3) 2 rfl in_X1 tyX1_ok nd_X1 q325 q155 q109 k3 k4 dX1_copy_0 (fun q1 z2 z2' => ?_)
  have F := F q1 z2 z2'
  refine g_dup dX1_copy_3 (va_rf_cat _) ?_
  refine h_callIV (As := []) (rest := [va_rf (some q1)]) F 0 rfl rfl (lw_meth q158) q109 q326 q157 rfl vm_X1_init.2 (by decide) rfl rfl (room_of (sc_R sc_nil) (Nat.le_of_ble_eq_true rfl)) dX1_copy_4 (fun Gr6 br6 sr6 F => ?_)
  refine s_astore_n (lv' := [(0, va_rf (some x)), (1, va_rf (some q1))]) (cat_R cat_nil) dX1_copy_7 rfl (by decide) rfl [1, 0] rfl ?_
  refine g_iconst (v := 0) dX1_copy_8 (by decide) ?_
  refine s_istore_n (lv' := [(0, va_rf (some x)), (1, va_rf (some q1)), (2, .int 0)]) (cat_R (cat_R cat_nil)) dX1_copy_9 rfl (by decide) rfl [1, 2, 0] rfl ?_
  exact F
theorem rX1_copy_10 {Γ : GE} {l : Launch} {h MC MS : Nat} {Q : Option Value → GH → Prop} {bc bs : Nat} {G : GH} (x : Nat) (p1 : Option Nat) (p2 : Int32) (F : (gC G x = kO 2 ∧ ∃ a3, (gR G x 0) = some a3 ∧ gC G a3 = kO 9 ∧ cI Γ l h mJ2_size [.ref a3] G bc bs fun r2 Gr2 br2 sr2 => ((r2 ≤ p2 → (GW Γ l mX1_copy h MC MS Q 51 [(0, va_rf (some x)), (1, va_rf p1), (2, .int 0)] [] Gr2 br2 sr2)) ∧ (¬ r2 ≤ p2 → (∃ a7, p1 = some a7 ∧ gC Gr2 a7 = kO 2 ∧ gC Gr2 x = kO 2 ∧ ∃ a12, (gR Gr2 x 0) = some a12 ∧ gC Gr2 a12 = kO 9 ∧ cR Γ l h mJ2_get [.ref a12, .int p2] Gr2 br2 sr2 fun r11 Gr11 br11 sr11 => okCast Gr11 r11 "CrewPairer$Leg" ∧ ∃ a18, r11 = some a18 ∧ gC Gr11 a18 = kO 3 ∧ cR Γ l h mX4_copy [.ref a18] Gr11 br11 sr11 fun r17 Gr17 br17 sr17 => ∃ a23, (gR Gr2 a7 0) = some a23 ∧ gC Gr17 a23 = kO 9 ∧ cI Γ l h mJ2_add [.ref a23, va_rf r17] Gr17 br17 sr17 fun r22 Gr22 br22 sr22 => GW Γ l mX1_copy h MC MS Q 10 [(0, va_rf (some x)), (1, va_rf p1), (2, .int (p2 + 1))] [] Gr22 br22 sr22))))) : GW Γ l mX1_copy h MC MS Q 10 [(0, va_rf (some x)), (1, va_rf p1), (2, .int p2)] [] G bc bs := by
  refine g_iload_n dX1_copy_10 rfl 2 rfl ?_
  refine g_aload_n dX1_copy_11 rfl 0 rfl ?_
  obtain ⟨c1, F⟩ := F
  refine h_get (v := va_rf (gR G x 0)) 2 0 (C := RX1) (T := TX1) (N := 3) rfl in_X1 (by decide) q186 (Or.inl rfl) rfl c1 rfl dX1_copy_12 ?_
  obtain ⟨a3, e4, F⟩ := F
  obtain ⟨c5, F⟩ := F
  refine h_callVI (ci := 9) (C := RJ2) (T := TJ2) (N := 3) (As := []) (rest := [.int p2]) F 0 rfl rfl (lw_V q327 q328 q329 q112 q330) vm_J2_size (by decide) e4 c5 rfl (room_of (sc_I sc_nil) (Nat.le_of_ble_eq_true rfl)) dX1_copy_15 (fun r2 Gr2 br2 sr2 F => ?_)
  refine g_icmp_ge 49 dX1_copy_18 (by decide) (fun h27 => ?_) (fun h27 => ?_)
  · have F := F.1 h27
    refine g_iconst (v := 0) dX1_copy_49 (by decide) ?_
    refine s_istore_n (lv' := [(0, va_rf (some x)), (1, va_rf p1), (2, .int 0)]) (cat_R (cat_R (cat_I cat_nil))) dX1_copy_50 rfl (by decide) rfl [1, 2, 0] rfl ?_
    exact F
  · have F := F.2 h27
    refine g_aload_n dX1_copy_21 rfl 1 rfl ?_
    obtain ⟨a7, e8, F⟩ := F
    obtain ⟨c9, F⟩ := F
    refine h_get (v := va_rf (gR Gr2 a7 0)) 2 0 (C := RX1) (T := TX1) (N := 3) rfl in_X1 (by decide) q186 (Or.inl rfl) e8 c9 rfl dX1_copy_22 ?_
    refine g_aload_n dX1_copy_25 rfl 0 rfl ?_
    obtain ⟨c10, F⟩ := F
    refine h_get (v := va_rf (gR Gr2 x 0)) 2 0 (C := RX1) (T := TX1) (N := 3) rfl in_X1 (by decide) q186 (Or.inl rfl) rfl c10 rfl dX1_copy_26 ?_
    refine g_iload_n dX1_copy_29 rfl 2 rfl ?_
    obtain ⟨a12, e13, F⟩ := F
    obtain ⟨c14, F⟩ := F
    refine h_callVR (ci := 9) (C := RJ2) (T := TJ2) (N := 3) (As := [.int p2]) (rest := [va_rf (gR Gr2 a7 0)]) F 1 rfl rfl (lw_V q331 q332 q333 q112 q334) vm_J2_get (by decide) e13 c14 rfl (room_of (sc_R sc_nil) (Nat.le_of_ble_eq_true rfl)) dX1_copy_30 (fun r11 Gr11 br11 sr11 F => ?_)
    obtain ⟨k16, F⟩ := F
    refine h_castO q345 k16 dX1_copy_33 ?_
    obtain ⟨a18, e19, F⟩ := F
    obtain ⟨c20, F⟩ := F
    refine h_callVR (ci := 3) (C := RX4) (T := TX4) (N := 5) (As := []) (rest := [va_rf (gR Gr2 a7 0)]) F 0 rfl rfl (lw_V q346 q347 q348 q137 q349) vm_X4_copy (by decide) e19 c20 rfl (room_of (sc_R sc_nil) (Nat.le_of_ble_eq_true rfl)) dX1_copy_36 (fun r17 Gr17 br17 sr17 F => ?_)
    obtain ⟨a23, e24, F⟩ := F
    obtain ⟨c25, F⟩ := F
    refine h_callVI (ci := 9) (C := RJ2) (T := TJ2) (N := 3) (As := [va_rf r17]) (rest := []) F 1 rfl rfl (lw_V q377 q378 q379 q112 q380) vm_J2_add (by decide) e24 c25 rfl (room_of sc_nil (Nat.le_of_ble_eq_true rfl)) dX1_copy_39 (fun r22 Gr22 br22 sr22 F => ?_)
    refine g_pop dX1_copy_42 rfl ?_
    refine s_iinc (v := (p2 + 1)) (lv' := [(0, va_rf (some x)), (1, va_rf p1), (2, .int (p2 + 1))]) (cat_R (cat_R (cat_I cat_nil))) dX1_copy_43 (k0 := 2) rfl rfl (by decide) rfl [1, 2, 0] rfl ?_
    refine g_goto 10 dX1_copy_46 (by decide) ?_
    exact F
theorem rX1_copy_51 {Γ : GE} {l : Launch} {h MC MS : Nat} {Q : Option Value → GH → Prop} {bc bs : Nat} {G : GH} (x : Nat) (p1 : Option Nat) (p2 : Int32) (F : (gC G x = kO 2 ∧ ∃ a3, (gR G x 1) = some a3 ∧ gC G a3 = kO 9 ∧ cI Γ l h mJ2_size [.ref a3] G bc bs fun r2 Gr2 br2 sr2 => ((r2 ≤ p2 → (gC Gr2 x = kO 2 ∧ ∃ a8, p1 = some a8 ∧ gC Gr2 a8 = kO 2 ∧ ∃ a11, (gR Gr2 x 2) = some a11 ∧ gC Gr2 a11 = kA 0 ∧ gM Gr2 a11 = true ∧ ∃ a15, (gR Gr2 a8 2) = some a15 ∧ gC Gr2 a15 = kA 0 ∧ gM Gr2 a15 = true ∧ (0 : Int32).toNatClampNeg + (8 : Int32).toNatClampNeg ≤ gL Gr2 a11 ∧ (0 : Int32).toNatClampNeg + (8 : Int32).toNatClampNeg ≤ gL Gr2 a15 ∧ 0 < h ∧ ∀ H22, H22 = (wI Gr2 a15 (va_cpy (gI Gr2 a11) (gI Gr2 a15) (0 : Int32).toNatClampNeg (0 : Int32).toNatClampNeg (8 : Int32).toNatClampNeg)) → Q (some (va_rf p1)) H22)) ∧ (¬ r2 ≤ p2 → (∃ a25, p1 = some a25 ∧ gC Gr2 a25 = kO 2 ∧ gC Gr2 x = kO 2 ∧ ∃ a30, (gR Gr2 x 1) = some a30 ∧ gC Gr2 a30 = kO 9 ∧ cR Γ l h mJ2_get [.ref a30, .int p2] Gr2 br2 sr2 fun r29 Gr29 br29 sr29 => okCast Gr29 r29 "CrewPairer$Crew" ∧ ∃ a36, r29 = some a36 ∧ gC Gr29 a36 = kO 4 ∧ cR Γ l h mX5_copy [.ref a36] Gr29 br29 sr29 fun r35 Gr35 br35 sr35 => ∃ a41, (gR Gr2 a25 1) = some a41 ∧ gC Gr35 a41 = kO 9 ∧ cI Γ l h mJ2_add [.ref a41, va_rf r35] Gr35 br35 sr35 fun r40 Gr40 br40 sr40 => GW Γ l mX1_copy h MC MS Q 51 [(0, va_rf (some x)), (1, va_rf p1), (2, .int (p2 + 1))] [] Gr40 br40 sr40))))) : GW Γ l mX1_copy h MC MS Q 51 [(0, va_rf (some x)), (1, va_rf p1), (2, .int p2)] [] G bc bs := by
  refine g_iload_n dX1_copy_51 rfl 2 rfl ?_
  refine g_aload_n dX1_copy_52 rfl 0 rfl ?_
  obtain ⟨c1, F⟩ := F
  refine h_get (v := va_rf (gR G x 1)) 2 1 (C := RX1) (T := TX1) (N := 3) rfl in_X1 (by decide) q188 (Or.inl rfl) rfl c1 rfl dX1_copy_53 ?_
  obtain ⟨a3, e4, F⟩ := F
  obtain ⟨c5, F⟩ := F
  refine h_callVI (ci := 9) (C := RJ2) (T := TJ2) (N := 3) (As := []) (rest := [.int p2]) F 0 rfl rfl (lw_V q327 q328 q329 q112 q330) vm_J2_size (by decide) e4 c5 rfl (room_of (sc_I sc_nil) (Nat.le_of_ble_eq_true rfl)) dX1_copy_56 (fun r2 Gr2 br2 sr2 F => ?_)
  refine g_icmp_ge 90 dX1_copy_59 (by decide) (fun h45 => ?_) (fun h45 => ?_)
  · have F := F.1 h45
    refine g_aload_n dX1_copy_90 rfl 0 rfl ?_
    obtain ⟨c7, F⟩ := F
    refine h_get (v := va_rf (gR Gr2 x 2)) 2 2 (C := RX1) (T := TX1) (N := 3) rfl in_X1 (by decide) q190 (Or.inl rfl) rfl c7 rfl dX1_copy_91 ?_
    refine g_iconst (v := 0) dX1_copy_94 (by decide) ?_
    refine g_aload_n dX1_copy_95 rfl 1 rfl ?_
    obtain ⟨a8, e9, F⟩ := F
    obtain ⟨c10, F⟩ := F
    refine h_get (v := va_rf (gR Gr2 a8 2)) 2 2 (C := RX1) (T := TX1) (N := 3) rfl in_X1 (by decide) q190 (Or.inl rfl) e9 c10 rfl dX1_copy_96 ?_
    refine g_iconst (v := 0) dX1_copy_99 (by decide) ?_
    refine g_bipush (v := 8) dX1_copy_100 (by decide) ?_
    obtain ⟨a11, e12, F⟩ := F
    obtain ⟨c13, F⟩ := F
    obtain ⟨m14, F⟩ := F
    obtain ⟨a15, e16, F⟩ := F
    obtain ⟨c17, F⟩ := F
    obtain ⟨m18, F⟩ := F
    obtain ⟨k19, F⟩ := F
    obtain ⟨k20, F⟩ := F
    obtain ⟨k21, F⟩ := F
    refine h_copyi 0 (by decide) q479 q439 q438 q118 e12 c13 m14 e16 c17 m18 (by decide) (by decide) (by decide) k19 k20 (fun _ _ => rfl) k21 (room_of sc_nil (Nat.le_of_ble_eq_true rfl)) dX1_copy_102 ?_
    obtain ⟨H22, h23⟩ : ∃ g : GH, g = (wI Gr2 a15 (va_cpy (gI Gr2 a11) (gI Gr2 a15) (0 : Int32).toNatClampNeg (0 : Int32).toNatClampNeg (8 : Int32).toNatClampNeg)) := ⟨_, rfl⟩
    rw [← h23]
    have F := F H22 h23
    refine g_aload_n dX1_copy_105 rfl 1 rfl ?_
    exact g_aret (r := p1) rfl (Or.inl ⟨_, rfl⟩) dX1_copy_106 F
  · have F := F.2 h45
    refine g_aload_n dX1_copy_62 rfl 1 rfl ?_
    obtain ⟨a25, e26, F⟩ := F
    obtain ⟨c27, F⟩ := F
    refine h_get (v := va_rf (gR Gr2 a25 1)) 2 1 (C := RX1) (T := TX1) (N := 3) rfl in_X1 (by decide) q188 (Or.inl rfl) e26 c27 rfl dX1_copy_63 ?_
    refine g_aload_n dX1_copy_66 rfl 0 rfl ?_
    obtain ⟨c28, F⟩ := F
    refine h_get (v := va_rf (gR Gr2 x 1)) 2 1 (C := RX1) (T := TX1) (N := 3) rfl in_X1 (by decide) q188 (Or.inl rfl) rfl c28 rfl dX1_copy_67 ?_
    refine g_iload_n dX1_copy_70 rfl 2 rfl ?_
    obtain ⟨a30, e31, F⟩ := F
    obtain ⟨c32, F⟩ := F
    refine h_callVR (ci := 9) (C := RJ2) (T := TJ2) (N := 3) (As := [.int p2]) (rest := [va_rf (gR Gr2 a25 1)]) F 1 rfl rfl (lw_V q331 q332 q333 q112 q334) vm_J2_get (by decide) e31 c32 rfl (room_of (sc_R sc_nil) (Nat.le_of_ble_eq_true rfl)) dX1_copy_71 (fun r29 Gr29 br29 sr29 F => ?_)
    obtain ⟨k34, F⟩ := F
    refine h_castO q442 k34 dX1_copy_74 ?_
    obtain ⟨a36, e37, F⟩ := F
    obtain ⟨c38, F⟩ := F
    refine h_callVR (ci := 4) (C := RX5) (T := TX5) (N := 6) (As := []) (rest := [va_rf (gR Gr2 a25 1)]) F 0 rfl rfl (lw_V q443 q444 q445 q139 q446) vm_X5_copy (by decide) e37 c38 rfl (room_of (sc_R sc_nil) (Nat.le_of_ble_eq_true rfl)) dX1_copy_77 (fun r35 Gr35 br35 sr35 F => ?_)
    obtain ⟨a41, e42, F⟩ := F
    obtain ⟨c43, F⟩ := F
    refine h_callVI (ci := 9) (C := RJ2) (T := TJ2) (N := 3) (As := [va_rf r35]) (rest := []) F 1 rfl rfl (lw_V q377 q378 q379 q112 q380) vm_J2_add (by decide) e42 c43 rfl (room_of sc_nil (Nat.le_of_ble_eq_true rfl)) dX1_copy_80 (fun r40 Gr40 br40 sr40 F => ?_)
    refine g_pop dX1_copy_83 rfl ?_
    refine s_iinc (v := (p2 + 1)) (lv' := [(0, va_rf (some x)), (1, va_rf p1), (2, .int (p2 + 1))]) (cat_R (cat_R (cat_I cat_nil))) dX1_copy_84 (k0 := 2) rfl rfl (by decide) rfl [1, 2, 0] rfl ?_
    refine g_goto 51 dX1_copy_87 (by decide) ?_
    exact F
theorem rX5_copy_0 {Γ : GE} {l : Launch} {h MC MS : Nat} {Q : Option Value → GH → Prop} {bc bs : Nat} {G : GH} (x : Nat) (F : (1 ≤ bc ∧ 6 ≤ bs ∧ ∀ q1, gC G q1 = 0 → gA Γ q1 → gC (nO G q1 4) x = kO 4 ∧ cV Γ l h mX5_init [.ref q1, .int (gI (nO G q1 4) x 0)] (nO G q1 4) (bc - 1) (bs - 6) fun Gr7 br7 sr7 => gC Gr7 x = kO 4 ∧ gC Gr7 q1 = kO 4 ∧ ∃ a11, (gR Gr7 x 1) = some a11 ∧ gC Gr7 a11 = kA 0 ∧ gM Gr7 a11 = true ∧ ∃ a15, (gR Gr7 q1 1) = some a15 ∧ gC Gr7 a15 = kA 0 ∧ gM Gr7 a15 = true ∧ ¬ (gI Gr7 x 3) < 0 ∧ (0 : Int32).toNatClampNeg + (gI Gr7 x 3).toNatClampNeg ≤ gL Gr7 a11 ∧ (0 : Int32).toNatClampNeg + (gI Gr7 x 3).toNatClampNeg ≤ gL Gr7 a15 ∧ 0 < h ∧ ∀ H23, H23 = (wI Gr7 a15 (va_cpy (gI Gr7 a11) (gI Gr7 a15) (0 : Int32).toNatClampNeg (0 : Int32).toNatClampNeg (gI Gr7 x 3).toNatClampNeg)) → gC H23 x = kO 4 ∧ gC H23 q1 = kO 4 ∧ ∃ a28, (gR H23 x 2) = some a28 ∧ gC H23 a28 = kA 1 ∧ gM H23 a28 = true ∧ ∃ a32, (gR H23 q1 2) = some a32 ∧ gC H23 a32 = kA 1 ∧ gM H23 a32 = true ∧ ¬ (gI H23 x 3) < 0 ∧ (0 : Int32).toNatClampNeg + (gI H23 x 3).toNatClampNeg ≤ gL H23 a28 ∧ (0 : Int32).toNatClampNeg + (gI H23 x 3).toNatClampNeg ≤ gL H23 a32 ∧ (∀ i, i < (gI H23 x 3).toNatClampNeg → fits (gtyq 1) (.int (gI H23 a28 ((0 : Int32).toNatClampNeg + i))) = true) ∧ 0 < h ∧ ∀ H41, H41 = (wI H23 a32 (va_cpy (gI H23 a28) (gI H23 a32) (0 : Int32).toNatClampNeg (0 : Int32).toNatClampNeg (gI H23 x 3).toNatClampNeg)) → gC H41 x = kO 4 ∧ gC H41 q1 = kO 4 ∧ gM H41 q1 = true ∧ Q (some (va_rf (some q1))) (sI (sI (sI H41 q1 3 (gI H41 x 3)) q1 4 (gI (sI H41 q1 3 (gI H41 x 3)) x 4)) q1 5 (gI (sI (sI H41 q1 3 (gI H41 x 3)) q1 4 (gI (sI H41 q1 3 (gI H41 x 3)) x 4)) x 5)))) : GW Γ l mX5_copy h MC MS Q 0 [(0, va_rf (some x))] [] G bc bs := by
  obtain ⟨k3, F⟩ := F
  obtain ⟨k4, F⟩ := F
  refine g_new (C := RX5) (T := TX5) (N := 6) 4 rfl in_X5 tyX5_ok nd_X5 q447 q448 q139 k3 k4 dX5_copy_0 (fun q1 z2 z2' => ?_)
  have F := F q1 z2 z2'
  refine g_dup dX5_copy_3 (va_rf_cat _) ?_
  refine g_aload_n dX5_copy_4 rfl 0 rfl ?_
  obtain ⟨c6, F⟩ := F
  refine h_get (v := .int (gI (nO G q1 4) x 0)) 4 0 (C := RX5) (T := TX5) (N := 6) rfl in_X5 (by decide) q453 (Or.inl rfl) rfl c6 rfl dX5_copy_5 ?_
  refine h_callIV (As := [.int (gI (nO G q1 4) x 0)]) (rest := [va_rf (some q1)]) F 1 rfl rfl (lw_meth q451) q139 q449 q450 rfl vm_X5_init.2 (by decide) rfl rfl (room_of (sc_R sc_nil) (Nat.le_of_ble_eq_true rfl)) dX5_copy_8 (fun Gr7 br7 sr7 F => ?_)
  refine s_astore_n (lv' := [(0, va_rf (some x)), (1, va_rf (some q1))]) (cat_R cat_nil) dX5_copy_11 rfl (by decide) rfl [1, 0] rfl ?_
  refine g_aload_n dX5_copy_12 rfl 0 rfl ?_
  obtain ⟨c9, F⟩ := F
  refine h_get (v := va_rf (gR Gr7 x 1)) 4 1 (C := RX5) (T := TX5) (N := 6) rfl in_X5 (by decide) q455 (Or.inl rfl) rfl c9 rfl dX5_copy_13 ?_
  refine g_iconst (v := 0) dX5_copy_16 (by decide) ?_
  refine g_aload_n dX5_copy_17 rfl 1 rfl ?_
  obtain ⟨c10, F⟩ := F
  refine h_get (v := va_rf (gR Gr7 q1 1)) 4 1 (C := RX5) (T := TX5) (N := 6) rfl in_X5 (by decide) q455 (Or.inl rfl) rfl c10 rfl dX5_copy_18 ?_
  refine g_iconst (v := 0) dX5_copy_21 (by decide) ?_
  refine g_aload_n dX5_copy_22 rfl 0 rfl ?_
  refine h_get (v := .int (gI Gr7 x 3)) 4 3 (C := RX5) (T := TX5) (N := 6) rfl in_X5 (by decide) q459 (Or.inl rfl) rfl c9 rfl dX5_copy_23 ?_
  obtain ⟨a11, e12, F⟩ := F
  obtain ⟨c13, F⟩ := F
  obtain ⟨m14, F⟩ := F
  obtain ⟨a15, e16, F⟩ := F
  obtain ⟨c17, F⟩ := F
  obtain ⟨m18, F⟩ := F
  obtain ⟨k19, F⟩ := F
  obtain ⟨k20, F⟩ := F
  obtain ⟨k21, F⟩ := F
  obtain ⟨k22, F⟩ := F
  refine h_copyi 0 (by decide) q478 q439 q438 q118 e12 c13 m14 e16 c17 m18 (by decide) (by decide) k19 k20 k21 (fun _ _ => rfl) k22 (room_of sc_nil (Nat.le_of_ble_eq_true rfl)) dX5_copy_26 ?_
  obtain ⟨H23, h24⟩ : ∃ g : GH, g = (wI Gr7 a15 (va_cpy (gI Gr7 a11) (gI Gr7 a15) (0 : Int32).toNatClampNeg (0 : Int32).toNatClampNeg (gI Gr7 x 3).toNatClampNeg)) := ⟨_, rfl⟩
  rw [← h24]
  have F := F H23 h24
  refine g_aload_n dX5_copy_29 rfl 0 rfl ?_
  obtain ⟨c26, F⟩ := F
  refine h_get (v := va_rf (gR H23 x 2)) 4 2 (C := RX5) (T := TX5) (N := 6) rfl in_X5 (by decide) q457 (Or.inl rfl) rfl c26 rfl dX5_copy_30 ?_
  refine g_iconst (v := 0) dX5_copy_33 (by decide) ?_
  refine g_aload_n dX5_copy_34 rfl 1 rfl ?_
  obtain ⟨c27, F⟩ := F
  refine h_get (v := va_rf (gR H23 q1 2)) 4 2 (C := RX5) (T := TX5) (N := 6) rfl in_X5 (by decide) q457 (Or.inl rfl) rfl c27 rfl dX5_copy_35 ?_
  refine g_iconst (v := 0) dX5_copy_38 (by decide) ?_
  refine g_aload_n dX5_copy_39 rfl 0 rfl ?_
  refine h_get (v := .int (gI H23 x 3)) 4 3 (C := RX5) (T := TX5) (N := 6) rfl in_X5 (by decide) q459 (Or.inl rfl) rfl c26 rfl dX5_copy_40 ?_
  obtain ⟨a28, e29, F⟩ := F
  obtain ⟨c30, F⟩ := F
  obtain ⟨m31, F⟩ := F
  obtain ⟨a32, e33, F⟩ := F
  obtain ⟨c34, F⟩ := F
  obtain ⟨m35, F⟩ := F
  obtain ⟨k36, F⟩ := F
  obtain ⟨k37, F⟩ := F
  obtain ⟨k38, F⟩ := F
  obtain ⟨k39, F⟩ := F
  obtain ⟨k40, F⟩ := F
  refine h_copyi 1 (by decide) q478 q439 q438 q118 e29 c30 m31 e33 c34 m35 (by decide) (by decide) k36 k37 k38 k39 k40 (room_of sc_nil (Nat.le_of_ble_eq_true rfl)) dX5_copy_43 ?_
  obtain ⟨H41, h42⟩ : ∃ g : GH, g = (wI H23 a32 (va_cpy (gI H23 a28) (gI H23 a32) (0 : Int32).toNatClampNeg (0 : Int32).toNatClampNeg (gI H23 x 3).toNatClampNeg)) := ⟨_, rfl⟩
  rw [← h42]
  have F := F H41 h42
  refine g_aload_n dX5_copy_46 rfl 1 rfl ?_
  refine g_aload_n dX5_copy_47 rfl 0 rfl ?_
  obtain ⟨c44, F⟩ := F
  refine h_get (v := .int (gI H41 x 3)) 4 3 (C := RX5) (T := TX5) (N := 6) rfl in_X5 (by decide) q459 (Or.inl rfl) rfl c44 rfl dX5_copy_48 ?_
  obtain ⟨c45, F⟩ := F
  obtain ⟨m46, F⟩ := F
  refine h_putI (mi := mX5_copy) 4 3 (C := RX5) (T := TX5) (N := 6) rfl in_X5 tyX5_ok nmX5 (by decide) q459 (Or.inl rfl) (Or.inl rfl) rfl rfl c45 m46 rfl rfl dX5_copy_51 ?_
  refine g_aload_n dX5_copy_54 rfl 1 rfl ?_
  refine g_aload_n dX5_copy_55 rfl 0 rfl ?_
  refine h_get (v := .int (gI (sI H41 q1 3 (gI H41 x 3)) x 4)) 4 4 (C := RX5) (T := TX5) (N := 6) rfl in_X5 (by decide) q461 (Or.inl rfl) rfl c44 rfl dX5_copy_56 ?_
  refine h_putI (mi := mX5_copy) 4 4 (C := RX5) (T := TX5) (N := 6) rfl in_X5 tyX5_ok nmX5 (by decide) q461 (Or.inl rfl) (Or.inl rfl) rfl rfl c45 m46 rfl rfl dX5_copy_59 ?_
  refine g_aload_n dX5_copy_62 rfl 1 rfl ?_
  refine g_aload_n dX5_copy_63 rfl 0 rfl ?_
  refine h_get (v := .int (gI (sI (sI H41 q1 3 (gI H41 x 3)) q1 4 (gI (sI H41 q1 3 (gI H41 x 3)) x 4)) x 5)) 4 5 (C := RX5) (T := TX5) (N := 6) rfl in_X5 (by decide) q463 (Or.inl rfl) rfl c44 rfl dX5_copy_64 ?_
  refine h_putI (mi := mX5_copy) 4 5 (C := RX5) (T := TX5) (N := 6) rfl in_X5 tyX5_ok nmX5 (by decide) q463 (Or.inl rfl) (Or.inl rfl) rfl rfl c45 m46 rfl rfl dX5_copy_67 ?_
  refine g_aload_n dX5_copy_70 rfl 1 rfl ?_
  exact g_aret (r := (some q1)) rfl (Or.inl ⟨_, rfl⟩) dX5_copy_71 F
theorem rX5_init_0 {Γ : GE} {l : Launch} {h MC MS : Nat} {Q : Option Value → GH → Prop} {bc bs : Nat} {G : GH} (x : Nat) (p1 : Int32) (F : (0 < h ∧ 1 ≤ bc ∧ 24 ≤ bs ∧ ∀ q2, gC G q2 = 0 → gA Γ q2 → gC (nA G q2 0 24) x = kO 4 ∧ gM (nA G q2 0 24) x = true ∧ 1 ≤ (bc - 1) ∧ 24 ≤ (bs - 24) ∧ ∀ q9, gC (sR (nA G q2 0 24) x 1 (some q2)) q9 = 0 → gA Γ q9 → gC (nA (sR (nA G q2 0 24) x 1 (some q2)) q9 1 24) x = kO 4 ∧ gM (nA (sR (nA G q2 0 24) x 1 (some q2)) q9 1 24) x = true ∧ Q none (sI (sR (nA (sR (nA G q2 0 24) x 1 (some q2)) q9 1 24) x 2 (some q9)) x 0 p1))) : GW Γ l mX5_init h MC MS Q 0 [(0, va_rf (some x)), (1, .int p1)] [] G bc bs := by
  refine g_aload_n dX5_init_0 rfl 0 rfl ?_
  obtain ⟨k1, F⟩ := F
  refine h_objInit q452 q152 q153 rfl dX5_init_1 k1 (room_of sc_nil (Nat.le_of_ble_eq_true rfl)) ?_
  refine g_aload_n dX5_init_4 rfl 0 rfl ?_
  refine g_bipush (v := 24) dX5_init_5 (by decide) ?_
  obtain ⟨k3, F⟩ := F
  obtain ⟨k4, F⟩ := F
  refine g_newa (atype := .int) 0 24 (by decide) rfl q199 (by decide) (by decide) (Nat.le_of_ble_eq_true rfl) k3 k4 dX5_init_7 (fun q2 z5 z5' => ?_)
  have F := F q2 z5 z5'
  obtain ⟨c7, F⟩ := F
  obtain ⟨m8, F⟩ := F
  refine h_putR (mi := mX5_init) 4 1 (C := RX5) (T := TX5) (N := 6) rfl in_X5 tyX5_ok nmX5 (by decide) q455 (Or.inl rfl) (Or.inr ⟨rfl, rfl⟩) rfl rfl rfl c7 m8 dX5_init_9 ?_
  refine g_aload_n dX5_init_12 rfl 0 rfl ?_
  refine g_bipush (v := 24) dX5_init_13 (by decide) ?_
  obtain ⟨k10, F⟩ := F
  obtain ⟨k11, F⟩ := F
  refine g_newa (atype := .boolean) 1 24 (by decide) rfl q233 (by decide) (by decide) (Nat.le_of_ble_eq_true rfl) k10 k11 dX5_init_15 (fun q9 z12 z12' => ?_)
  have F := F q9 z12 z12'
  obtain ⟨c14, F⟩ := F
  obtain ⟨m15, F⟩ := F
  refine h_putR (mi := mX5_init) 4 2 (C := RX5) (T := TX5) (N := 6) rfl in_X5 tyX5_ok nmX5 (by decide) q457 (Or.inl rfl) (Or.inr ⟨rfl, rfl⟩) rfl rfl rfl c14 m15 dX5_init_17 ?_
  refine g_aload_n dX5_init_20 rfl 0 rfl ?_
  refine g_iload_n dX5_init_21 rfl 1 rfl ?_
  refine h_putI (mi := mX5_init) 4 0 (C := RX5) (T := TX5) (N := 6) rfl in_X5 tyX5_ok nmX5 (by decide) q453 (Or.inl rfl) (Or.inr ⟨rfl, rfl⟩) rfl rfl c14 m15 rfl rfl dX5_init_22 ?_
  exact g_vret rfl dX5_init_25 F
theorem rX5_find_0 {Γ : GE} {l : Launch} {h MC MS : Nat} {Q : Option Value → GH → Prop} {bc bs : Nat} {G : GH} (x : Nat) (p1 : Int32) (F : (GW Γ l mX5_find h MC MS Q 2 [(0, va_rf (some x)), (1, .int p1), (2, .int 0)] [] G bc bs)) : GW Γ l mX5_find h MC MS Q 0 [(0, va_rf (some x)), (1, .int p1)] [] G bc bs := by
  refine g_iconst (v := 0) dX5_find_0 (by decide) ?_
  refine s_istore_n (lv' := [(0, va_rf (some x)), (1, .int p1), (2, .int 0)]) (cat_R (cat_I cat_nil)) dX5_find_1 rfl (by decide) rfl [1, 2, 0] rfl ?_
  exact F
theorem rX5_find_2 {Γ : GE} {l : Launch} {h MC MS : Nat} {Q : Option Value → GH → Prop} {bc bs : Nat} {G : GH} (x : Nat) (p1 : Int32) (p2 : Int32) (F : (gC G x = kO 4 ∧ (((gI G x 3) ≤ p2 → (Q (some (.int (-1))) G)) ∧ (¬ (gI G x 3) ≤ p2 → (∃ a2, (gR G x 1) = some a2 ∧ gC G a2 = kA 0 ∧ vp_in p2 (gL G a2) ∧ ((¬ (gI G a2 p2.toNatClampNeg) = p1 → (GW Γ l mX5_find h MC MS Q 2 [(0, va_rf (some x)), (1, .int p1), (2, .int (p2 + 1))] [] G bc bs)) ∧ ((gI G a2 p2.toNatClampNeg) = p1 → (Q (some (.int p2)) G)))))))) : GW Γ l mX5_find h MC MS Q 2 [(0, va_rf (some x)), (1, .int p1), (2, .int p2)] [] G bc bs := by
  refine g_iload_n dX5_find_2 rfl 2 rfl ?_
  refine g_aload_n dX5_find_3 rfl 0 rfl ?_
  obtain ⟨c1, F⟩ := F
  refine h_get (v := .int (gI G x 3)) 4 3 (C := RX5) (T := TX5) (N := 6) rfl in_X5 (by decide) q459 (Or.inl rfl) rfl c1 rfl dX5_find_4 ?_
  refine g_icmp_ge 28 dX5_find_7 (by decide) (fun h7 => ?_) (fun h7 => ?_)
  · have F := F.1 h7
    refine g_iconst (v := (-1)) dX5_find_28 (by decide) ?_
    exact g_iret rfl dX5_find_29 F
  · have F := F.2 h7
    refine g_aload_n dX5_find_10 rfl 0 rfl ?_
    refine h_get (v := va_rf (gR G x 1)) 4 1 (C := RX5) (T := TX5) (N := 6) rfl in_X5 (by decide) q455 (Or.inl rfl) rfl c1 rfl dX5_find_11 ?_
    refine g_iload_n dX5_find_14 rfl 2 rfl ?_
    obtain ⟨a2, e3, F⟩ := F
    obtain ⟨c4, F⟩ := F
    obtain ⟨k5, F⟩ := F
    refine h_iald e3 c4 k5 dX5_find_15 ?_
    refine g_iload_n dX5_find_16 rfl 1 rfl ?_
    refine g_icmp_ne 22 dX5_find_17 (by decide) (fun h6 => ?_) (fun h6 => ?_)
    · have F := F.1 h6
      refine s_iinc (v := (p2 + 1)) (lv' := [(0, va_rf (some x)), (1, .int p1), (2, .int (p2 + 1))]) (cat_R (cat_I (cat_I cat_nil))) dX5_find_22 (k0 := 2) rfl rfl (by decide) rfl [1, 2, 0] rfl ?_
      refine g_goto 2 dX5_find_25 (by decide) ?_
      exact F
    · have F := F.2 h6
      refine g_iload_n dX5_find_20 rfl 2 rfl ?_
      exact g_iret rfl dX5_find_21 F
theorem rX5_removeAt_0 {Γ : GE} {l : Launch} {h MC MS : Nat} {Q : Option Value → GH → Prop} {bc bs : Nat} {G : GH} (x : Nat) (p1 : Int32) (F : (gC G x = kO 4 ∧ gM G x = true ∧ ∃ a3, (gR (sI G x 3 ((gI G x 3) - 1)) x 1) = some a3 ∧ gC (sI G x 3 ((gI G x 3) - 1)) a3 = kA 0 ∧ gM (sI G x 3 ((gI G x 3) - 1)) a3 = true ∧ ¬ (p1 + 1) < 0 ∧ ¬ p1 < 0 ∧ ¬ ((gI (sI G x 3 ((gI G x 3) - 1)) x 3) - p1) < 0 ∧ (p1 + 1).toNatClampNeg + ((gI (sI G x 3 ((gI G x 3) - 1)) x 3) - p1).toNatClampNeg ≤ gL (sI G x 3 ((gI G x 3) - 1)) a3 ∧ p1.toNatClampNeg + ((gI (sI G x 3 ((gI G x 3) - 1)) x 3) - p1).toNatClampNeg ≤ gL (sI G x 3 ((gI G x 3) - 1)) a3 ∧ 0 < h ∧ ∀ H13, H13 = (wI (sI G x 3 ((gI G x 3) - 1)) a3 (va_cpy (gI (sI G x 3 ((gI G x 3) - 1)) a3) (gI (sI G x 3 ((gI G x 3) - 1)) a3) (p1 + 1).toNatClampNeg p1.toNatClampNeg ((gI (sI G x 3 ((gI G x 3) - 1)) x 3) - p1).toNatClampNeg)) → gC H13 x = kO 4 ∧ ∃ a17, (gR H13 x 2) = some a17 ∧ gC H13 a17 = kA 1 ∧ gM H13 a17 = true ∧ ¬ (p1 + 1) < 0 ∧ ¬ p1 < 0 ∧ ¬ ((gI H13 x 3) - p1) < 0 ∧ (p1 + 1).toNatClampNeg + ((gI H13 x 3) - p1).toNatClampNeg ≤ gL H13 a17 ∧ p1.toNatClampNeg + ((gI H13 x 3) - p1).toNatClampNeg ≤ gL H13 a17 ∧ (∀ i, i < ((gI H13 x 3) - p1).toNatClampNeg → fits (gtyq 1) (.int (gI H13 a17 ((p1 + 1).toNatClampNeg + i))) = true) ∧ 0 < h ∧ ∀ H28, H28 = (wI H13 a17 (va_cpy (gI H13 a17) (gI H13 a17) (p1 + 1).toNatClampNeg p1.toNatClampNeg ((gI H13 x 3) - p1).toNatClampNeg)) → Q none H28)) : GW Γ l mX5_removeAt h MC MS Q 0 [(0, va_rf (some x)), (1, .int p1)] [] G bc bs := by
  refine g_aload_n dX5_removeAt_0 rfl 0 rfl ?_
  refine g_dup dX5_removeAt_1 (va_rf_cat _) ?_
  obtain ⟨c1, F⟩ := F
  refine h_get (v := .int (gI G x 3)) 4 3 (C := RX5) (T := TX5) (N := 6) rfl in_X5 (by decide) q459 (Or.inl rfl) rfl c1 rfl dX5_removeAt_2 ?_
  refine g_iconst (v := 1) dX5_removeAt_5 (by decide) ?_
  refine g_isub dX5_removeAt_6 ?_
  obtain ⟨m2, F⟩ := F
  refine h_putI (mi := mX5_removeAt) 4 3 (C := RX5) (T := TX5) (N := 6) rfl in_X5 tyX5_ok nmX5 (by decide) q459 (Or.inl rfl) (Or.inl rfl) rfl rfl c1 m2 rfl rfl dX5_removeAt_7 ?_
  refine g_aload_n dX5_removeAt_10 rfl 0 rfl ?_
  refine h_get (v := va_rf (gR (sI G x 3 ((gI G x 3) - 1)) x 1)) 4 1 (C := RX5) (T := TX5) (N := 6) rfl in_X5 (by decide) q455 (Or.inl rfl) rfl c1 rfl dX5_removeAt_11 ?_
  refine g_iload_n dX5_removeAt_14 rfl 1 rfl ?_
  refine g_iconst (v := 1) dX5_removeAt_15 (by decide) ?_
  refine g_iadd dX5_removeAt_16 ?_
  refine g_aload_n dX5_removeAt_17 rfl 0 rfl ?_
  refine h_get (v := va_rf (gR (sI G x 3 ((gI G x 3) - 1)) x 1)) 4 1 (C := RX5) (T := TX5) (N := 6) rfl in_X5 (by decide) q455 (Or.inl rfl) rfl c1 rfl dX5_removeAt_18 ?_
  refine g_iload_n dX5_removeAt_21 rfl 1 rfl ?_
  refine g_aload_n dX5_removeAt_22 rfl 0 rfl ?_
  refine h_get (v := .int (gI (sI G x 3 ((gI G x 3) - 1)) x 3)) 4 3 (C := RX5) (T := TX5) (N := 6) rfl in_X5 (by decide) q459 (Or.inl rfl) rfl c1 rfl dX5_removeAt_23 ?_
  refine g_iload_n dX5_removeAt_26 rfl 1 rfl ?_
  refine g_isub dX5_removeAt_27 ?_
  obtain ⟨a3, e4, F⟩ := F
  obtain ⟨c5, F⟩ := F
  obtain ⟨m6, F⟩ := F
  obtain ⟨k7, F⟩ := F
  obtain ⟨k8, F⟩ := F
  obtain ⟨k9, F⟩ := F
  obtain ⟨k10, F⟩ := F
  obtain ⟨k11, F⟩ := F
  obtain ⟨k12, F⟩ := F
  refine h_copyi 0 (by decide) q478 q439 q438 q118 e4 c5 m6 e4 c5 m6 k7 k8 k9 k10 k11 (fun _ _ => rfl) k12 (room_of sc_nil (Nat.le_of_ble_eq_true rfl)) dX5_removeAt_28 ?_
  obtain ⟨H13, h14⟩ : ∃ g : GH, g = (wI (sI G x 3 ((gI G x 3) - 1)) a3 (va_cpy (gI (sI G x 3 ((gI G x 3) - 1)) a3) (gI (sI G x 3 ((gI G x 3) - 1)) a3) (p1 + 1).toNatClampNeg p1.toNatClampNeg ((gI (sI G x 3 ((gI G x 3) - 1)) x 3) - p1).toNatClampNeg)) := ⟨_, rfl⟩
  rw [← h14]
  have F := F H13 h14
  refine g_aload_n dX5_removeAt_31 rfl 0 rfl ?_
  obtain ⟨c16, F⟩ := F
  refine h_get (v := va_rf (gR H13 x 2)) 4 2 (C := RX5) (T := TX5) (N := 6) rfl in_X5 (by decide) q457 (Or.inl rfl) rfl c16 rfl dX5_removeAt_32 ?_
  refine g_iload_n dX5_removeAt_35 rfl 1 rfl ?_
  refine g_iconst (v := 1) dX5_removeAt_36 (by decide) ?_
  refine g_iadd dX5_removeAt_37 ?_
  refine g_aload_n dX5_removeAt_38 rfl 0 rfl ?_
  refine h_get (v := va_rf (gR H13 x 2)) 4 2 (C := RX5) (T := TX5) (N := 6) rfl in_X5 (by decide) q457 (Or.inl rfl) rfl c16 rfl dX5_removeAt_39 ?_
  refine g_iload_n dX5_removeAt_42 rfl 1 rfl ?_
  refine g_aload_n dX5_removeAt_43 rfl 0 rfl ?_
  refine h_get (v := .int (gI H13 x 3)) 4 3 (C := RX5) (T := TX5) (N := 6) rfl in_X5 (by decide) q459 (Or.inl rfl) rfl c16 rfl dX5_removeAt_44 ?_
  refine g_iload_n dX5_removeAt_47 rfl 1 rfl ?_
  refine g_isub dX5_removeAt_48 ?_
  obtain ⟨a17, e18, F⟩ := F
  obtain ⟨c19, F⟩ := F
  obtain ⟨m20, F⟩ := F
  obtain ⟨k21, F⟩ := F
  obtain ⟨k22, F⟩ := F
  obtain ⟨k23, F⟩ := F
  obtain ⟨k24, F⟩ := F
  obtain ⟨k25, F⟩ := F
  obtain ⟨k26, F⟩ := F
  obtain ⟨k27, F⟩ := F
  refine h_copyi 1 (by decide) q478 q439 q438 q118 e18 c19 m20 e18 c19 m20 k21 k22 k23 k24 k25 k26 k27 (room_of sc_nil (Nat.le_of_ble_eq_true rfl)) dX5_removeAt_49 ?_
  obtain ⟨H28, h29⟩ : ∃ g : GH, g = (wI H13 a17 (va_cpy (gI H13 a17) (gI H13 a17) (p1 + 1).toNatClampNeg p1.toNatClampNeg ((gI H13 x 3) - p1).toNatClampNeg)) := ⟨_, rfl⟩
  rw [← h29]
  have F := F H28 h29
  exact g_vret rfl dX5_removeAt_52 F
theorem rX5_isReserve_0 {Γ : GE} {l : Launch} {h MC MS : Nat} {Q : Option Value → GH → Prop} {bc bs : Nat} {G : GH} (x : Nat) (F : (gC G x = kO 4 ∧ (((gI G x 5) ≤ (gI G x 4) → (Q (some (.int 0)) G)) ∧ (¬ (gI G x 5) ≤ (gI G x 4) → (Q (some (.int 1)) G))))) : GW Γ l mX5_isReserve h MC MS Q 0 [(0, va_rf (some x))] [] G bc bs := by
  refine g_aload_n dX5_isReserve_0 rfl 0 rfl ?_
  obtain ⟨c1, F⟩ := F
  refine h_get (v := .int (gI G x 5)) 4 5 (C := RX5) (T := TX5) (N := 6) rfl in_X5 (by decide) q463 (Or.inl rfl) rfl c1 rfl dX5_isReserve_1 ?_
  refine g_aload_n dX5_isReserve_4 rfl 0 rfl ?_
  refine h_get (v := .int (gI G x 4)) 4 4 (C := RX5) (T := TX5) (N := 6) rfl in_X5 (by decide) q461 (Or.inl rfl) rfl c1 rfl dX5_isReserve_5 ?_
  refine g_icmp_le 15 dX5_isReserve_8 (by decide) (fun h2 => ?_) (fun h2 => ?_)
  · have F := F.1 h2
    refine g_iconst (v := 0) dX5_isReserve_15 (by decide) ?_
    exact g_zret rfl rfl dX5_isReserve_16 F
  · have F := F.2 h2
    refine g_iconst (v := 1) dX5_isReserve_11 (by decide) ?_
    refine g_goto 16 dX5_isReserve_12 (by decide) ?_
    exact g_zret rfl rfl dX5_isReserve_16 F
theorem rX8_length_0 {Γ : GE} {l : Launch} {h MC MS : Nat} {Q : Option Value → GH → Prop} {bc bs : Nat} {G : GH} (x : Nat) (F : (gC G x = kO 3 ∧ cI Γ l h mX4_arrival [.ref x] G bc bs fun r1 Gr1 br1 sr1 => gC Gr1 x = kO 3 ∧ cI Γ l h mX4_departure [.ref x] Gr1 br1 sr1 fun r4 Gr4 br4 sr4 => Q (some (.int (r1 - r4))) Gr4)) : GW Γ l mX8_length h MC MS Q 0 [(0, va_rf (some x))] [] G bc bs := by
  refine g_aload_n dX8_length_0 rfl 0 rfl ?_
  obtain ⟨c2, F⟩ := F
  refine h_callFI (ci := 3) (x := ⟨"CrewPairer$Timed", "arrival", "()I"⟩) (C := RX4) (T := TX4) (N := 5) (As := []) (rest := []) F 0 rfl rfl q1192 (by decide +kernel) q1196 q1198 q137 q1200 ⟨by decide +kernel, by decide +kernel, by decide +kernel⟩ (by decide) rfl c2 rfl (room_of sc_nil (Nat.le_of_ble_eq_true rfl)) dX8_length_1 (fun r1 Gr1 br1 sr1 F => ?_)
  refine g_aload_n dX8_length_6 rfl 0 rfl ?_
  obtain ⟨c5, F⟩ := F
  refine h_callFI (ci := 3) (x := ⟨"CrewPairer$Timed", "departure", "()I"⟩) (C := RX4) (T := TX4) (N := 5) (As := []) (rest := [.int r1]) F 0 rfl rfl q1202 (by decide +kernel) q1205 q1207 q137 q1209 ⟨by decide +kernel, by decide +kernel, by decide +kernel⟩ (by decide) rfl c5 rfl (room_of (sc_I sc_nil) (Nat.le_of_ble_eq_true rfl)) dX8_length_7 (fun r4 Gr4 br4 sr4 F => ?_)
  refine g_isub dX8_length_12 ?_
  exact g_iret rfl dX8_length_13 F
theorem rX8_within_0 {Γ : GE} {l : Launch} {h MC MS : Nat} {Q : Option Value → GH → Prop} {bc bs : Nat} {G : GH} (x : Nat) (p1 : Int32) (p2 : Int32) (F : (gC G x = kO 3 ∧ cI Γ l h mX4_arrival [.ref x] G bc bs fun r1 Gr1 br1 sr1 => cI Γ l h mJ7_min [.int p2, .int r1] Gr1 br1 sr1 fun r4 Gr4 br4 sr4 => gC Gr4 x = kO 3 ∧ cI Γ l h mX4_departure [.ref x] Gr4 br4 sr4 fun r6 Gr6 br6 sr6 => cI Γ l h mJ7_max [.int p1, .int r6] Gr6 br6 sr6 fun r9 Gr9 br9 sr9 => cI Γ l h mJ7_max [.int 0, .int (r4 - r9)] Gr9 br9 sr9 fun r11 Gr11 br11 sr11 => Q (some (.int r11)) Gr11)) : GW Γ l mX8_within h MC MS Q 0 [(0, va_rf (some x)), (1, .int p1), (2, .int p2)] [] G bc bs := by
  refine g_iconst (v := 0) dX8_within_0 (by decide) ?_
  refine g_iload_n dX8_within_1 rfl 2 rfl ?_
  refine g_aload_n dX8_within_2 rfl 0 rfl ?_
  obtain ⟨c2, F⟩ := F
  refine h_callFI (ci := 3) (x := ⟨"CrewPairer$Timed", "arrival", "()I"⟩) (C := RX4) (T := TX4) (N := 5) (As := []) (rest := [.int p2, .int 0]) F 0 rfl rfl q1192 (by decide +kernel) q1196 q1198 q137 q1200 ⟨by decide +kernel, by decide +kernel, by decide +kernel⟩ (by decide) rfl c2 rfl (room_of (sc_I (sc_I sc_nil)) (Nat.le_of_ble_eq_true rfl)) dX8_within_3 (fun r1 Gr1 br1 sr1 F => ?_)
  refine h_callSI (As := [.int p2, .int r1]) (rest := [.int 0]) F 2 rfl (lw_S q1219 q435 q119 q436) vm_J7_min.2 (by decide) rfl (room_of (sc_I sc_nil) (Nat.le_of_ble_eq_true rfl)) dX8_within_8 (fun r4 Gr4 br4 sr4 F => ?_)
  refine g_iload_n dX8_within_11 rfl 1 rfl ?_
  refine g_aload_n dX8_within_12 rfl 0 rfl ?_
  obtain ⟨c7, F⟩ := F
  refine h_callFI (ci := 3) (x := ⟨"CrewPairer$Timed", "departure", "()I"⟩) (C := RX4) (T := TX4) (N := 5) (As := []) (rest := [.int p1, .int r4, .int 0]) F 0 rfl rfl q1202 (by decide +kernel) q1205 q1207 q137 q1209 ⟨by decide +kernel, by decide +kernel, by decide +kernel⟩ (by decide) rfl c7 rfl (room_of (sc_I (sc_I (sc_I sc_nil))) (Nat.le_of_ble_eq_true rfl)) dX8_within_13 (fun r6 Gr6 br6 sr6 F => ?_)
  refine h_callSI (As := [.int p1, .int r6]) (rest := [.int r4, .int 0]) F 2 rfl (lw_S q1220 q397 q119 q398) vm_J7_max.2 (by decide) rfl (room_of (sc_I (sc_I sc_nil)) (Nat.le_of_ble_eq_true rfl)) dX8_within_18 (fun r9 Gr9 br9 sr9 F => ?_)
  refine g_isub dX8_within_21 ?_
  refine h_callSI (As := [.int 0, .int (r4 - r9)]) (rest := []) F 2 rfl (lw_S q1220 q397 q119 q398) vm_J7_max.2 (by decide) rfl (room_of sc_nil (Nat.le_of_ble_eq_true rfl)) dX8_within_22 (fun r11 Gr11 br11 sr11 F => ?_)
  exact g_iret rfl dX8_within_25 F
theorem rX8_text_0 {Γ : GE} {l : Launch} {h MC MS : Nat} {Q : Option Value → GH → Prop} {bc bs : Nat} {G : GH} (x : Nat) (p1 : Int32) (F : (1 ≤ bc ∧ 4 ≤ bs ∧ ∀ q1, gC G q1 = 0 → gA Γ q1 → cV Γ l h mJ4_init [.ref q1] (nO G q1 14) (bc - 1) (bs - 4) fun Gr6 br6 sr6 => gC Gr6 x = kO 3 ∧ cR Γ l h mX4_way [.ref x] Gr6 br6 sr6 fun r8 Gr8 br8 sr8 => gC Gr8 q1 = kO 14 ∧ cR Γ l h mJ4_append_2 [.ref q1, va_rf r8] Gr8 br8 sr8 fun r11 Gr11 br11 sr11 => ∃ a15, r11 = some a15 ∧ gC Gr11 a15 = kO 14 ∧ cR Γ l h mJ4_append_2 [.ref a15, va_rf (some (Γ.2.2.2 21))] Gr11 br11 sr11 fun r14 Gr14 br14 sr14 => gC Gr14 x = kO 3 ∧ cI Γ l h mX4_departure [.ref x] Gr14 br14 sr14 fun r19 Gr19 br19 sr19 => cR Γ l h mX8_clock [.int r19] Gr19 br19 sr19 fun r22 Gr22 br22 sr22 => ∃ a25, r14 = some a25 ∧ gC Gr22 a25 = kO 14 ∧ cR Γ l h mJ4_append_2 [.ref a25, va_rf r22] Gr22 br22 sr22 fun r24 Gr24 br24 sr24 => ∃ a30, r24 = some a30 ∧ gC Gr24 a30 = kO 14 ∧ cR Γ l h mJ4_append_2 [.ref a30, va_rf (some (Γ.2.2.2 25))] Gr24 br24 sr24 fun r29 Gr29 br29 sr29 => gC Gr29 x = kO 3 ∧ cI Γ l h mX4_arrival [.ref x] Gr29 br29 sr29 fun r34 Gr34 br34 sr34 => cR Γ l h mX8_clock [.int r34] Gr34 br34 sr34 fun r37 Gr37 br37 sr37 => ∃ a40, r29 = some a40 ∧ gC Gr37 a40 = kO 14 ∧ cR Γ l h mJ4_append_2 [.ref a40, va_rf r37] Gr37 br37 sr37 fun r39 Gr39 br39 sr39 => ∃ a45, r39 = some a45 ∧ gC Gr39 a45 = kO 14 ∧ cR Γ l h mJ4_append_2 [.ref a45, va_rf (some (Γ.2.2.2 21))] Gr39 br39 sr39 fun r44 Gr44 br44 sr44 => ((p1 = 0 → (∃ a50, r44 = some a50 ∧ gC Gr44 a50 = kO 14 ∧ cR Γ l h mJ4_append_2 [.ref a50, va_rf (some (Γ.2.2.2 27))] Gr44 br44 sr44 fun r49 Gr49 br49 sr49 => ∃ a55, r49 = some a55 ∧ gC Gr49 a55 = kO 14 ∧ cR Γ l h mJ4_append_2 [.ref a55, va_rf (some (Γ.2.2.2 28))] Gr49 br49 sr49 fun r54 Gr54 br54 sr54 => ∃ a60, r54 = some a60 ∧ gC Gr54 a60 = kO 14 ∧ cR Γ l h mJ4_toString [.ref a60] Gr54 br54 sr54 fun r59 Gr59 br59 sr59 => Q (some (va_rf r59)) Gr59)) ∧ (¬ p1 = 0 → (∃ a65, r44 = some a65 ∧ gC Gr44 a65 = kO 14 ∧ cR Γ l h mJ4_append_2 [.ref a65, va_rf (some (Γ.2.2.2 26))] Gr44 br44 sr44 fun r64 Gr64 br64 sr64 => ∃ a70, r64 = some a70 ∧ gC Gr64 a70 = kO 14 ∧ cR Γ l h mJ4_append_2 [.ref a70, va_rf (some (Γ.2.2.2 28))] Gr64 br64 sr64 fun r69 Gr69 br69 sr69 => ∃ a75, r69 = some a75 ∧ gC Gr69 a75 = kO 14 ∧ cR Γ l h mJ4_toString [.ref a75] Gr69 br69 sr69 fun r74 Gr74 br74 sr74 => Q (some (va_rf r74)) Gr74))))) : GW Γ l mX8_text h MC MS Q 0 [(0, va_rf (some x)), (1, .int p1)] [] G bc bs := by
  obtain ⟨k3, F⟩ := F
  obtain ⟨k4, F⟩ := F
  refine g_new (C := RJ4) (T := TJ4) (N := 4) 14 rfl in_J4 tyJ4_ok nd_J4 q1505 q202 q114 k3 k4 dX8_text_0 (fun q1 z2 z2' => ?_)
  have F := F q1 z2 z2'
  refine g_dup dX8_text_3 (va_rf_cat _) ?_
  refine h_callIV (As := []) (rest := [va_rf (some q1)]) F 0 rfl rfl (lw_meth q205) q114 q1506 q204 rfl vm_J4_init.2 (by decide) rfl rfl (room_of (sc_R sc_nil) (Nat.le_of_ble_eq_true rfl)) dX8_text_4 (fun Gr6 br6 sr6 F => ?_)
  refine g_aload_n dX8_text_7 rfl 0 rfl ?_
  obtain ⟨c9, F⟩ := F
  refine h_callFR (ci := 3) (x := ⟨"CrewPairer$Timed", "way", "()Ljava/lang/String;"⟩) (C := RX4) (T := TX4) (N := 5) (As := []) (rest := [va_rf (some q1)]) F 0 rfl rfl q1508 (by decide +kernel) q1511 q1513 q137 q1515 ⟨by decide +kernel, by decide +kernel, by decide +kernel⟩ (by decide) rfl c9 rfl (room_of (sc_R sc_nil) (Nat.le_of_ble_eq_true rfl)) dX8_text_8 (fun r8 Gr8 br8 sr8 F => ?_)
  obtain ⟨c12, F⟩ := F
  refine h_callVR (ci := 14) (C := RJ4) (T := TJ4) (N := 4) (As := [va_rf r8]) (rest := []) F 1 rfl rfl (lw_V q1684 q1574 q1575 q114 q1576) vm_J4_append_2 (by decide) rfl c12 rfl (room_of sc_nil (Nat.le_of_ble_eq_true rfl)) dX8_text_13 (fun r11 Gr11 br11 sr11 F => ?_)
  refine h_ldcS (tx := " ") 21 (by decide +kernel) dX8_text_16 ?_
  obtain ⟨a15, e16, F⟩ := F
  obtain ⟨c17, F⟩ := F
  refine h_callVR (ci := 14) (C := RJ4) (T := TJ4) (N := 4) (As := [va_rf (some (Γ.2.2.2 21))]) (rest := []) F 1 rfl rfl (lw_V q1684 q1574 q1575 q114 q1576) vm_J4_append_2 (by decide) e16 c17 rfl (room_of sc_nil (Nat.le_of_ble_eq_true rfl)) dX8_text_18 (fun r14 Gr14 br14 sr14 F => ?_)
  refine g_aload_n dX8_text_21 rfl 0 rfl ?_
  obtain ⟨c20, F⟩ := F
  refine h_callFI (ci := 3) (x := ⟨"CrewPairer$Timed", "departure", "()I"⟩) (C := RX4) (T := TX4) (N := 5) (As := []) (rest := [va_rf r14]) F 0 rfl rfl q1202 (by decide +kernel) q1205 q1207 q137 q1209 ⟨by decide +kernel, by decide +kernel, by decide +kernel⟩ (by decide) rfl c20 rfl (room_of (sc_R sc_nil) (Nat.le_of_ble_eq_true rfl)) dX8_text_22 (fun r19 Gr19 br19 sr19 F => ?_)
  refine h_callSR (As := [.int r19]) (rest := [va_rf r14]) F 1 rfl (lw_S q1686 q1687 q142 q1688) vm_X8_clock.2 (by decide) rfl (room_of (sc_R sc_nil) (Nat.le_of_ble_eq_true rfl)) dX8_text_27 (fun r22 Gr22 br22 sr22 F => ?_)
  obtain ⟨a25, e26, F⟩ := F
  obtain ⟨c27, F⟩ := F
  refine h_callVR (ci := 14) (C := RJ4) (T := TJ4) (N := 4) (As := [va_rf r22]) (rest := []) F 1 rfl rfl (lw_V q1684 q1574 q1575 q114 q1576) vm_J4_append_2 (by decide) e26 c27 rfl (room_of sc_nil (Nat.le_of_ble_eq_true rfl)) dX8_text_30 (fun r24 Gr24 br24 sr24 F => ?_)
  refine h_ldcS (tx := "-") 25 (by decide +kernel) dX8_text_33 ?_
  obtain ⟨a30, e31, F⟩ := F
  obtain ⟨c32, F⟩ := F
  refine h_callVR (ci := 14) (C := RJ4) (T := TJ4) (N := 4) (As := [va_rf (some (Γ.2.2.2 25))]) (rest := []) F 1 rfl rfl (lw_V q1684 q1574 q1575 q114 q1576) vm_J4_append_2 (by decide) e31 c32 rfl (room_of sc_nil (Nat.le_of_ble_eq_true rfl)) dX8_text_35 (fun r29 Gr29 br29 sr29 F => ?_)
  refine g_aload_n dX8_text_38 rfl 0 rfl ?_
  obtain ⟨c35, F⟩ := F
  refine h_callFI (ci := 3) (x := ⟨"CrewPairer$Timed", "arrival", "()I"⟩) (C := RX4) (T := TX4) (N := 5) (As := []) (rest := [va_rf r29]) F 0 rfl rfl q1192 (by decide +kernel) q1196 q1198 q137 q1200 ⟨by decide +kernel, by decide +kernel, by decide +kernel⟩ (by decide) rfl c35 rfl (room_of (sc_R sc_nil) (Nat.le_of_ble_eq_true rfl)) dX8_text_39 (fun r34 Gr34 br34 sr34 F => ?_)
  refine h_callSR (As := [.int r34]) (rest := [va_rf r29]) F 1 rfl (lw_S q1686 q1687 q142 q1688) vm_X8_clock.2 (by decide) rfl (room_of (sc_R sc_nil) (Nat.le_of_ble_eq_true rfl)) dX8_text_44 (fun r37 Gr37 br37 sr37 F => ?_)
  obtain ⟨a40, e41, F⟩ := F
  obtain ⟨c42, F⟩ := F
  refine h_callVR (ci := 14) (C := RJ4) (T := TJ4) (N := 4) (As := [va_rf r37]) (rest := []) F 1 rfl rfl (lw_V q1684 q1574 q1575 q114 q1576) vm_J4_append_2 (by decide) e41 c42 rfl (room_of sc_nil (Nat.le_of_ble_eq_true rfl)) dX8_text_47 (fun r39 Gr39 br39 sr39 F => ?_)
  refine h_ldcS (tx := " ") 21 (by decide +kernel) dX8_text_50 ?_
  obtain ⟨a45, e46, F⟩ := F
  obtain ⟨c47, F⟩ := F
  refine h_callVR (ci := 14) (C := RJ4) (T := TJ4) (N := 4) (As := [va_rf (some (Γ.2.2.2 21))]) (rest := []) F 1 rfl rfl (lw_V q1684 q1574 q1575 q114 q1576) vm_J4_append_2 (by decide) e46 c47 rfl (room_of sc_nil (Nat.le_of_ble_eq_true rfl)) dX8_text_52 (fun r44 Gr44 br44 sr44 F => ?_)
  refine g_iload_n dX8_text_55 rfl 1 rfl ?_
  refine g_if_eq 64 dX8_text_56 (by decide) (fun h79 => ?_) (fun h79 => ?_)
  · have F := F.1 h79
    refine h_ldcS (tx := "ride") 27 (by decide +kernel) dX8_text_64 ?_
    obtain ⟨a50, e51, F⟩ := F
    obtain ⟨c52, F⟩ := F
    refine h_callVR (ci := 14) (C := RJ4) (T := TJ4) (N := 4) (As := [va_rf (some (Γ.2.2.2 27))]) (rest := []) F 1 rfl rfl (lw_V q1684 q1574 q1575 q114 q1576) vm_J4_append_2 (by decide) e51 c52 rfl (room_of sc_nil (Nat.le_of_ble_eq_true rfl)) dX8_text_66 (fun r49 Gr49 br49 sr49 F => ?_)
    refine h_ldcS (tx := ";") 28 (by decide +kernel) dX8_text_69 ?_
    obtain ⟨a55, e56, F⟩ := F
    obtain ⟨c57, F⟩ := F
    refine h_callVR (ci := 14) (C := RJ4) (T := TJ4) (N := 4) (As := [va_rf (some (Γ.2.2.2 28))]) (rest := []) F 1 rfl rfl (lw_V q1684 q1574 q1575 q114 q1576) vm_J4_append_2 (by decide) e56 c57 rfl (room_of sc_nil (Nat.le_of_ble_eq_true rfl)) dX8_text_71 (fun r54 Gr54 br54 sr54 F => ?_)
    obtain ⟨a60, e61, F⟩ := F
    obtain ⟨c62, F⟩ := F
    refine h_callVR (ci := 14) (C := RJ4) (T := TJ4) (N := 4) (As := []) (rest := []) F 0 rfl rfl (lw_V q1696 q1626 q1627 q114 q1628) vm_J4_toString (by decide) e61 c62 rfl (room_of sc_nil (Nat.le_of_ble_eq_true rfl)) dX8_text_74 (fun r59 Gr59 br59 sr59 F => ?_)
    exact g_aret (r := r59) rfl (Or.inl ⟨_, rfl⟩) dX8_text_77 F
  · have F := F.2 h79
    refine h_ldcS (tx := "fly") 26 (by decide +kernel) dX8_text_59 ?_
    refine g_goto 66 dX8_text_61 (by decide) ?_
    obtain ⟨a65, e66, F⟩ := F
    obtain ⟨c67, F⟩ := F
    refine h_callVR (ci := 14) (C := RJ4) (T := TJ4) (N := 4) (As := [va_rf (some (Γ.2.2.2 26))]) (rest := []) F 1 rfl rfl (lw_V q1684 q1574 q1575 q114 q1576) vm_J4_append_2 (by decide) e66 c67 rfl (room_of sc_nil (Nat.le_of_ble_eq_true rfl)) dX8_text_66 (fun r64 Gr64 br64 sr64 F => ?_)
    refine h_ldcS (tx := ";") 28 (by decide +kernel) dX8_text_69 ?_
    obtain ⟨a70, e71, F⟩ := F
    obtain ⟨c72, F⟩ := F
    refine h_callVR (ci := 14) (C := RJ4) (T := TJ4) (N := 4) (As := [va_rf (some (Γ.2.2.2 28))]) (rest := []) F 1 rfl rfl (lw_V q1684 q1574 q1575 q114 q1576) vm_J4_append_2 (by decide) e71 c72 rfl (room_of sc_nil (Nat.le_of_ble_eq_true rfl)) dX8_text_71 (fun r69 Gr69 br69 sr69 F => ?_)
    obtain ⟨a75, e76, F⟩ := F
    obtain ⟨c77, F⟩ := F
    refine h_callVR (ci := 14) (C := RJ4) (T := TJ4) (N := 4) (As := []) (rest := []) F 0 rfl rfl (lw_V q1696 q1626 q1627 q114 q1628) vm_J4_toString (by decide) e76 c77 rfl (room_of sc_nil (Nat.le_of_ble_eq_true rfl)) dX8_text_74 (fun r74 Gr74 br74 sr74 F => ?_)
    exact g_aret (r := r74) rfl (Or.inl ⟨_, rfl⟩) dX8_text_77 F
theorem rX8_clock_0 {Γ : GE} {l : Launch} {h MC MS : Nat} {Q : Option Value → GH → Prop} {bc bs : Nat} {G : GH} (p0 : Int32) (F : (1 ≤ bc ∧ 4 ≤ bs ∧ ∀ q1, gC G q1 = 0 → gA Γ q1 → cV Γ l h mJ4_init [.ref q1] (nO G q1 14) (bc - 1) (bs - 4) fun Gr6 br6 sr6 => gC Gr6 q1 = kO 14 ∧ cR Γ l h mJ4_append_2 [.ref q1, va_rf (some (Γ.2.2.2 22))] Gr6 br6 sr6 fun r8 Gr8 br8 sr8 => ∃ a12, r8 = some a12 ∧ gC Gr8 a12 = kO 14 ∧ cR Γ l h mJ4_append [.ref a12, .int (p0 / 1440)] Gr8 br8 sr8 fun r11 Gr11 br11 sr11 => ∃ a17, r11 = some a17 ∧ gC Gr11 a17 = kO 14 ∧ cR Γ l h mJ4_append_2 [.ref a17, va_rf (some (Γ.2.2.2 23))] Gr11 br11 sr11 fun r16 Gr16 br16 sr16 => cR Γ l h mX8_twoDigits [.int ((p0 - p0 / 1440 * 1440) / 60)] Gr16 br16 sr16 fun r21 Gr21 br21 sr21 => ∃ a24, r16 = some a24 ∧ gC Gr21 a24 = kO 14 ∧ cR Γ l h mJ4_append_2 [.ref a24, va_rf r21] Gr21 br21 sr21 fun r23 Gr23 br23 sr23 => cR Γ l h mX8_twoDigits [.int (p0 - p0 / 60 * 60)] Gr23 br23 sr23 fun r28 Gr28 br28 sr28 => ∃ a31, r23 = some a31 ∧ gC Gr28 a31 = kO 14 ∧ cR Γ l h mJ4_append_2 [.ref a31, va_rf r28] Gr28 br28 sr28 fun r30 Gr30 br30 sr30 => ∃ a36, r30 = some a36 ∧ gC Gr30 a36 = kO 14 ∧ cR Γ l h mJ4_toString [.ref a36] Gr30 br30 sr30 fun r35 Gr35 br35 sr35 => Q (some (va_rf r35)) Gr35)) : GW Γ l mX8_clock h MC MS Q 0 [(0, .int p0)] [] G bc bs := by
  obtain ⟨k3, F⟩ := F
  obtain ⟨k4, F⟩ := F
  refine g_new (C := RJ4) (T := TJ4) (N := 4) 14 rfl in_J4 tyJ4_ok nd_J4 q1505 q202 q114 k3 k4 dX8_clock_0 (fun q1 z2 z2' => ?_)
  have F := F q1 z2 z2'
  refine g_dup dX8_clock_3 (va_rf_cat _) ?_
  refine h_callIV (As := []) (rest := [va_rf (some q1)]) F 0 rfl rfl (lw_meth q205) q114 q1506 q204 rfl vm_J4_init.2 (by decide) rfl rfl (room_of (sc_R sc_nil) (Nat.le_of_ble_eq_true rfl)) dX8_clock_4 (fun Gr6 br6 sr6 F => ?_)
  refine h_ldcS (tx := "d") 22 (by decide +kernel) dX8_clock_7 ?_
  obtain ⟨c9, F⟩ := F
  refine h_callVR (ci := 14) (C := RJ4) (T := TJ4) (N := 4) (As := [va_rf (some (Γ.2.2.2 22))]) (rest := []) F 1 rfl rfl (lw_V q1684 q1574 q1575 q114 q1576) vm_J4_append_2 (by decide) rfl c9 rfl (room_of sc_nil (Nat.le_of_ble_eq_true rfl)) dX8_clock_9 (fun r8 Gr8 br8 sr8 F => ?_)
  refine g_iload_n dX8_clock_12 rfl 0 rfl ?_
  refine g_sipush (v := 1440) dX8_clock_13 (by decide) ?_
  refine g_idiv dX8_clock_16 (by decide) ?_
  obtain ⟨a12, e13, F⟩ := F
  obtain ⟨c14, F⟩ := F
  refine h_callVR (ci := 14) (C := RJ4) (T := TJ4) (N := 4) (As := [.int (p0 / 1440)]) (rest := []) F 1 rfl rfl (lw_V q1690 q1519 q1520 q114 q1521) vm_J4_append (by decide) e13 c14 rfl (room_of sc_nil (Nat.le_of_ble_eq_true rfl)) dX8_clock_17 (fun r11 Gr11 br11 sr11 F => ?_)
  refine h_ldcS (tx := "h") 23 (by decide +kernel) dX8_clock_20 ?_
  obtain ⟨a17, e18, F⟩ := F
  obtain ⟨c19, F⟩ := F
  refine h_callVR (ci := 14) (C := RJ4) (T := TJ4) (N := 4) (As := [va_rf (some (Γ.2.2.2 23))]) (rest := []) F 1 rfl rfl (lw_V q1684 q1574 q1575 q114 q1576) vm_J4_append_2 (by decide) e18 c19 rfl (room_of sc_nil (Nat.le_of_ble_eq_true rfl)) dX8_clock_22 (fun r16 Gr16 br16 sr16 F => ?_)
  refine g_iload_n dX8_clock_25 rfl 0 rfl ?_
  refine g_sipush (v := 1440) dX8_clock_26 (by decide) ?_
  refine g_irem dX8_clock_29 (by decide) ?_
  refine g_bipush (v := 60) dX8_clock_30 (by decide) ?_
  refine g_idiv dX8_clock_32 (by decide) ?_
  refine h_callSR (As := [.int ((p0 - p0 / 1440 * 1440) / 60)]) (rest := [va_rf r16]) F 1 rfl (lw_S q1692 q1693 q142 q1694) vm_X8_twoDigits.2 (by decide) rfl (room_of (sc_R sc_nil) (Nat.le_of_ble_eq_true rfl)) dX8_clock_33 (fun r21 Gr21 br21 sr21 F => ?_)
  obtain ⟨a24, e25, F⟩ := F
  obtain ⟨c26, F⟩ := F
  refine h_callVR (ci := 14) (C := RJ4) (T := TJ4) (N := 4) (As := [va_rf r21]) (rest := []) F 1 rfl rfl (lw_V q1684 q1574 q1575 q114 q1576) vm_J4_append_2 (by decide) e25 c26 rfl (room_of sc_nil (Nat.le_of_ble_eq_true rfl)) dX8_clock_36 (fun r23 Gr23 br23 sr23 F => ?_)
  refine g_iload_n dX8_clock_39 rfl 0 rfl ?_
  refine g_bipush (v := 60) dX8_clock_40 (by decide) ?_
  refine g_irem dX8_clock_42 (by decide) ?_
  refine h_callSR (As := [.int (p0 - p0 / 60 * 60)]) (rest := [va_rf r23]) F 1 rfl (lw_S q1692 q1693 q142 q1694) vm_X8_twoDigits.2 (by decide) rfl (room_of (sc_R sc_nil) (Nat.le_of_ble_eq_true rfl)) dX8_clock_43 (fun r28 Gr28 br28 sr28 F => ?_)
  obtain ⟨a31, e32, F⟩ := F
  obtain ⟨c33, F⟩ := F
  refine h_callVR (ci := 14) (C := RJ4) (T := TJ4) (N := 4) (As := [va_rf r28]) (rest := []) F 1 rfl rfl (lw_V q1684 q1574 q1575 q114 q1576) vm_J4_append_2 (by decide) e32 c33 rfl (room_of sc_nil (Nat.le_of_ble_eq_true rfl)) dX8_clock_46 (fun r30 Gr30 br30 sr30 F => ?_)
  obtain ⟨a36, e37, F⟩ := F
  obtain ⟨c38, F⟩ := F
  refine h_callVR (ci := 14) (C := RJ4) (T := TJ4) (N := 4) (As := []) (rest := []) F 0 rfl rfl (lw_V q1696 q1626 q1627 q114 q1628) vm_J4_toString (by decide) e37 c38 rfl (room_of sc_nil (Nat.le_of_ble_eq_true rfl)) dX8_clock_49 (fun r35 Gr35 br35 sr35 F => ?_)
  exact g_aret (r := r35) rfl (Or.inl ⟨_, rfl⟩) dX8_clock_52 F
theorem rX8_twoDigits_0 {Γ : GE} {l : Launch} {h MC MS : Nat} {Q : Option Value → GH → Prop} {bc bs : Nat} {G : GH} (p0 : Int32) (F : (1 ≤ bc ∧ 4 ≤ bs ∧ ∀ q1, gC G q1 = 0 → gA Γ q1 → cV Γ l h mJ4_init [.ref q1] (nO G q1 14) (bc - 1) (bs - 4) fun Gr6 br6 sr6 => gC Gr6 q1 = kO 14 ∧ cR Γ l h mJ4_append_2 [.ref q1, va_rf (some (Γ.2.2.2 24))] Gr6 br6 sr6 fun r8 Gr8 br8 sr8 => ∃ a12, r8 = some a12 ∧ gC Gr8 a12 = kO 14 ∧ cR Γ l h mJ4_append [.ref a12, .int (p0 / 10)] Gr8 br8 sr8 fun r11 Gr11 br11 sr11 => ∃ a17, r11 = some a17 ∧ gC Gr11 a17 = kO 14 ∧ cR Γ l h mJ4_append [.ref a17, .int (p0 - p0 / 10 * 10)] Gr11 br11 sr11 fun r16 Gr16 br16 sr16 => ∃ a22, r16 = some a22 ∧ gC Gr16 a22 = kO 14 ∧ cR Γ l h mJ4_toString [.ref a22] Gr16 br16 sr16 fun r21 Gr21 br21 sr21 => Q (some (va_rf r21)) Gr21)) : GW Γ l mX8_twoDigits h MC MS Q 0 [(0, .int p0)] [] G bc bs := by
  obtain ⟨k3, F⟩ := F
  obtain ⟨k4, F⟩ := F
  refine g_new (C := RJ4) (T := TJ4) (N := 4) 14 rfl in_J4 tyJ4_ok nd_J4 q1505 q202 q114 k3 k4 dX8_twoDigits_0 (fun q1 z2 z2' => ?_)
  have F := F q1 z2 z2'
  refine g_dup dX8_twoDigits_3 (va_rf_cat _) ?_
  refine h_callIV (As := []) (rest := [va_rf (some q1)]) F 0 rfl rfl (lw_meth q205) q114 q1506 q204 rfl vm_J4_init.2 (by decide) rfl rfl (room_of (sc_R sc_nil) (Nat.le_of_ble_eq_true rfl)) dX8_twoDigits_4 (fun Gr6 br6 sr6 F => ?_)
  refine h_ldcS (tx := "") 24 (by decide +kernel) dX8_twoDigits_7 ?_
  obtain ⟨c9, F⟩ := F
  refine h_callVR (ci := 14) (C := RJ4) (T := TJ4) (N := 4) (As := [va_rf (some (Γ.2.2.2 24))]) (rest := []) F 1 rfl rfl (lw_V q1684 q1574 q1575 q114 q1576) vm_J4_append_2 (by decide) rfl c9 rfl (room_of sc_nil (Nat.le_of_ble_eq_true rfl)) dX8_twoDigits_9 (fun r8 Gr8 br8 sr8 F => ?_)
  refine g_iload_n dX8_twoDigits_12 rfl 0 rfl ?_
  refine g_bipush (v := 10) dX8_twoDigits_13 (by decide) ?_
  refine g_idiv dX8_twoDigits_15 (by decide) ?_
  obtain ⟨a12, e13, F⟩ := F
  obtain ⟨c14, F⟩ := F
  refine h_callVR (ci := 14) (C := RJ4) (T := TJ4) (N := 4) (As := [.int (p0 / 10)]) (rest := []) F 1 rfl rfl (lw_V q1690 q1519 q1520 q114 q1521) vm_J4_append (by decide) e13 c14 rfl (room_of sc_nil (Nat.le_of_ble_eq_true rfl)) dX8_twoDigits_16 (fun r11 Gr11 br11 sr11 F => ?_)
  refine g_iload_n dX8_twoDigits_19 rfl 0 rfl ?_
  refine g_bipush (v := 10) dX8_twoDigits_20 (by decide) ?_
  refine g_irem dX8_twoDigits_22 (by decide) ?_
  obtain ⟨a17, e18, F⟩ := F
  obtain ⟨c19, F⟩ := F
  refine h_callVR (ci := 14) (C := RJ4) (T := TJ4) (N := 4) (As := [.int (p0 - p0 / 10 * 10)]) (rest := []) F 1 rfl rfl (lw_V q1690 q1519 q1520 q114 q1521) vm_J4_append (by decide) e18 c19 rfl (room_of sc_nil (Nat.le_of_ble_eq_true rfl)) dX8_twoDigits_23 (fun r16 Gr16 br16 sr16 F => ?_)
  obtain ⟨a22, e23, F⟩ := F
  obtain ⟨c24, F⟩ := F
  refine h_callVR (ci := 14) (C := RJ4) (T := TJ4) (N := 4) (As := []) (rest := []) F 0 rfl rfl (lw_V q1696 q1626 q1627 q114 q1628) vm_J4_toString (by decide) e23 c24 rfl (room_of sc_nil (Nat.le_of_ble_eq_true rfl)) dX8_twoDigits_26 (fun r21 Gr21 br21 sr21 F => ?_)
  exact g_aret (r := r21) rfl (Or.inl ⟨_, rfl⟩) dX8_twoDigits_29 F
