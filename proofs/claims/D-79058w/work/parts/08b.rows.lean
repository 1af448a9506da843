set_option maxRecDepth 100000
theorem cat_nil : ∀ q ∈ ([] : List (Nat × Value)), q.2.category = 1 := fun _ h => absurd h List.not_mem_nil
theorem cat_I {lv : List (Nat × Value)} {i : Nat} {x : Int32} (h : ∀ q ∈ lv, q.2.category = 1) : ∀ q ∈ (i, Value.int x) :: lv, q.2.category = 1 := List.forall_mem_cons.mpr ⟨rfl, h⟩
theorem cat_R {lv : List (Nat × Value)} {i : Nat} {r : Option Nat} (h : ∀ q ∈ lv, q.2.category = 1) : ∀ q ∈ (i, va_rf r) :: lv, q.2.category = 1 := List.forall_mem_cons.mpr ⟨va_rf_cat r, h⟩
theorem cat_F {lv : List (Nat × Value)} {i : Nat} {x : UInt32} (h : ∀ q ∈ lv, q.2.category = 1) : ∀ q ∈ (i, Value.float x) :: lv, q.2.category = 1 := List.forall_mem_cons.mpr ⟨rfl, h⟩
theorem sc_nil : ∀ v ∈ ([] : List Value), v.category = 1 := fun _ h => absurd h List.not_mem_nil
theorem sc_I {st : List Value} {x : Int32} (h : ∀ v ∈ st, v.category = 1) : ∀ v ∈ Value.int x :: st, v.category = 1 := List.forall_mem_cons.mpr ⟨rfl, h⟩
theorem sc_R {st : List Value} {r : Option Nat} (h : ∀ v ∈ st, v.category = 1) : ∀ v ∈ va_rf r :: st, v.category = 1 := List.forall_mem_cons.mpr ⟨va_rf_cat r, h⟩
theorem sc_F {st : List Value} {x : UInt32} (h : ∀ v ∈ st, v.category = 1) : ∀ v ∈ Value.float x :: st, v.category = 1 := List.forall_mem_cons.mpr ⟨rfl, h⟩
theorem room_len : ∀ (st : List Value), (∀ v ∈ st, v.category = 1) → (st.map fun v => v.category).sum = st.length
  | [], _ => rfl
  | v :: st, h => by
    have h1 := List.forall_mem_cons.mp h
    rw [List.map_cons, List.sum_cons, h1.1, room_len st h1.2, List.length_cons]
    omega
theorem room_of {st : List Value} (h : ∀ v ∈ st, v.category = 1) (hl : st.length ≤ 8) : (st.map fun v => v.category).sum ≤ 8 := by rw [room_len st h]; exact hl
theorem filt_cat {lv : List (Nat × Value)} {i : Nat} (hc : ∀ q ∈ lv, q.2.category = 1) : lv.filter (fun q => !(q.1 == i) && !(q.1 + 1 == i && q.2.category == 2)) = lv.filter (fun q => !(q.1 == i)) := by
  apply List.filter_congr
  intro q hq
  rw [hc q hq]
  simp
section SROWS
variable {Γ : GE} {l : Launch} {mi : MI} {h MC MS : Nat} {Q : Option Value → GH → Prop} {pc : Nat} {lv : List (Nat × Value)} {st : List Value} {G : GH} {bc bs : Nat}
theorem s_istore_n {kk : Fin 4} {i : Nat} {x : Int32} {lv1 lv' : List (Nat × Value)} (hc : ∀ q ∈ lv, q.2.category = 1) (hd : decode mi.2.1 pc = .ok (.istore_n kk, 1)) (hi : (kk : Nat) = i) (hn : i < mi.2.2.1) (hl : (i, Value.int x) :: lv.filter (fun q => !(q.1 == i)) = lv1) (ks : List Nat) (hk : lv_pick lv1 ks = lv') (k : GW Γ l mi h MC MS Q (pc + 1) lv' st G bc bs) : GW Γ l mi h MC MS Q pc lv (.int x :: st) G bc bs := g_istore_n hd hi hn (by rw [filt_cat hc]; exact hl) ks hk k
theorem s_istore {i : Nat} {x : Int32} {lv1 lv' : List (Nat × Value)} (hc : ∀ q ∈ lv, q.2.category = 1) (hd : decode mi.2.1 pc = .ok (.istore i, 2)) (hn : i < mi.2.2.1) (hl : (i, Value.int x) :: lv.filter (fun q => !(q.1 == i)) = lv1) (ks : List Nat) (hk : lv_pick lv1 ks = lv') (k : GW Γ l mi h MC MS Q (pc + 2) lv' st G bc bs) : GW Γ l mi h MC MS Q pc lv (.int x :: st) G bc bs := g_istore hd hn (by rw [filt_cat hc]; exact hl) ks hk k
theorem s_fstore {i : Nat} {x : UInt32} {lv1 lv' : List (Nat × Value)} (hc : ∀ q ∈ lv, q.2.category = 1) (hd : decode mi.2.1 pc = .ok (.fstore i, 2)) (hn : i < mi.2.2.1) (hl : (i, Value.float x) :: lv.filter (fun q => !(q.1 == i)) = lv1) (ks : List Nat) (hk : lv_pick lv1 ks = lv') (k : GW Γ l mi h MC MS Q (pc + 2) lv' st G bc bs) : GW Γ l mi h MC MS Q pc lv (.float x :: st) G bc bs := g_fstore hd hn (by rw [filt_cat hc]; exact hl) ks hk k
theorem s_astore_n {kk : Fin 4} {i : Nat} {r : Option Nat} {lv1 lv' : List (Nat × Value)} (hc : ∀ q ∈ lv, q.2.category = 1) (hd : decode mi.2.1 pc = .ok (.astore_n kk, 1)) (hi : (kk : Nat) = i) (hn : i < mi.2.2.1) (hl : (i, va_rf r) :: lv.filter (fun q => !(q.1 == i)) = lv1) (ks : List Nat) (hk : lv_pick lv1 ks = lv') (k : GW Γ l mi h MC MS Q (pc + 1) lv' st G bc bs) : GW Γ l mi h MC MS Q pc lv (va_rf r :: st) G bc bs := g_astore_n hd hi hn (by rw [filt_cat hc]; exact hl) ks hk k
theorem s_astore {i : Nat} {r : Option Nat} {lv1 lv' : List (Nat × Value)} (hc : ∀ q ∈ lv, q.2.category = 1) (hd : decode mi.2.1 pc = .ok (.astore i, 2)) (hn : i < mi.2.2.1) (hl : (i, va_rf r) :: lv.filter (fun q => !(q.1 == i)) = lv1) (ks : List Nat) (hk : lv_pick lv1 ks = lv') (k : GW Γ l mi h MC MS Q (pc + 2) lv' st G bc bs) : GW Γ l mi h MC MS Q pc lv (va_rf r :: st) G bc bs := g_astore hd hn (by rw [filt_cat hc]; exact hl) ks hk k
theorem s_iinc {i k0 : Nat} {n : Int} {x v : Int32} {lv1 lv' : List (Nat × Value)} (hc : ∀ q ∈ lv, q.2.category = 1) (hd : decode mi.2.1 pc = .ok (.iinc i n, 3)) (hk0 : lv[k0]? = some (i, .int x)) (hv : x + Int32.ofInt n = v) (hn : i < mi.2.2.1) (hl : (i, Value.int v) :: lv.filter (fun q => !(q.1 == i)) = lv1) (ks : List Nat) (hk : lv_pick lv1 ks = lv') (k : GW Γ l mi h MC MS Q (pc + 3) lv' st G bc bs) : GW Γ l mi h MC MS Q pc lv st G bc bs := g_iinc hd hk0 hv hn (by rw [filt_cat hc]; exact hl) ks hk k
theorem h_ldcS {tx : String} {index : Nat} (i : Nat) (hz : (mi.1.cls, index, tx, i) ∈ gSs) (hd : decode mi.2.1 pc = .ok (.ldc index, 2)) (kk : GW Γ l mi h MC MS Q (pc + 2) lv (va_rf (some (Γ.2.2.2 i)) :: st) G bc bs) : GW Γ l mi h MC MS Q pc lv st G bc bs := by
  intro p e R s m args below meth c H locs cells slots ls X hS hG hls h1 h2
  have K := kk p e R s m args below meth c H locs cells slots ls X hS hG hls h1 h2
  obtain ⟨hx, hb, hml, hr, hlk, hnm, hts, hown, hK, hZ, -⟩ := X
  exact va_ldcS hx hb hown (hK.2.2.2.2.2.2.2.2.1 _ hz) hd K
theorem h_ldcwS {tx : String} {index : Nat} (i : Nat) (hz : (mi.1.cls, index, tx, i) ∈ gSs) (hd : decode mi.2.1 pc = .ok (.ldc_w index, 3)) (kk : GW Γ l mi h MC MS Q (pc + 3) lv (va_rf (some (Γ.2.2.2 i)) :: st) G bc bs) : GW Γ l mi h MC MS Q pc lv st G bc bs := by
  intro p e R s m args below meth c H locs cells slots ls X hS hG hls h1 h2 T hT XT
  obtain ⟨t, a1, b1⟩ := kk p e R s m args below meth c H locs cells slots ls X hS hG hls h1 h2 T hT XT
  obtain ⟨hx, hb, hml, hr, hlk, hnm, hts, hown, hK, hZ, -⟩ := X
  have hz' : vk_R mi.1.cls index tx (Γ.2.2.2 i) s := hK.2.2.2.2.2.2.2.2.1 _ hz
  exact ⟨t, XT.ldcStringW hx hown (text := tx) (a := Γ.2.2.2 i) hz'.1 hz'.2 (g := F0 m pc ls st) rfl (by rw [hb]; exact hd) t a1, b1⟩
theorem h_ldcI {index : Nat} {v : Int32} (hw : Cond.constant mi.1.cls index v ∈ lw_all) (hd : decode mi.2.1 pc = .ok (.ldc index, 2)) (kk : GW Γ l mi h MC MS Q (pc + 2) lv (.int v :: st) G bc bs) : GW Γ l mi h MC MS Q pc lv st G bc bs := by
  intro p e R s m args below meth c H locs cells slots ls X hS hG hls h1 h2
  have K := kk p e R s m args below meth c H locs cells slots ls X hS hG hls h1 h2
  obtain ⟨hx, hb, hml, hr, hlk, hnm, hts, hown, hK, hZ, -⟩ := X
  exact lv_ldc hx hb hown (hts _ hw) hd K
/-- System.arraycopy out of a constant int array -/
theorem h_copyc {index : Nat} {a0 : Nat} {r : Option Nat} {a : Nat} {sp dp n : Int32} (hl : Cond.methodLink mi.1.cls index arraycopyName ∈ lw_all) (hnat : Cond.native arraycopyName ∈ lw_all) (hstt : Cond.static arraycopyName ∈ lw_all) (hini : Cond.initialized "java/lang/System" ∈ lw_all) (h0 : gC G a0 = kA 0) (hr : r = some a) (ha : gC G a = kA 0) (hm : gM G a = true) (n1 : ¬ sp < 0) (n2 : ¬ dp < 0) (n3 : ¬ n < 0) (n4 : sp.toNatClampNeg + n.toNatClampNeg ≤ gL G a0) (n5 : dp.toNatClampNeg + n.toNatClampNeg ≤ gL G a)
    (hh : 0 < h) (hr8 : (st.map fun v => v.category).sum ≤ 8) (hd : decode mi.2.1 pc = .ok (.invokestatic index, 3))
    (kk : GW Γ l mi h MC MS Q (pc + 3) lv st (wI G a (va_cpy (gI G a0) (gI G a) sp.toNatClampNeg dp.toNatClampNeg n.toNatClampNeg)) bc bs) : GW Γ l mi h MC MS Q pc lv (.int n :: .int dp :: va_rf r :: .int sp :: va_rf (some a0) :: st) G bc bs := by
  subst hr
  cases hm0 : gM G a0 with
  | true => exact g_copyi (t := 0) (by decide) hl hnat hstt hini h0 hm0 ha hm n1 n2 n3 n4 n5 (fun _ _ => rfl) hh hr8 hd kk
  | false =>
  intro p e R s m args below meth c H locs cells slots ls X hS hG hls h1 h2
  have K := fun H1 locs1 hS1 hG1 => kk p e R s m args below meth c H1 locs1 cells slots ls X hS1 hG1 hls h1 h2
  obtain ⟨hx, hb, hml, hr, hlk, hnm, hts, hown, hK, hZ, hf1, hf2, hf3, hf4, hbase⟩ := X
  have hGG := hG
  obtain ⟨hbs, ⟨ws, hP, hD, g1, g2⟩, hcst⟩ := hG
  obtain ⟨k1, hk1⟩ := List.getElem?_of_mem (g1 a (by rw [ha]; exact kA_ne0 0) hm)
  have hk2 := hk1
  rw [gent_Ai ha (by decide)] at hk1
  obtain ⟨nA, cell, c1, c2, c3, -, c5⟩ := hcst a0 (by rw [h0]; exact kA_ne0 0) hm0
  obtain ⟨d1, d2, d3⟩ := c5 (by rw [h0]; exact kA_even 0)
  rw [h0, kA_half] at d1 d3
  have hlt : a0 < s.heap.size := by
    have : ¬ Γ.2.1 ≤ a0 := nA
    omega
  have hX : va_X a0 (gL G a0) (gI G a0) s s.heap := ⟨cell, by rw [← hS.2.1 a0 hlt nA]; exact c1, d1, c3, d2, fun j hj => by rw [d3 j hj, if_neg (by decide)]⟩
  refine va_copyx hx hb (by rw [hml]; exact hls.1.symm) hown (hts _ hl) (hts _ hnat) (hts _ hstt) (hts _ hini) hK.1 hP hD hS hX hlt nA k1 0 hk1 (gtys_at 0 (by decide)) n1 n2 n3 n4 n5 (by omega) ?_ hd fun H1 locs1 hP1 hD1 hS1 => ?_
  · have : nativeFrameWords "java/lang/System" "arraycopy" 5 ≤ 40 := by decide +kernel
    omega
  · refine K H1 locs1 hS1 (gH_put (Nat.le_trans hbase hS1.1) hGG hP hD g1 g2 hk2 hP1 (gS_keep hbase hS hS1) rfl rfl rfl ?_ (fun q hq => ⟨fun j => by rw [gI_wI, if_neg hq], fun j => rfl, fun j => rfl⟩))
    rw [gent_Ai (G := wI G a _) (t := 0) ha (by decide)]
    have e0 : gI (wI G a (va_cpy (gI G a0) (gI G a) sp.toNatClampNeg dp.toNatClampNeg n.toNatClampNeg)) a = va_cpy (gI G a0) (gI G a) sp.toNatClampNeg dp.toNatClampNeg n.toNatClampNeg := by
      funext j
      rw [gI_wI, if_pos rfl]
    rw [e0]
    rfl
end SROWS
