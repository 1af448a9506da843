/-! nodes of a HashMap (plain ones and tree nodes by one name); clone of a byte array -/
set_option maxRecDepth 100000
/-- a node's field j (0 hash, 1 key, 2 value, 3 next), in a plain node or a tree node -/
def ndk (G : GH) (a j : Nat) : Nat := if gC G a = kO 13 then j + 2 else j
def ndI (G : GH) (a j : Nat) : Int32 := gI G a (ndk G a j)
def ndR (G : GH) (a j : Nat) : Option Nat := gR G a (ndk G a j)
def ndsI (G : GH) (a j : Nat) (v : Int32) : GH := sI G a (ndk G a j) v
def ndsR (G : GH) (a j : Nat) (v : Option Nat) : GH := sR G a (ndk G a j) v
theorem ndk_12 {G : GH} {a j : Nat} (h : gC G a = kO 12) : ndk G a j = j := by
  unfold ndk
  rw [if_neg (by rw [h]; decide)]
theorem ndk_13 {G : GH} {a j : Nat} (h : gC G a = kO 13) : ndk G a j = j + 2 := by
  unfold ndk
  rw [if_pos h]
section R6ROWS
variable {Γ : GE} {l : Launch} {mi : MI} {h MC MS : Nat} {Q : Option Value → GH → Prop} {pc : Nat} {lv : List (Nat × Value)} {st : List Value} {G : GH} {bc bs : Nat}
theorem h_getNDI {index : Nat} (j : Nat) (hj : j = 0) (hlink : Cond.fieldLink mi.1.cls index "java/util/HashMap$Node" (TJ16 j).2.1 (TJ16 j).2.2.1 ∈ lw_all) {r : Option Nat} {a : Nat} (hr : r = some a) (ha : gC G a = kO 12 ∨ gC G a = kO 13) (hd : decode mi.2.1 pc = .ok (.getfield index, 3))
    (kk : GW Γ l mi h MC MS Q (pc + 3) lv (.int (ndI G a j) :: st) G bc bs) : GW Γ l mi h MC MS Q pc lv (va_rf r :: st) G bc bs := by
  subst hj
  unfold ndI at kk
  rcases ha with ha | ha
  · rw [ndk_12 ha] at kk
    exact h_get (v := .int (gI G a 0)) 12 0 (C := RJ16) (T := TJ16) (N := 4) rfl in_J16 (by decide) hlink (Or.inl rfl) hr ha rfl hd kk
  · rw [ndk_13 ha] at kk
    exact h_get (v := .int (gI G a 2)) 13 2 (C := RJ21) (T := TJ21) (N := 11) rfl in_J21 (by decide) hlink (Or.inl rfl) hr ha rfl hd kk
theorem h_getNDR {index : Nat} (j : Nat) (hj : j = 1 ∨ j = 2 ∨ j = 3) (hlink : Cond.fieldLink mi.1.cls index "java/util/HashMap$Node" (TJ16 j).2.1 (TJ16 j).2.2.1 ∈ lw_all) {r : Option Nat} {a : Nat} (hr : r = some a) (ha : gC G a = kO 12 ∨ gC G a = kO 13) (hd : decode mi.2.1 pc = .ok (.getfield index, 3))
    (kk : GW Γ l mi h MC MS Q (pc + 3) lv (va_rf (ndR G a j) :: st) G bc bs) : GW Γ l mi h MC MS Q pc lv (va_rf r :: st) G bc bs := by
  unfold ndR at kk
  rcases ha with ha | ha
  · rw [ndk_12 ha] at kk
    rcases hj with rfl | rfl | rfl
    · exact h_get (v := va_rf (gR G a 1)) 12 1 (C := RJ16) (T := TJ16) (N := 4) rfl in_J16 (by decide) hlink (Or.inl rfl) hr ha rfl hd kk
    · exact h_get (v := va_rf (gR G a 2)) 12 2 (C := RJ16) (T := TJ16) (N := 4) rfl in_J16 (by decide) hlink (Or.inl rfl) hr ha rfl hd kk
    · exact h_get (v := va_rf (gR G a 3)) 12 3 (C := RJ16) (T := TJ16) (N := 4) rfl in_J16 (by decide) hlink (Or.inl rfl) hr ha rfl hd kk
  · rw [ndk_13 ha] at kk
    rcases hj with rfl | rfl | rfl
    · exact h_get (v := va_rf (gR G a 3)) 13 3 (C := RJ21) (T := TJ21) (N := 11) rfl in_J21 (by decide) hlink (Or.inl rfl) hr ha rfl hd kk
    · exact h_get (v := va_rf (gR G a 4)) 13 4 (C := RJ21) (T := TJ21) (N := 11) rfl in_J21 (by decide) hlink (Or.inl rfl) hr ha rfl hd kk
    · exact h_get (v := va_rf (gR G a 5)) 13 5 (C := RJ21) (T := TJ21) (N := 11) rfl in_J21 (by decide) hlink (Or.inl rfl) hr ha rfl hd kk
theorem h_putNDI {index : Nat} {v : Int32} (j : Nat) (hj : j = 0) (hlink : Cond.fieldLink mi.1.cls index "java/util/HashMap$Node" (TJ16 j).2.1 (TJ16 j).2.2.1 ∈ lw_all) (hfin : (TJ16 j).2.2.2 = false ∨ (mi.1.name = "<init>" ∧ (TJ16 j).1 = mi.1.cls)) {r : Option Nat} {a : Nat} (hr : r = some a) (ha : gC G a = kO 12 ∨ gC G a = kO 13) (hm : gM G a = true) (hd : decode mi.2.1 pc = .ok (.putfield index, 3))
    (kk : GW Γ l mi h MC MS Q (pc + 3) lv st (ndsI G a j v) bc bs) : GW Γ l mi h MC MS Q pc lv (.int v :: va_rf r :: st) G bc bs := by
  subst hj
  unfold ndsI at kk
  rcases ha with ha | ha
  · rw [ndk_12 ha] at kk
    exact h_putI 12 0 (C := RJ16) (T := TJ16) (N := 4) rfl in_J16 tyJ16_ok nmJ16 (by decide) hlink (Or.inl rfl) hfin rfl hr ha hm rfl rfl hd kk
  · rw [ndk_13 ha] at kk
    exact h_putI 13 2 (C := RJ21) (T := TJ21) (N := 11) rfl in_J21 tyJ21_ok nmJ21 (by decide) hlink (Or.inl rfl) hfin rfl hr ha hm rfl rfl hd kk
theorem h_putNDR {index : Nat} {v : Option Nat} (j : Nat) (hj : j = 1 ∨ j = 2 ∨ j = 3) (hlink : Cond.fieldLink mi.1.cls index "java/util/HashMap$Node" (TJ16 j).2.1 (TJ16 j).2.2.1 ∈ lw_all) (hfin : (TJ16 j).2.2.2 = false ∨ (mi.1.name = "<init>" ∧ (TJ16 j).1 = mi.1.cls)) {r : Option Nat} {a : Nat} (hr : r = some a) (ha : gC G a = kO 12 ∨ gC G a = kO 13) (hm : gM G a = true) (hd : decode mi.2.1 pc = .ok (.putfield index, 3))
    (kk : GW Γ l mi h MC MS Q (pc + 3) lv st (ndsR G a j v) bc bs) : GW Γ l mi h MC MS Q pc lv (va_rf v :: va_rf r :: st) G bc bs := by
  unfold ndsR at kk
  rcases ha with ha | ha
  · rw [ndk_12 ha] at kk
    rcases hj with rfl | rfl | rfl
    · exact h_putR 12 1 (C := RJ16) (T := TJ16) (N := 4) rfl in_J16 tyJ16_ok nmJ16 (by decide) hlink (Or.inl rfl) hfin rfl rfl hr ha hm hd kk
    · exact h_putR 12 2 (C := RJ16) (T := TJ16) (N := 4) rfl in_J16 tyJ16_ok nmJ16 (by decide) hlink (Or.inl rfl) hfin rfl rfl hr ha hm hd kk
    · exact h_putR 12 3 (C := RJ16) (T := TJ16) (N := 4) rfl in_J16 tyJ16_ok nmJ16 (by decide) hlink (Or.inl rfl) hfin rfl rfl hr ha hm hd kk
  · rw [ndk_13 ha] at kk
    rcases hj with rfl | rfl | rfl
    · exact h_putR 13 3 (C := RJ21) (T := TJ21) (N := 11) rfl in_J21 tyJ21_ok nmJ21 (by decide) hlink (Or.inl rfl) hfin rfl rfl hr ha hm hd kk
    · exact h_putR 13 4 (C := RJ21) (T := TJ21) (N := 11) rfl in_J21 tyJ21_ok nmJ21 (by decide) hlink (Or.inl rfl) hfin rfl rfl hr ha hm hd kk
    · exact h_putR 13 5 (C := RJ21) (T := TJ21) (N := 11) rfl in_J21 tyJ21_ok nmJ21 (by decide) hlink (Or.inl rfl) hfin rfl rfl hr ha hm hd kk
/-- clone() of a byte array of ours -/
theorem h_cloneB {index : Nat} {r : Option Nat} {a : Nat} (hl : Cond.methodLink mi.1.cls index ⟨"[B", "clone", "()Ljava/lang/Object;"⟩ ∈ lw_all) (hsame : Cond.sameMethod "[B" "java/lang/Object" "clone" "()Ljava/lang/Object;" ∈ lw_all) (hnat : Cond.native ⟨"java/lang/Object", "clone", "()Ljava/lang/Object;"⟩ ∈ lw_all) (hinst : Cond.instanceMethod ⟨"java/lang/Object", "clone", "()Ljava/lang/Object;"⟩ ∈ lw_all) (hsel : Cond.selects "[B" ⟨"[B", "clone", "()Ljava/lang/Object;"⟩ ⟨"java/lang/Object", "clone", "()Ljava/lang/Object;"⟩ ∈ lw_all)
    (hr : r = some a) (ha : gC G a = kA 2) (hm : gM G a = true) (hfit : ∀ i, i < gL G a → fits .byte (.int (gI G a i)) = true) (hh : 0 < h) (hr8 : (st.map fun v => v.category).sum ≤ 8) (hb1 : 1 ≤ bc) (hb2 : gL G a ≤ bs) (hd : decode mi.2.1 pc = .ok (.invokevirtual index, 3))
    (kk : ∀ q, gC G q = 0 → gA Γ q → GW Γ l mi h MC MS Q (pc + 3) lv (va_rf (some q) :: st) (wI (nA G q 2 (gL G a)) q (gI G a)) (bc - 1) (bs - gL G a)) : GW Γ l mi h MC MS Q pc lv (va_rf r :: st) G bc bs := by
  subst hr
  intro p e R s m args below meth c H locs cells slots ls X hS hG hls h1 h2
  have K := fun q z1 z2 H1 hS1 hG1 => kk q z1 z2 p e R s m args below meth c H1 locs (cells + 1) (slots + gL G a) ls X hS1 hG1 hls (by omega) (by omega)
  obtain ⟨hx, hb, hml, hr, hlk, hnm, hts, hown, hK, hZ, hf1, hf2, hf3, hf4, hbase⟩ := X
  have hGG := hG
  obtain ⟨hbs, ⟨ws, hP, hD, g1, g2⟩, hcst⟩ := hG
  obtain ⟨k0, hk0⟩ := List.getElem?_of_mem (g1 a (by rw [ha]; exact kA_ne0 2) hm)
  rw [gent_Ai ha (by decide)] at hk0
  refine va_clone hx hb (by rw [hml]; exact hls.1.symm) hown (hts _ hl) (hts _ hsame) (hts _ hnat) (hts _ hinst) (hts _ hsel) (hK.2.2.2.1 ("[B", "java/lang/Cloneable") (by decide +kernel)) hK.1 hP hD hS (fun q hq => Nat.le_trans hbase hq) k0 2 hk0 (gtys_at 2 (by decide)) (hK.1.2 2 _ (gtys_at 2 (by decide))).2 (fun i v hv => ?_) (by omega) (by omega) (by omega) (by show slots + gL G a ≤ _; omega) hd (fun q H1 hK1 hP1 hD1 hS1 => ?_)
  · have hv' : (arrV (Γ.2.2.1 2) (gL G a) (fun j => .int (gI G a j))).slots[i]? = some v := hv
    have hi : i < gL G a := by
      have := (Array.getElem?_eq_some_iff.mp hv').1
      rw [arrV_size] at this
      exact this
    rw [arrV_read _ _ hi] at hv'
    cases hv'
    exact hfit i hi
  · obtain ⟨z1, z2⟩ := hGG.fresh g1 hD1
    refine K q z1 z2 H1 hS1 (gH_new (Nat.le_trans hbase hS1.1) hGG g1 g2 hP1 hD1 (gS_keep hbase hS hS1) (by rw [gM_wI, gM_nA, if_pos rfl]) (by rw [gC_wI, gC_nA, if_pos rfl]; exact kA_ne0 2) ?_ (fun x hx => ⟨by rw [gC_wI, gC_nA, if_neg hx], by rw [gL_wI, gL_nA, if_neg hx], by rw [gM_wI, gM_nA, if_neg hx], fun j => by rw [gI_wI, if_neg hx, gI_nA, if_neg hx], fun j => by rw [gR_wI, gR_nA, if_neg hx], fun j => by rw [gF_wI, gF_nA, if_neg hx]⟩))
    rw [gent_Ai (t := 2) (by rw [gC_wI, gC_nA, if_pos rfl]) (by decide), gL_wI, gL_nA, if_pos rfl]
    have e0 : gI (wI (nA G q 2 (gL G a)) q (gI G a)) q = gI G a := by
      funext j
      rw [gI_wI, if_pos rfl]
    rw [e0]
end R6ROWS
