/-! calls as formulas; rows whose reference stands as va_rf r; switches -/
set_option maxRecDepth 100000
/-- a call of the method y: its contract's end leads on; answers an int, a reference, nothing -/
def cI (Γ : GE) (l : Launch) (h : Nat) (y : MI) (av : List Value) (G : GH) (bc bs : Nat) (K : Int32 → GH → Nat → Nat → Prop) : Prop :=
  ∃ (h0 mc ms : Nat) (Q' : Option Value → GH → Prop), Tr Γ l y h0 mc ms av G Q' ∧ h0 < h ∧ mc ≤ bc ∧ ms ≤ bs ∧ ∀ v G', Q' v G' → ∃ r, v = some (.int r) ∧ K r G' (bc - mc) (bs - ms)
def cR (Γ : GE) (l : Launch) (h : Nat) (y : MI) (av : List Value) (G : GH) (bc bs : Nat) (K : Option Nat → GH → Nat → Nat → Prop) : Prop :=
  ∃ (h0 mc ms : Nat) (Q' : Option Value → GH → Prop), Tr Γ l y h0 mc ms av G Q' ∧ h0 < h ∧ mc ≤ bc ∧ ms ≤ bs ∧ ∀ v G', Q' v G' → ∃ r, v = some (va_rf r) ∧ K r G' (bc - mc) (bs - ms)
def cV (Γ : GE) (l : Launch) (h : Nat) (y : MI) (av : List Value) (G : GH) (bc bs : Nat) (K : GH → Nat → Nat → Prop) : Prop :=
  ∃ (h0 mc ms : Nat) (Q' : Option Value → GH → Prop), Tr Γ l y h0 mc ms av G Q' ∧ h0 < h ∧ mc ≤ bc ∧ ms ≤ bs ∧ ∀ v G', Q' v G' → v = none ∧ K G' (bc - mc) (bs - ms)
/-- contracts by the kind of their answer -/
def TrI (Γ : GE) (l : Launch) (y : MI) (h mc ms : Nat) (av : List Value) (G : GH) (P : Int32 → GH → Prop) : Prop := Tr Γ l y h mc ms av G (fun v G' => ∃ r, v = some (.int r) ∧ P r G')
def TrR (Γ : GE) (l : Launch) (y : MI) (h mc ms : Nat) (av : List Value) (G : GH) (P : Option Nat → GH → Prop) : Prop := Tr Γ l y h mc ms av G (fun v G' => ∃ r, v = some (va_rf r) ∧ P r G')
def TrV (Γ : GE) (l : Launch) (y : MI) (h mc ms : Nat) (av : List Value) (G : GH) (P : GH → Prop) : Prop := Tr Γ l y h mc ms av G (fun v G' => v = none ∧ P G')
theorem cI.mk {Γ : GE} {l : Launch} {h h0 mc ms : Nat} {y : MI} {av : List Value} {G : GH} {bc bs : Nat} {P : Int32 → GH → Prop} {K : Int32 → GH → Nat → Nat → Prop} (hT : TrI Γ l y h0 mc ms av G P) (hh : h0 < h) (h1 : mc ≤ bc) (h2 : ms ≤ bs) (k : ∀ r G', P r G' → K r G' (bc - mc) (bs - ms)) : cI Γ l h y av G bc bs K :=
  ⟨h0, mc, ms, _, hT, hh, h1, h2, fun _ G' q => by obtain ⟨r, e, p⟩ := q; exact ⟨r, e, k r G' p⟩⟩
theorem cR.mk {Γ : GE} {l : Launch} {h h0 mc ms : Nat} {y : MI} {av : List Value} {G : GH} {bc bs : Nat} {P : Option Nat → GH → Prop} {K : Option Nat → GH → Nat → Nat → Prop} (hT : TrR Γ l y h0 mc ms av G P) (hh : h0 < h) (h1 : mc ≤ bc) (h2 : ms ≤ bs) (k : ∀ r G', P r G' → K r G' (bc - mc) (bs - ms)) : cR Γ l h y av G bc bs K :=
  ⟨h0, mc, ms, _, hT, hh, h1, h2, fun _ G' q => by obtain ⟨r, e, p⟩ := q; exact ⟨r, e, k r G' p⟩⟩
theorem cV.mk {Γ : GE} {l : Launch} {h h0 mc ms : Nat} {y : MI} {av : List Value} {G : GH} {bc bs : Nat} {P : GH → Prop} {K : GH → Nat → Nat → Prop} (hT : TrV Γ l y h0 mc ms av G P) (hh : h0 < h) (h1 : mc ≤ bc) (h2 : ms ≤ bs) (k : ∀ G', P G' → K G' (bc - mc) (bs - ms)) : cV Γ l h y av G bc bs K :=
  ⟨h0, mc, ms, _, hT, hh, h1, h2, fun _ G' q => ⟨q.1, k G' q.2⟩⟩
/-- calls that make nothing: the room stays as it was written -/
theorem cI.mk0 {Γ : GE} {l : Launch} {h h0 : Nat} {y : MI} {av : List Value} {G : GH} {bc bs : Nat} {P : Int32 → GH → Prop} {K : Int32 → GH → Nat → Nat → Prop} (hT : TrI Γ l y h0 0 0 av G P) (hh : h0 < h) (k : ∀ r G', P r G' → K r G' bc bs) : cI Γ l h y av G bc bs K := cI.mk hT hh (Nat.zero_le _) (Nat.zero_le _) k
theorem cR.mk0 {Γ : GE} {l : Launch} {h h0 : Nat} {y : MI} {av : List Value} {G : GH} {bc bs : Nat} {P : Option Nat → GH → Prop} {K : Option Nat → GH → Nat → Nat → Prop} (hT : TrR Γ l y h0 0 0 av G P) (hh : h0 < h) (k : ∀ r G', P r G' → K r G' bc bs) : cR Γ l h y av G bc bs K := cR.mk hT hh (Nat.zero_le _) (Nat.zero_le _) k
theorem cV.mk0 {Γ : GE} {l : Launch} {h h0 : Nat} {y : MI} {av : List Value} {G : GH} {bc bs : Nat} {P : GH → Prop} {K : GH → Nat → Nat → Prop} (hT : TrV Γ l y h0 0 0 av G P) (hh : h0 < h) (k : ∀ G', P G' → K G' bc bs) : cV Γ l h y av G bc bs K := cV.mk hT hh (Nat.zero_le _) (Nat.zero_le _) k
section HROWS
variable {Γ : GE} {l : Launch} {mi : MI} {h MC MS : Nat} {Q : Option Value → GH → Prop} {pc : Nat} {lv : List (Nat × Value)} {st : List Value} {G : GH} {bc bs : Nat}
theorem h_get {C ref : String} {T : u_T} {N index : Nat} {v : Value} (ci k : Nat) (hc : vwCl[ci]? = some (C, T, N)) (hin : ∀ w ∈ u_ws C T N, w ∈ lw_all) (hk : k < N) (hlink : Cond.fieldLink mi.1.cls index ref (T k).2.1 (T k).2.2.1 ∈ lw_all) (hsame : (T k).1 = ref ∨ Cond.sameField ref (T k).1 (T k).2.1 (T k).2.2.1 ∈ lw_all) {r : Option Nat} {a : Nat} (hr : r = some a) (ha : gC G a = kO ci) (hv : gfv (gcty ci k) (gI G a k) (gR G a k) (gF G a k) = v) (hd : decode mi.2.1 pc = .ok (.getfield index, 3))
    (kk : GW Γ l mi h MC MS Q (pc + 3) lv (v :: st) G bc bs) : GW Γ l mi h MC MS Q pc lv (va_rf r :: st) G bc bs := by
  subst hr
  subst hv
  exact g_get ci k hc hin hk hlink hsame ha hd kk
theorem h_getN {C ref host : String} {T : u_T} {N index : Nat} {v : Value} (ci k : Nat) (hc : vwCl[ci]? = some (C, T, N)) (hin : ∀ w ∈ u_ws C T N, w ∈ lw_all) (hk : k < N) (hlink : (mi.1.cls, index, ref, (T k).2.1, (T k).2.2.1, host) ∈ gNF) (hsame : (T k).1 = ref) {r : Option Nat} {a : Nat} (hr : r = some a) (ha : gC G a = kO ci) (hm : gM G a = true) (hv : gfv (gcty ci k) (gI G a k) (gR G a k) (gF G a k) = v) (hd : decode mi.2.1 pc = .ok (.getfield index, 3))
    (kk : GW Γ l mi h MC MS Q (pc + 3) lv (v :: st) G bc bs) : GW Γ l mi h MC MS Q pc lv (va_rf r :: st) G bc bs := by
  subst hr
  subst hv
  exact g_getN ci k hc hin hk hlink hsame ha hm hd kk
theorem sI_other {a k : Nat} {v : Int32} (q : Nat) (hq : q ≠ a) : (∀ j, gI (sI G a k v) q j = gI G q j) ∧ (∀ j, gR (sI G a k v) q j = gR G q j) ∧ ∀ j, gF (sI G a k v) q j = gF G q j := ⟨fun j => by rw [gI_sI, if_neg (fun z => hq z.1)], fun _ => rfl, fun _ => rfl⟩
theorem sR_other {a k : Nat} {v : Option Nat} (q : Nat) (hq : q ≠ a) : (∀ j, gI (sR G a k v) q j = gI G q j) ∧ (∀ j, gR (sR G a k v) q j = gR G q j) ∧ ∀ j, gF (sR G a k v) q j = gF G q j := ⟨fun _ => rfl, fun j => by rw [gR_sR, if_neg (fun z => hq z.1)], fun _ => rfl⟩
theorem sF_other {a k : Nat} {v : UInt32} (q : Nat) (hq : q ≠ a) : (∀ j, gI (sF G a k v) q j = gI G q j) ∧ (∀ j, gR (sF G a k v) q j = gR G q j) ∧ ∀ j, gF (sF G a k v) q j = gF G q j := ⟨fun _ => rfl, fun _ => rfl, fun j => by rw [gF_sF, if_neg (fun z => hq z.1)]⟩
def tyInt (ty : FieldType) : Bool := match ty with
  | .object _ => false | .array _ => false | .float => false | .long => false | .double => false | _ => true
theorem gfv_int {ty : FieldType} (hi : tyInt ty = true) (i : Int32) (r : Option Nat) (f : UInt32) : gfv ty i r f = .int i := by
  cases ty <;> first | rfl | (simp [tyInt] at hi)
def tyRef (ty : FieldType) : Bool := match ty with
  | .object _ => true | .array _ => true | _ => false
theorem gfv_ref {ty : FieldType} (hi : tyRef ty = true) (i : Int32) (r : Option Nat) (f : UInt32) : gfv ty i r f = va_rf r := by
  cases ty <;> first | rfl | (simp [tyRef] at hi)
theorem h_putI {C ref : String} {T : u_T} {N index : Nat} {tyN : Nat → FieldType} {v : Int32} (ci k : Nat) (hc : vwCl[ci]? = some (C, T, N)) (hin : ∀ w ∈ u_ws C T N, w ∈ lw_all) (htyN : ∀ k, k < N → parseFieldDescriptor (T k).2.2.1 = some (tyN k)) (hnmN : ∀ a, a < N → ∀ b, b < N → a ≠ b → (T a).2.1 ≠ (T b).2.1) (hk : k < N) (hlink : Cond.fieldLink mi.1.cls index ref (T k).2.1 (T k).2.2.1 ∈ lw_all) (hsame : (T k).1 = ref ∨ Cond.sameField ref (T k).1 (T k).2.1 (T k).2.2.1 ∈ lw_all)
    (hfin : (T k).2.2.2 = false ∨ (mi.1.name = "<init>" ∧ (T k).1 = mi.1.cls)) (hty : tyInt (gcty ci k) = true) {r : Option Nat} {a : Nat} (hr : r = some a) (ha : gC G a = kO ci) (hm : gM G a = true) (hn : narrow (tyN k) (.int v) = .int v) (hfit : fits (tyN k) (.int v) = true) (hd : decode mi.2.1 pc = .ok (.putfield index, 3)) (kk : GW Γ l mi h MC MS Q (pc + 3) lv st (sI G a k v) bc bs) : GW Γ l mi h MC MS Q pc lv (.int v :: va_rf r :: st) G bc bs := by
  subst hr
  refine g_put (G1 := sI G a k v) ci k hc hin htyN hnmN hk hlink hsame hfin ha hm hn hfit rfl rfl rfl ?_ (fun j hj => ⟨by rw [gI_sI, if_neg (fun z => hj z.2)], rfl, rfl⟩) sI_other hd kk
  rw [gfv_int hty, gI_sI, if_pos ⟨rfl, rfl⟩]
theorem fits_rf {ty : FieldType} (hi : tyRef ty = true) (r : Option Nat) : narrow ty (va_rf r) = va_rf r ∧ fits ty (va_rf r) = true := by
  cases r <;> cases ty <;> first | exact ⟨rfl, rfl⟩ | (simp [tyRef] at hi)
theorem h_putR {C ref : String} {T : u_T} {N index : Nat} {tyN : Nat → FieldType} {v : Option Nat} (ci k : Nat) (hc : vwCl[ci]? = some (C, T, N)) (hin : ∀ w ∈ u_ws C T N, w ∈ lw_all) (htyN : ∀ k, k < N → parseFieldDescriptor (T k).2.2.1 = some (tyN k)) (hnmN : ∀ a, a < N → ∀ b, b < N → a ≠ b → (T a).2.1 ≠ (T b).2.1) (hk : k < N) (hlink : Cond.fieldLink mi.1.cls index ref (T k).2.1 (T k).2.2.1 ∈ lw_all) (hsame : (T k).1 = ref ∨ Cond.sameField ref (T k).1 (T k).2.1 (T k).2.2.1 ∈ lw_all)
    (hfin : (T k).2.2.2 = false ∨ (mi.1.name = "<init>" ∧ (T k).1 = mi.1.cls)) (hty : tyRef (gcty ci k) = true) (hty2 : tyRef (tyN k) = true) {r : Option Nat} {a : Nat} (hr : r = some a) (ha : gC G a = kO ci) (hm : gM G a = true) (hd : decode mi.2.1 pc = .ok (.putfield index, 3)) (kk : GW Γ l mi h MC MS Q (pc + 3) lv st (sR G a k v) bc bs) : GW Γ l mi h MC MS Q pc lv (va_rf v :: va_rf r :: st) G bc bs := by
  subst hr
  refine g_put (G1 := sR G a k v) ci k hc hin htyN hnmN hk hlink hsame hfin ha hm (fits_rf hty2 v).1 (fits_rf hty2 v).2 rfl rfl rfl ?_ (fun j hj => ⟨rfl, by rw [gR_sR, if_neg (fun z => hj z.2)], rfl⟩) sR_other hd kk
  rw [gfv_ref hty, gR_sR, if_pos ⟨rfl, rfl⟩]
theorem h_iald {r : Option Nat} {a : Nat} {i : Int32} (hr : r = some a) (ha : gC G a = kA 0) (hin : vp_in i (gL G a)) (hd : decode mi.2.1 pc = .ok (.iaload, 1)) (kk : GW Γ l mi h MC MS Q (pc + 1) lv (.int (gI G a i.toNatClampNeg) :: st) G bc bs) : GW Γ l mi h MC MS Q pc lv (.int i :: va_rf r :: st) G bc bs := by subst hr; exact g_iald ha hin hd kk
theorem h_zald {r : Option Nat} {a : Nat} {i : Int32} (hr : r = some a) (ha : gC G a = kA 1) (hin : vp_in i (gL G a)) (hd : decode mi.2.1 pc = .ok (.baload, 1)) (kk : GW Γ l mi h MC MS Q (pc + 1) lv (.int (gI G a i.toNatClampNeg) :: st) G bc bs) : GW Γ l mi h MC MS Q pc lv (.int i :: va_rf r :: st) G bc bs := by subst hr; exact g_zald ha hin hd kk
theorem h_bald {r : Option Nat} {a : Nat} {i : Int32} (hr : r = some a) (ha : gC G a = kA 2) (hin : vp_in i (gL G a)) (hd : decode mi.2.1 pc = .ok (.baload, 1)) (kk : GW Γ l mi h MC MS Q (pc + 1) lv (.int (gI G a i.toNatClampNeg) :: st) G bc bs) : GW Γ l mi h MC MS Q pc lv (.int i :: va_rf r :: st) G bc bs := by subst hr; exact g_bald ha hin hd kk
theorem h_cald {r : Option Nat} {a : Nat} {i : Int32} (hr : r = some a) (ha : gC G a = kA 3) (hin : vp_in i (gL G a)) (hd : decode mi.2.1 pc = .ok (.caload, 1)) (kk : GW Γ l mi h MC MS Q (pc + 1) lv (.int (gI G a i.toNatClampNeg) :: st) G bc bs) : GW Γ l mi h MC MS Q pc lv (.int i :: va_rf r :: st) G bc bs := by subst hr; exact g_cald ha hin hd kk
theorem h_alen {r : Option Nat} {a : Nat} (t : Nat) (hr : r = some a) (ha : gC G a = kA t) (ht : t < 8) (hd : decode mi.2.1 pc = .ok (.arraylength, 1)) (kk : GW Γ l mi h MC MS Q (pc + 1) lv (.int (nI (gL G a)) :: st) G bc bs) : GW Γ l mi h MC MS Q pc lv (va_rf r :: st) G bc bs := by subst hr; exact g_alen t ha ht hd kk
theorem h_aald {r : Option Nat} {a : Nat} {i : Int32} (t : Nat) (hr : r = some a) (ha : gC G a = kA t) (h4 : 4 ≤ t) (h8 : t < 8) (hm : gM G a = true) (hin : vp_in i (gL G a)) (hd : decode mi.2.1 pc = .ok (.aaload, 1)) (kk : GW Γ l mi h MC MS Q (pc + 1) lv (va_rf (gR G a i.toNatClampNeg) :: st) G bc bs) : GW Γ l mi h MC MS Q pc lv (.int i :: va_rf r :: st) G bc bs := by subst hr; exact g_aald t ha h4 h8 hm hin hd kk
theorem h_iast {r : Option Nat} {a : Nat} {i x : Int32} (hr : r = some a) (ha : gC G a = kA 0) (hm : gM G a = true) (hin : vp_in i (gL G a)) (hd : decode mi.2.1 pc = .ok (.iastore, 1)) (kk : GW Γ l mi h MC MS Q (pc + 1) lv st (sI G a i.toNatClampNeg x) bc bs) : GW Γ l mi h MC MS Q pc lv (.int x :: .int i :: va_rf r :: st) G bc bs := by subst hr; exact g_iast ha hm hin hd kk
theorem h_cast {r : Option Nat} {a : Nat} {i x : Int32} (hr : r = some a) (ha : gC G a = kA 3) (hm : gM G a = true) (hin : vp_in i (gL G a)) (hd : decode mi.2.1 pc = .ok (.castore, 1)) (kk : GW Γ l mi h MC MS Q (pc + 1) lv st (sI G a i.toNatClampNeg (vp_nar .char x)) bc bs) : GW Γ l mi h MC MS Q pc lv (.int x :: .int i :: va_rf r :: st) G bc bs := by subst hr; exact g_cast ha hm hin hd kk
theorem h_zast {r : Option Nat} {a : Nat} {i x : Int32} (hr : r = some a) (ha : gC G a = kA 1) (hm : gM G a = true) (hin : vp_in i (gL G a)) (hd : decode mi.2.1 pc = .ok (.bastore, 1)) (kk : GW Γ l mi h MC MS Q (pc + 1) lv st (sI G a i.toNatClampNeg (vp_nar .boolean x)) bc bs) : GW Γ l mi h MC MS Q pc lv (.int x :: .int i :: va_rf r :: st) G bc bs := by subst hr; exact g_zast ha hm hin hd kk
theorem h_bast {r : Option Nat} {a : Nat} {i x : Int32} (hr : r = some a) (ha : gC G a = kA 2) (hm : gM G a = true) (hin : vp_in i (gL G a)) (hd : decode mi.2.1 pc = .ok (.bastore, 1)) (kk : GW Γ l mi h MC MS Q (pc + 1) lv st (sI G a i.toNatClampNeg (vp_nar .byte x)) bc bs) : GW Γ l mi h MC MS Q pc lv (.int x :: .int i :: va_rf r :: st) G bc bs := by subst hr; exact g_bast ha hm hin hd kk
/-- virtual calls of the receiver's own class: by the kind of the answer -/
theorem h_callVI {y : MI} {index ci : Nat} {As rest : List Value} {r : Option Nat} {a : Nat} {C : String} {T : u_T} {N : Nat} {K : Int32 → GH → Nat → Nat → Prop} (F : cI Γ l h y (.ref a :: As) G bc bs K) (n : Nat) (hn : As.length = n) (hc : vwCl[ci]? = some (C, T, N)) (hw : GoodIn lw_all (wsV mi.1.cls index C y.1 (ws_ y.1 y.2.1 y.2.2.1 y.2.2.2)))
    (hcl : y.1.cls = C ∧ y.1.cls ≠ "java/lang/invoke/MethodHandle" ∧ y.1.cls ≠ "java/lang/invoke/VarHandle" ∧ (parseMethodDescriptor y.1.desc).map (fun d => d.parameters.length) = some n) (hL : y.2.2.1 ≤ 45) (hr : r = some a) (ha : gC G a = kO ci)
    (hst : st = As.reverse ++ va_rf r :: rest) (hr8 : (rest.map fun v => v.category).sum ≤ 8) (hd : decode mi.2.1 pc = .ok (.invokevirtual index, 3)) (kk : ∀ q G' bc' bs', K q G' bc' bs' → GW Γ l mi h MC MS Q (pc + 3) lv (.int q :: rest) G' bc' bs') : GW Γ l mi h MC MS Q pc lv st G bc bs := by
  subst hr
  obtain ⟨h0, mc, ms, Q', hT, hh, b1, b2, k⟩ := F
  refine g_callV hT n hn hc hw hcl hL hh ha hst hr8 hd b1 b2 fun v G' hq => ?_
  obtain ⟨q, rfl, hk⟩ := k v G' hq
  exact kk q G' _ _ hk
theorem h_callVR {y : MI} {index ci : Nat} {As rest : List Value} {r : Option Nat} {a : Nat} {C : String} {T : u_T} {N : Nat} {K : Option Nat → GH → Nat → Nat → Prop} (F : cR Γ l h y (.ref a :: As) G bc bs K) (n : Nat) (hn : As.length = n) (hc : vwCl[ci]? = some (C, T, N)) (hw : GoodIn lw_all (wsV mi.1.cls index C y.1 (ws_ y.1 y.2.1 y.2.2.1 y.2.2.2)))
    (hcl : y.1.cls = C ∧ y.1.cls ≠ "java/lang/invoke/MethodHandle" ∧ y.1.cls ≠ "java/lang/invoke/VarHandle" ∧ (parseMethodDescriptor y.1.desc).map (fun d => d.parameters.length) = some n) (hL : y.2.2.1 ≤ 45) (hr : r = some a) (ha : gC G a = kO ci)
    (hst : st = As.reverse ++ va_rf r :: rest) (hr8 : (rest.map fun v => v.category).sum ≤ 8) (hd : decode mi.2.1 pc = .ok (.invokevirtual index, 3)) (kk : ∀ q G' bc' bs', K q G' bc' bs' → GW Γ l mi h MC MS Q (pc + 3) lv (va_rf q :: rest) G' bc' bs') : GW Γ l mi h MC MS Q pc lv st G bc bs := by
  subst hr
  obtain ⟨h0, mc, ms, Q', hT, hh, b1, b2, k⟩ := F
  refine g_callV hT n hn hc hw hcl hL hh ha hst hr8 hd b1 b2 fun v G' hq => ?_
  obtain ⟨q, rfl, hk⟩ := k v G' hq
  exact kk q G' _ _ hk
theorem h_callVV {y : MI} {index ci : Nat} {As rest : List Value} {r : Option Nat} {a : Nat} {C : String} {T : u_T} {N : Nat} {K : GH → Nat → Nat → Prop} (F : cV Γ l h y (.ref a :: As) G bc bs K) (n : Nat) (hn : As.length = n) (hc : vwCl[ci]? = some (C, T, N)) (hw : GoodIn lw_all (wsV mi.1.cls index C y.1 (ws_ y.1 y.2.1 y.2.2.1 y.2.2.2)))
    (hcl : y.1.cls = C ∧ y.1.cls ≠ "java/lang/invoke/MethodHandle" ∧ y.1.cls ≠ "java/lang/invoke/VarHandle" ∧ (parseMethodDescriptor y.1.desc).map (fun d => d.parameters.length) = some n) (hL : y.2.2.1 ≤ 45) (hr : r = some a) (ha : gC G a = kO ci)
    (hst : st = As.reverse ++ va_rf r :: rest) (hr8 : (rest.map fun v => v.category).sum ≤ 8) (hd : decode mi.2.1 pc = .ok (.invokevirtual index, 3)) (kk : ∀ G' bc' bs', K G' bc' bs' → GW Γ l mi h MC MS Q (pc + 3) lv rest G' bc' bs') : GW Γ l mi h MC MS Q pc lv st G bc bs := by
  subst hr
  obtain ⟨h0, mc, ms, Q', hT, hh, b1, b2, k⟩ := F
  refine g_callV hT n hn hc hw hcl hL hh ha hst hr8 hd b1 b2 fun v G' hq => ?_
  obtain ⟨rfl, hk⟩ := k v G' hq
  exact kk G' _ _ hk
theorem h_callSI {y : MI} {index : Nat} {As rest : List Value} {K : Int32 → GH → Nat → Nat → Prop} (F : cI Γ l h y As G bc bs K) (n : Nat) (hn : As.length = n) (hw : GoodIn lw_all (va_wsS mi.1.cls index y.1 (ws_ y.1 y.2.1 y.2.2.1 y.2.2.2)))
    (hcl : y.1.cls ≠ "java/lang/invoke/MethodHandle" ∧ y.1.cls ≠ "java/lang/invoke/VarHandle" ∧ (parseMethodDescriptor y.1.desc).map (fun d => d.parameters.length) = some n) (hL : y.2.2.1 ≤ 45)
    (hst : st = As.reverse ++ rest) (hr8 : (rest.map fun v => v.category).sum ≤ 8) (hd : decode mi.2.1 pc = .ok (.invokestatic index, 3)) (kk : ∀ q G' bc' bs', K q G' bc' bs' → GW Γ l mi h MC MS Q (pc + 3) lv (.int q :: rest) G' bc' bs') : GW Γ l mi h MC MS Q pc lv st G bc bs := by
  obtain ⟨h0, mc, ms, Q', hT, hh, b1, b2, k⟩ := F
  refine g_callS hT n hn hw hcl hL hh hst hr8 hd b1 b2 fun v G' hq => ?_
  obtain ⟨q, rfl, hk⟩ := k v G' hq
  exact kk q G' _ _ hk
theorem h_callSR {y : MI} {index : Nat} {As rest : List Value} {K : Option Nat → GH → Nat → Nat → Prop} (F : cR Γ l h y As G bc bs K) (n : Nat) (hn : As.length = n) (hw : GoodIn lw_all (va_wsS mi.1.cls index y.1 (ws_ y.1 y.2.1 y.2.2.1 y.2.2.2)))
    (hcl : y.1.cls ≠ "java/lang/invoke/MethodHandle" ∧ y.1.cls ≠ "java/lang/invoke/VarHandle" ∧ (parseMethodDescriptor y.1.desc).map (fun d => d.parameters.length) = some n) (hL : y.2.2.1 ≤ 45)
    (hst : st = As.reverse ++ rest) (hr8 : (rest.map fun v => v.category).sum ≤ 8) (hd : decode mi.2.1 pc = .ok (.invokestatic index, 3)) (kk : ∀ q G' bc' bs', K q G' bc' bs' → GW Γ l mi h MC MS Q (pc + 3) lv (va_rf q :: rest) G' bc' bs') : GW Γ l mi h MC MS Q pc lv st G bc bs := by
  obtain ⟨h0, mc, ms, Q', hT, hh, b1, b2, k⟩ := F
  refine g_callS hT n hn hw hcl hL hh hst hr8 hd b1 b2 fun v G' hq => ?_
  obtain ⟨q, rfl, hk⟩ := k v G' hq
  exact kk q G' _ _ hk
theorem h_callSV {y : MI} {index : Nat} {As rest : List Value} {K : GH → Nat → Nat → Prop} (F : cV Γ l h y As G bc bs K) (n : Nat) (hn : As.length = n) (hw : GoodIn lw_all (va_wsS mi.1.cls index y.1 (ws_ y.1 y.2.1 y.2.2.1 y.2.2.2)))
    (hcl : y.1.cls ≠ "java/lang/invoke/MethodHandle" ∧ y.1.cls ≠ "java/lang/invoke/VarHandle" ∧ (parseMethodDescriptor y.1.desc).map (fun d => d.parameters.length) = some n) (hL : y.2.2.1 ≤ 45)
    (hst : st = As.reverse ++ rest) (hr8 : (rest.map fun v => v.category).sum ≤ 8) (hd : decode mi.2.1 pc = .ok (.invokestatic index, 3)) (kk : ∀ G' bc' bs', K G' bc' bs' → GW Γ l mi h MC MS Q (pc + 3) lv rest G' bc' bs') : GW Γ l mi h MC MS Q pc lv st G bc bs := by
  obtain ⟨h0, mc, ms, Q', hT, hh, b1, b2, k⟩ := F
  refine g_callS hT n hn hw hcl hL hh hst hr8 hd b1 b2 fun v G' hq => ?_
  obtain ⟨rfl, hk⟩ := k v G' hq
  exact kk G' _ _ hk
theorem h_callIV {y : MI} {index : Nat} {As rest : List Value} {r : Option Nat} {a : Nat} {K : GH → Nat → Nat → Prop} (F : cV Γ l h y (.ref a :: As) G bc bs K) (n : Nat) (hn : As.length = n) (hrt : y.2.2.2 = none) (hw : GoodIn lw_all (ws_ y.1 y.2.1 y.2.2.1 y.2.2.2)) (w1 : Cond.initialized y.1.cls ∈ lw_all) (w2 : Cond.methodLink mi.1.cls index y.1 ∈ lw_all) (w3 : Cond.instanceMethod y.1 ∈ lw_all) (hy1 : y.1.name = "<init>")
    (hcl : y.1.cls ≠ "java/lang/invoke/MethodHandle" ∧ y.1.cls ≠ "java/lang/invoke/VarHandle" ∧ (parseMethodDescriptor y.1.desc).map (fun d => d.parameters.length) = some n) (hL : y.2.2.1 ≤ 45) (hr : r = some a)
    (hst : st = As.reverse ++ va_rf r :: rest) (hr8 : (rest.map fun v => v.category).sum ≤ 8) (hd : decode mi.2.1 pc = .ok (.invokespecial index, 3)) (kk : ∀ G' bc' bs', K G' bc' bs' → GW Γ l mi h MC MS Q (pc + 3) lv rest G' bc' bs') : GW Γ l mi h MC MS Q pc lv st G bc bs := by
  subst hr
  obtain ⟨h0, mc, ms, Q', hT, hh, b1, b2, k⟩ := F
  refine g_callI hT n hn hrt hw w1 w2 w3 hy1 hcl hL hh hst hr8 hd b1 b2 fun v G' hq => ?_
  obtain ⟨rfl, hk⟩ := k v G' hq
  exact kk G' _ _ hk
theorem h_objInit {idx : Nat} {r : Option Nat} {a : Nat} (hl : Cond.methodLink mi.1.cls idx Lib.objectInit ∈ lw_all) (hin : Cond.instanceMethod Lib.objectInit ∈ lw_all) (hco : Cond.code Lib.objectInit ⟨#[0xb1]⟩ 1 none ∈ lw_all) (hr : r = some a) (hd : decode mi.2.1 pc = .ok (.invokespecial idx, 3)) (hh : 0 < h) (hr8 : (st.map fun v => v.category).sum ≤ 8) (kk : GW Γ l mi h MC MS Q (pc + 3) lv st G bc bs) : GW Γ l mi h MC MS Q pc lv (va_rf r :: st) G bc bs := by
  subst hr
  exact g_objInit hl hin hco hd hh hr8 kk
theorem h_copyi {index : Nat} (t : Nat) {r0 r : Option Nat} {a0 a : Nat} {sp dp n : Int32} (ht : t < 4) (hl : Cond.methodLink mi.1.cls index arraycopyName ∈ lw_all) (hnat : Cond.native arraycopyName ∈ lw_all) (hstt : Cond.static arraycopyName ∈ lw_all) (hini : Cond.initialized "java/lang/System" ∈ lw_all) (hr0 : r0 = some a0) (h0 : gC G a0 = kA t) (hm0 : gM G a0 = true) (hr : r = some a) (ha : gC G a = kA t) (hm : gM G a = true) (n1 : ¬ sp < 0) (n2 : ¬ dp < 0) (n3 : ¬ n < 0) (n4 : sp.toNatClampNeg + n.toNatClampNeg ≤ gL G a0) (n5 : dp.toNatClampNeg + n.toNatClampNeg ≤ gL G a)
    (hfit : ∀ i, i < n.toNatClampNeg → fits (gtyq t) (.int (gI G a0 (sp.toNatClampNeg + i))) = true) (hh : 0 < h) (hr8 : (st.map fun v => v.category).sum ≤ 8) (hd : decode mi.2.1 pc = .ok (.invokestatic index, 3))
    (kk : GW Γ l mi h MC MS Q (pc + 3) lv st (wI G a (va_cpy (gI G a0) (gI G a) sp.toNatClampNeg dp.toNatClampNeg n.toNatClampNeg)) bc bs) : GW Γ l mi h MC MS Q pc lv (.int n :: .int dp :: va_rf r :: .int sp :: va_rf r0 :: st) G bc bs := by
  subst hr0
  subst hr
  exact g_copyi ht hl hnat hstt hini h0 hm0 ha hm n1 n2 n3 n4 n5 hfit hh hr8 hd kk
theorem tsw_eq {x k : Int32} {z : Int} (h : x.toInt = z) (hk : k.toInt = z) : x = k := Int32.toInt_inj.mp (h.trans hk.symm)
theorem h_tin {dflt lo hi : Int} {offs : Array Int} {len : Nat} {x : Int32} {off z : Int} (tgt : Nat) (hd : decode mi.2.1 pc = .ok (.tableswitch dflt lo hi offs, len)) (hz : x.toInt = z) (h1 : ¬ z < lo) (h2 : ¬ hi < z) (ho : offs[(z - lo).toNat]? = some off) (ht : (pc : Int) + off = (tgt : Int)) (k : GW Γ l mi h MC MS Q tgt lv st G bc bs) : GW Γ l mi h MC MS Q pc lv (.int x :: st) G bc bs := GW.pure (fun hx hb k => lv_tableIn hx hb hd (by rw [hz]; exact h1) (by rw [hz]; exact h2) (by rw [hz]; exact ho) ht k) k
theorem h_tout {dflt lo hi : Int} {offs : Array Int} {len : Nat} {x : Int32} (tgt : Nat) (hd : decode mi.2.1 pc = .ok (.tableswitch dflt lo hi offs, len)) (h1 : x.toInt < lo ∨ hi < x.toInt) (ht : (pc : Int) + dflt = (tgt : Int)) (k : GW Γ l mi h MC MS Q tgt lv st G bc bs) : GW Γ l mi h MC MS Q pc lv (.int x :: st) G bc bs := GW.pure (fun hx hb k => lv_tableOut hx hb hd h1 ht k) k
end HROWS
