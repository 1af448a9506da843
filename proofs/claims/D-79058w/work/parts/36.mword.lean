/-! heaps that grow; M's words -/
set_option maxRecDepth 100000
/-- what was there is as it was -/
def Ext (G G2 : GH) : Prop := ∀ q, gC G q ≠ 0 → gC G2 q = gC G q ∧ gL G2 q = gL G q ∧ gM G2 q = gM G q ∧ gI G2 q = gI G q ∧ gR G2 q = gR G q ∧ gF G2 q = gF G q
theorem Ext.rf {G : GH} : Ext G G := fun _ _ => ⟨rfl, rfl, rfl, rfl, rfl, rfl⟩
theorem Ext.tr {G G2 G3 : GH} (h : Ext G G2) (g : Ext G2 G3) : Ext G G3 := fun q hq => by
  obtain ⟨a1, a2, a3, a4, a5, a6⟩ := h q hq
  obtain ⟨b1, b2, b3, b4, b5, b6⟩ := g q (by rw [a1]; exact hq)
  exact ⟨b1.trans a1, b2.trans a2, b3.trans a3, b4.trans a4, b5.trans a5, b6.trans a6⟩
theorem Ext.nA {G : GH} {q t n : Nat} (hq : gC G q = 0) : Ext G (nA G q t n) := fun p hp => by
  have hne : p ≠ q := fun e => hp (by rw [e]; exact hq)
  refine ⟨by rw [gC_nA, if_neg hne], by rw [gL_nA, if_neg hne], by rw [gM_nA, if_neg hne], funext fun j => by rw [gI_nA, if_neg hne], funext fun j => by rw [gR_nA, if_neg hne], funext fun j => by rw [gF_nA, if_neg hne]⟩
theorem Ext.nO {G : GH} {q ci : Nat} (hq : gC G q = 0) : Ext G (nO G q ci) := fun p hp => by
  have hne : p ≠ q := fun e => hp (by rw [e]; exact hq)
  refine ⟨by rw [gC_nO, if_neg hne], rfl, by rw [gM_nO, if_neg hne], funext fun j => by rw [gI_nO, if_neg hne], funext fun j => by rw [gR_nO, if_neg hne], funext fun j => by rw [gF_nO, if_neg hne]⟩
theorem Ext.sR {G H : GH} {q j : Nat} {v : Option Nat} (h : Ext G H) (hq : gC G q = 0) : Ext G (sR H q j v) := fun p hp => by
  have hne : p ≠ q := fun e => hp (by rw [e]; exact hq)
  obtain ⟨a1, a2, a3, a4, a5, a6⟩ := h p hp
  exact ⟨a1, a2, a3, a4, funext fun k => by rw [gR_sR, if_neg (fun z => hne z.1), a5], a6⟩
theorem Ext.sI {G H : GH} {q j : Nat} {v : Int32} (h : Ext G H) (hq : gC G q = 0) : Ext G (sI H q j v) := fun p hp => by
  have hne : p ≠ q := fun e => hp (by rw [e]; exact hq)
  obtain ⟨a1, a2, a3, a4, a5, a6⟩ := h p hp
  exact ⟨a1, a2, a3, funext fun k => by rw [gI_sI, if_neg (fun z => hne z.1), a4], a5, a6⟩
theorem MK.ext {G G2 : GH} {x : Nat} {ma : Nat → Nat} (h : MK G x ma) (e : Ext G G2) : MK G2 x ma := by
  obtain ⟨h1, h2, h3, h4⟩ := h
  obtain ⟨a1, a2, a3, a4, a5, a6⟩ := e x (by rw [h1]; exact kO_ne0 1)
  refine ⟨a1.trans h1, a3.trans h2, fun k hk => ?_, h4⟩
  obtain ⟨c1, c2, c3, c4⟩ := h3 k hk
  obtain ⟨b1, b2, b3, b4, b5, b6⟩ := e (ma k) (by rw [c2]; exact kA_ne0 _)
  exact ⟨by rw [a5]; exact c1, b1.trans c2, b2.trans c3, b3.trans c4⟩
theorem STR.ext {G G2 : GH} {x : Nat} {t : List Nat} (h : STR G x t) (e : Ext G G2) : STR G2 x t := by
  obtain ⟨h1, h2, h3, a, h4, h5, h6, h7⟩ := h
  obtain ⟨a1, a2, a3, a4, a5, a6⟩ := e x (by rw [h1]; exact kO_ne0 15)
  obtain ⟨b1, b2, b3, b4, b5, b6⟩ := e a (by rw [h5]; exact kA_ne0 _)
  exact ⟨a1.trans h1, by rw [a4]; exact h2, h3, a, by rw [a5]; exact h4, b1.trans h5, b2.trans h6, fun j c hj => ⟨(h7 j c hj).1, by rw [b4]; exact (h7 j c hj).2⟩⟩
theorem KC.ext {Γ : GE} {G G2 : GH} (h : KC Γ G) (e : Ext G G2) : KC Γ G2 := fun i h6 h8 => by
  obtain ⟨c1, c2, c3, c4⟩ := h i h6 h8
  obtain ⟨b1, b2, b3, b4, b5, b6⟩ := e (Γ.2.2.2 i) (by rw [c1]; exact kA_ne0 _)
  exact ⟨b1.trans c1, b3.trans c2, b2.trans c3, fun j hj => by rw [b4]; exact c4 j hj⟩
theorem KS.ext {Γ : GE} {G G2 : GH} (h : KS Γ G) (e : Ext G G2) : KS Γ G2 := ⟨h.1.ext e, h.2.ext e⟩
theorem nA_mW {G : GH} {x : Nat} {ma : Nat → Nat} {sc : Nat → Int32} {ar : Nat → Nat → Int32} (hK : MK G x ma) {q t n : Nat} (hq : gC G q = 0) : nA (mW G x ma sc ar) q t n = mW (nA G q t n) x ma sc ar := by
  have n1 : q ≠ x := fun e => by rw [e, hK.1] at hq; exact kO_ne0 _ hq
  have n2 : ∀ k ∈ mks, ma k ≠ q := fun k hk e => by have := (hK.2.2.1 k hk).2.1; rw [e, hq] at this; exact kA_ne0 _ this.symm
  have e : u1 (gI (mW G x ma sc ar)) q (fun _ => 0) = mWI x ma sc ar (gI (nA G q t n)) := by
    refine mW_eq (hK.ext (Ext.nA hq)) (fun j => ?_) (fun k hk j => ?_) (fun b h1 h2 j => ?_)
    · unfold u1; rw [if_neg (Ne.symm n1), mW_x hK]
    · unfold u1; rw [if_neg (n2 k hk), mW_a hK k hk]
    · unfold u1
      rw [gI_nA]
      by_cases hb : b = q
      · rw [if_pos hb, if_pos hb]
      · rw [if_neg hb, if_neg hb, mW_o hK b h1 h2]
  exact congrArg (fun f => ((gC (nA G q t n), gL (nA G q t n), gM (nA G q t n), f, gR (nA G q t n), gF (nA G q t n)) : GH)) e
def pW (k : Nat) : List Nat := ([[108, 101, 103], [99, 114, 101, 119], [102, 108, 121], [114, 105, 100, 101], [100, 114, 111, 112], [108, 97, 116, 101], [99, 97, 110, 99, 101, 108], [114, 117, 108, 101], [112, 97, 105, 114], [114, 101, 112, 97, 105, 114]] : List (List Nat)).getD k []
def KW (Γ : GE) (G : GH) : Prop := ∀ k, k < 10 → STR G (Γ.2.2.2 (43 + k)) (pW k)
theorem KW.ext {Γ : GE} {G G2 : GH} (h : KW Γ G) (e : Ext G G2) : KW Γ G2 := fun k hk => (h k hk).ext e
def pEqF (t : List Nat) (a : Nat) (w : List Nat) : Nat → Nat → Bool
  | _, 0 => true
  | i, n + 1 => decide (pAt t (a + i) = pAt w i) && pEqF t a w (i + 1) n
/-- does the word w stand from a to e -/
def pIsW (t : List Nat) (a e : Nat) (w : List Nat) : Bool := decide (e - a = w.length) && pEqF t a w 0 w.length
def pWoF (t : List Nat) (a e : Nat) : Nat → Nat → Option Nat → Option Nat
  | _, 0, o => o
  | k, n + 1, o => pWoF t a e (k + 1) n (if pIsW t a e (pW k) then some k else o)
def pWord (t : List Nat) (a e : Nat) : Option Nat := pWoF t a e 0 10 none
section MC20
variable {Γ : GE} {l : Launch} {G : GH} {x : Nat} {ma : Nat → Nat} {sc : Nat → Int32} {ar : Nat → Nat → Int32} {A : AS} {b : Int32} {r : List It} {S : SS}
theorem t_isWord (hK : MK G x ma) {t : List Nat} (hX : MX (sc 26) (ar 25) t) (ht : ∀ (j c : Nat), t[j]? = some c → c < 128) (a e : Nat) (he : sc 27 = nI e) (hae : a ≤ e) (het : e ≤ t.length) (q : Nat) (w : List Nat) (hw : STR G q w) : TrI Γ l mX2_isWord 5 0 0 [.ref x, .int (nI a), va_rf (some q)] (mW G x ma sc ar) (fun v G' => v = bI (pIsW t a e w) ∧ G' = (mW G x ma sc ar)) := by
  obtain ⟨x1, x2, x3⟩ := hX
  have hq : STR (mW G x ma sc ar) q w := hw.mW hK
  have hw20 := hw.2.2.1
  refine Tr.intro (by decide +kernel) (Nat.le_of_ble_eq_true rfl) ?_
  have key : ∀ n i (f : Bool), i + n = w.length → (f = true → e - a = w.length) → GW Γ l mX2_isWord 5 0 0 (fun v G' => ∃ z, v = some (.int z) ∧ z = bI (f && pEqF t a w i n) ∧ G' = (mW G x ma sc ar)) 22 [(0, va_rf (some x)), (1, .int (nI a)), (2, va_rf (some q)), (3, .int (bI f)), (4, .int (nI i))] [] (mW G x ma sc ar) 0 0 := by
    intro n
    induction n with
    | zero =>
      intro i f hi hf
      refine rX2_isWord_22 x _ _ _ _ ⟨q, rfl, hq.1, cI.det (t_slen hq) (by decide) (br_t (nI_le (by omega) (by omega)) ⟨bI_n _, _, rfl, ?_, rfl⟩)⟩
      show bI f = bI (f && true)
      rw [Bool.and_true]
    | succ n ih =>
      intro i f hi hf
      have hil : i < w.length := by omega
      have hgi : w[i]? = some w[i] := List.getElem?_eq_getElem hil
      refine rX2_isWord_22 x _ _ _ _ ⟨q, rfl, hq.1, cI.det (t_slen hq) (by decide) (br_f (nI_ge hil (by omega)) ?_)⟩
      rw [bI_0]
      refine ⟨fun h => ⟨bI_n _, _, rfl, by rw [h]; rfl, rfl⟩, fun h => ?_⟩
      simp only [Bool.not_eq_false] at h
      have hlen := hf h
      have hti : a + i < t.length := by omega
      have hgt : t[a + i]? = some t[a + i] := List.getElem?_eq_getElem hti
      have e1 : nI a + nI i = nI (a + i) := by simp only [li_, nI_add, pk_mul, nI_1, Nat.add_assoc]
      refine ⟨hK.c, ma 25, hK.r 25 (by decide), hK.t 25 3 (by decide) rfl, hK.inb 25 (by decide) _ e1 (by show _ < 60; omega), hq.1, cI.det (t_charAt hq i _ hgi) (by decide) ?_⟩
      rw [hK.rd 25 (by decide) _ e1 (by omega), x3 _ _ hgt]
      obtain ⟨_, _, _, aa, _, _, _, h7⟩ := hw
      have c1 := (h7 i _ hgi).1
      have c2 := ht _ _ hgt
      rw [nI_eq (by omega) (by omega), nI_1]
      have p1 : pAt t (a + i) = t[a + i] := by unfold pAt; rw [List.getD_eq_getElem?_getD, hgt]; rfl
      have p2 : pAt w i = w[i] := by unfold pAt; rw [List.getD_eq_getElem?_getD, hgi]; rfl
      have E : (f && pEqF t a w i (n + 1)) = (decide (t[a + i] = w[i]) && pEqF t a w (i + 1) n) := by
        show (f && (decide (pAt t (a + i) = pAt w i) && pEqF t a w (i + 1) n)) = _
        rw [h, p1, p2, Bool.true_and]
      rw [E]
      refine ⟨fun h2 => ?_, fun h2 => ?_⟩
      · rw [decide_eq_false h2]
        exact ih (i + 1) false (by omega) (fun z => by cases z)
      · rw [decide_eq_true h2]
        exact ih (i + 1) true (by omega) (fun _ => hlen)
  refine rX2_isWord_0 x _ _ ⟨hK.c, q, rfl, hq.1, cI.det (t_slen hq) (by decide) ?_⟩
  rw [mW_x hK, he, pk_sub hae, nI_eq (by omega) (by omega)]
  unfold pIsW
  refine ⟨fun h => ?_, fun h => ?_⟩
  · rw [decide_eq_false h]
    exact key w.length 0 false (by omega) (fun z => by cases z)
  · rw [decide_eq_true h]
    exact key w.length 0 true (by omega) (fun _ => h)
end MC20
