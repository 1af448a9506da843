/-! the abstract state: legs, rules, crews; what the operations compute on it -/
set_option maxRecDepth 100000
abbrev It : Type := Nat × Bool
abbrev Cw : Type := Int32 × Int32 × Int32 × List It
abbrev AS : Type := Nat × (Nat → Nat → Int32) × (Nat → Int32) × List Cw
def aN (A : AS) : Nat := A.1
def aL (A : AS) : Nat → Nat → Int32 := A.2.1
def aR (A : AS) : Nat → Int32 := A.2.2.1
def aC (A : AS) : List Cw := A.2.2.2
def cw (A : AS) (c : Nat) : Cw := (aC A).getD c (0, 0, 0, [])
def cB (k : Cw) : Int32 := k.1
def cS (k : Cw) : Int32 := k.2.1
def cE (k : Cw) : Int32 := k.2.2.1
def cT (k : Cw) : List It := k.2.2.2
def rl (r : List It) (i : Nat) : Nat := (r.getD i (0, false)).1
def rf (r : List It) (i : Nat) : Bool := (r.getD i (0, false)).2
def bI (b : Bool) : Int32 := if b then 1 else 0
def bN (b : Bool) : Nat := if b then 1 else 0
def pIn (v lo hi : Int32) : Bool := !decide (v < lo) && !decide (hi < v)
def iMax (a b : Int32) : Int32 := if a < b then b else a
def iMin (a b : Int32) : Int32 := if b < a then b else a
def sumN (f : Nat → Int32) (a : Nat) : Nat → Int32
  | 0 => 0
  | n + 1 => sumN f a n + f (a + n)
def pLen (A : AS) (i : Nat) : Int32 := aL A i 3 - aL A i 2
def pGap (A : AS) (r : List It) (i : Nat) : Int32 := aL A (rl r i) 2 - aL A (rl r (i - 1)) 3
def pBeg (A : AS) (r : List It) (i : Nat) : Bool := decide (i = 0) || !decide (pGap A r i < aR A 1)
def pEndF (A : AS) (r : List It) : Nat → Nat → Nat
  | e, 0 => e
  | e, n + 1 => if pBeg A r e then e else pEndF A r (e + 1) n
def pEnd (A : AS) (r : List It) (i : Nat) : Nat := pEndF A r (i + 1) (r.length - (i + 1))
def pDm (A : AS) (r : List It) (i : Nat) : Int32 := aL A (rl r (pEnd A r i - 1)) 3 - aL A (rl r i) 2
def pFl1 (A : AS) (r : List It) (k : Nat) : Int32 := if rf r k then pLen A (rl r k) else 0
def pFl (A : AS) (r : List It) (a b : Nat) : Int32 := sumN (pFl1 A r) a (b - a)
def pWi1 (A : AS) (r : List It) (st ln : Int32) (k : Nat) : Int32 := if rf r k then iMax 0 (iMin (st + ln) (aL A (rl r k) 3) - iMax st (aL A (rl r k) 2)) else 0
def pWi (A : AS) (r : List It) (st ln : Int32) : Int32 := sumN (pWi1 A r st ln) 0 r.length
def pVio (A : AS) (b : Int32) (r : List It) (k i : Nat) : Bool := match k with
  | 1 => decide (0 < i) && !decide (0 ≤ pGap A r i)
  | 2 => !decide (aL A (rl r i) 0 = if i = 0 then b else aL A (rl r (i - 1)) 1)
  | 3 => decide (0 < i) && pIn (pGap A r i) 0 (aR A 0 - 1)
  | 4 => pBeg A r i && !decide (pDm A r i ≤ aR A 2)
  | 5 => pBeg A r i && !decide (pFl A r i (pEnd A r i) ≤ aR A 3)
  | 6 => pBeg A r i && !decide (nI (pEnd A r i - i) ≤ aR A 4)
  | _ => rf r i && !decide (pWi A r (aL A (rl r i) 2) 1440 ≤ aR A 5)
/-- the violations of kind k at the places from i on, n of them looked at -/
def pVk (A : AS) (b : Int32) (r : List It) (k i : Nat) : Nat → List (Nat × Nat)
  | 0 => []
  | n + 1 => if pVio A b r k i then (k, i) :: pVk A b r k (i + 1) n else pVk A b r k (i + 1) n
/-- kinds from k on, n of them -/
def pVf (A : AS) (b : Int32) (r : List It) (k : Nat) : Nat → List (Nat × Nat)
  | 0 => []
  | n + 1 => pVk A b r k 0 r.length ++ pVf A b r (k + 1) n
def pVs (A : AS) (b : Int32) (r : List It) : List (Nat × Nat) := pVf A b r 1 7
/-- does a leg come before another one -/
def pBef (A : AS) (i j : Nat) : Bool := decide (aL A i 2 < aL A j 2) || (decide (aL A i 2 = aL A j 2) && decide (i < j))
/-- where a leg is put, looked for from n downward -/
def pPosF (A : AS) (r : List It) (i : Nat) : Nat → Nat
  | 0 => 0
  | n + 1 => if pBef A i (rl r n) then pPosF A r i n else n + 1
def pPos (A : AS) (r : List It) (i : Nat) : Nat := pPosF A r i r.length
def pPut (A : AS) (r : List It) (i : Nat) (f : Bool) : List It := r.take (pPos A r i) ++ (i, f) :: r.drop (pPos A r i)
/-- where a leg stands in a row -/
def pFind (r : List It) (i : Nat) : Nat → Nat → Option Nat
  | _, 0 => none
  | k, n + 1 => if rl r k = i then some k else pFind r i (k + 1) n
def pPl (r : List It) (i : Nat) : Option Nat := pFind r i 0 r.length
def oI (o : Option Nat) (d : Int32) : Int32 := match o with | none => d | some k => nI k
def pFlyF (A : AS) (i : Nat) : Nat → Nat → Option Nat
  | _, 0 => none
  | c, n + 1 => match pPl (cT (cw A c)) i with
    | none => pFlyF A i (c + 1) n
    | some k => if rf (cT (cw A c)) k then some c else pFlyF A i (c + 1) n
def pFly (A : AS) (i : Nat) : Option Nat := pFlyF A i 0 (aC A).length
def pOpen (A : AS) (i : Nat) : Bool := decide (aL A i 4 = 0) && (pFly A i).isNone
/-- why a leg can't be taken into a row: kind, place -/
def pHin (A : AS) (b : Int32) (r : List It) (i : Nat) (f : Bool) : Nat × Nat :=
  if aL A i 4 = 1 then (10, 0) else if (pPl r i).isSome then (9, 0) else if f && (pFly A i).isSome then (8, 0) else ((pVs A b (pPut A r i f)).head?).getD (0, 0)
theorem li_ (n : Nat) : (OfNat.ofNat n : Int32) = nI n := rfl
theorem bI_0 {b : Bool} : bI b = 0 ↔ b = false := by cases b <;> simp [bI] <;> decide
theorem bI_1 {b : Bool} : ¬ bI b = 0 ↔ b = true := by cases b <;> simp [bI] <;> decide
theorem bI_n (b : Bool) : narrow .boolean (.int (bI b)) = .int (bI b) := by cases b <;> rfl
theorem nI_e {a b : Nat} (ha : a < 2 ^ 31) (hb : b < 2 ^ 31) (h : nI a = nI b) : a = b := (nI_eq ha hb).mp h
theorem pEndF_le (A : AS) (r : List It) : ∀ n e, pEndF A r e n ≤ e + n ∧ e ≤ pEndF A r e n := by
  intro n
  induction n with
  | zero => intro e; exact ⟨Nat.le_refl _, Nat.le_refl _⟩
  | succ n ih =>
    intro e
    unfold pEndF
    have := ih (e + 1)
    split <;> omega
theorem pEnd_le (A : AS) (r : List It) (i : Nat) (h : i < r.length) : pEnd A r i ≤ r.length ∧ i < pEnd A r i := by
  have := pEndF_le A r (r.length - (i + 1)) (i + 1)
  unfold pEnd
  omega
theorem pPosF_le (A : AS) (r : List It) (i : Nat) : ∀ n, pPosF A r i n ≤ n := by
  intro n
  induction n with
  | zero => exact Nat.le_refl _
  | succ n ih =>
    unfold pPosF
    split <;> omega
theorem pPos_le (A : AS) (r : List It) (i : Nat) : pPos A r i ≤ r.length := pPosF_le A r i _
theorem pPut_len (A : AS) (r : List It) (i : Nat) (f : Bool) : (pPut A r i f).length = r.length + 1 := by
  have := pPos_le A r i
  unfold pPut
  rw [List.length_append, List.length_cons, List.length_take, List.length_drop]
  omega
theorem rl_at {r : List It} {i : Nat} (h : i < r.length) : r[i]? = some (rl r i, rf r i) := by
  unfold rl rf
  rw [List.getD_eq_getElem?_getD, List.getElem?_eq_getElem h]
  rfl
theorem pFind_some {r : List It} {i j : Nat} : ∀ n k, pFind r i k n = some j → k ≤ j ∧ j < k + n ∧ rl r j = i := by
  intro n
  induction n with
  | zero => intro k h; cases h
  | succ n ih =>
    intro k h
    unfold pFind at h
    split at h
    · cases h
      exact ⟨Nat.le_refl _, by omega, by assumption⟩
    · have := ih (k + 1) h
      omega
theorem pFind_none {r : List It} {i : Nat} : ∀ n k, pFind r i k n = none → ∀ j, k ≤ j → j < k + n → rl r j ≠ i := by
  intro n
  induction n with
  | zero => intro k h j h1 h2; omega
  | succ n ih =>
    intro k h j h1 h2
    unfold pFind at h
    split at h
    · cases h
    · by_cases hj : j = k
      · rw [hj]; assumption
      · exact ih (k + 1) h j (by omega) (by omega)
theorem sumN_succ (f : Nat → Int32) (a n : Nat) : sumN f a (n + 1) = sumN f a n + f (a + n) := rfl
/-! M's heap in normal form: its object's numbers sc, its arrays' rows ar (both by the field's number) -/
def ml (k : Nat) : Nat := match k with
  | 0 => 298 | 1 => 298 | 3 => 2384 | 5 => 298 | 7 => 48 | 10 => 25 | 16 => 25 | 17 => 576 | 19 => 6 | 20 => 6 | 23 => 768 | 25 => 60 | 29 => 4 | _ => 0
def mt (k : Nat) : Nat := match k with
  | 23 => 3 | 25 => 3 | _ => 0
def mks : List Nat := [0, 1, 3, 5, 7, 10, 16, 17, 19, 20, 23, 25, 29]
def MK (G : GH) (x : Nat) (ma : Nat → Nat) : Prop := gC G x = kO 1 ∧ gM G x = true ∧ (∀ k ∈ mks, gR G x k = some (ma k) ∧ gC G (ma k) = kA (mt k) ∧ gL G (ma k) = ml k ∧ gM G (ma k) = true) ∧ ∀ j ∈ mks, ∀ k ∈ mks, ma j = ma k → j = k
def mWI (x : Nat) (ma : Nat → Nat) (sc : Nat → Int32) (ar f : Nat → Nat → Int32) : Nat → Nat → Int32 := fun b j => if b = x then sc j else match mks.find? (fun k => decide (ma k = b)) with
  | some k => ar k j
  | none => f b j
def mW (G : GH) (x : Nat) (ma : Nat → Nat) (sc : Nat → Int32) (ar : Nat → Nat → Int32) : GH := (gC G, gL G, gM G, mWI x ma sc ar (gI G), gR G, gF G)
theorem kOA (a b : Nat) : kO a ≠ kA b := by unfold kO kA; omega
section MWL
variable {G : GH} {x : Nat} {ma : Nat → Nat} {sc : Nat → Int32} {ar : Nat → Nat → Int32}
theorem MK.c (hK : MK G x ma) : gC (mW G x ma sc ar) x = kO 1 := hK.1
theorem MK.m (hK : MK G x ma) : gM (mW G x ma sc ar) x = true := hK.2.1
theorem MK.r (hK : MK G x ma) (k : Nat) (h : k ∈ mks) : gR (mW G x ma sc ar) x k = some (ma k) := (hK.2.2.1 k h).1
theorem MK.t (hK : MK G x ma) (k t : Nat) (h : k ∈ mks) (ht : mt k = t) : gC (mW G x ma sc ar) (ma k) = kA t := by rw [← ht]; exact (hK.2.2.1 k h).2.1
theorem MK.n (hK : MK G x ma) (k : Nat) (h : k ∈ mks) : gL (mW G x ma sc ar) (ma k) = ml k := (hK.2.2.1 k h).2.2.1
theorem MK.w (hK : MK G x ma) (k : Nat) (h : k ∈ mks) : gM (mW G x ma sc ar) (ma k) = true := (hK.2.2.1 k h).2.2.2
theorem MK.ne (hK : MK G x ma) (k : Nat) (h : k ∈ mks) : ma k ≠ x := fun e => kOA 1 (mt k) (by rw [← hK.1, ← (hK.2.2.1 k h).2.1, e])
theorem ml_lt (k : Nat) : ml k < 2 ^ 31 := by unfold ml; split <;> decide
theorem MK.inb (hK : MK G x ma) (k : Nat) (h : k ∈ mks) {i : Int32} (n : Nat) (e : i = nI n) (hn : n < ml k) : vp_in i (gL (mW G x ma sc ar) (ma k)) := by
  rw [hK.n k h, e]
  exact vp_in_nI hn (ml_lt k)
theorem MK.idx (hK : MK G x ma) (k : Nat) (h : k ∈ mks) : mks.find? (fun j => decide (ma j = ma k)) = some k := by
  cases hf : mks.find? (fun j => decide (ma j = ma k)) with
  | none =>
    have := List.find?_eq_none.mp hf k h
    simp at this
  | some j =>
    have h1 := List.find?_some hf
    have h2 := List.mem_of_find?_eq_some hf
    rw [hK.2.2.2 j h2 k h (of_decide_eq_true h1)]
theorem mW_x (hK : MK G x ma) (k : Nat) : gI (mW G x ma sc ar) x k = sc k := by
  show mWI x ma sc ar (gI G) x k = sc k
  unfold mWI
  rw [if_pos rfl]
theorem mW_a (hK : MK G x ma) (k : Nat) (h : k ∈ mks) (j : Nat) : gI (mW G x ma sc ar) (ma k) j = ar k j := by
  show mWI x ma sc ar (gI G) (ma k) j = ar k j
  unfold mWI
  rw [if_neg (hK.ne k h), hK.idx k h]
theorem MK.rd (hK : MK G x ma) (k : Nat) (h : k ∈ mks) {i : Int32} (n : Nat) (e : i = nI n) (hn : n < 2 ^ 31) : gI (mW G x ma sc ar) (ma k) i.toNatClampNeg = ar k n := by
  rw [e, nI_clamp hn, mW_a hK k h]
theorem mW_eq (hK : MK G x ma) {sc' : Nat → Int32} {ar' : Nat → Nat → Int32} {f : Nat → Nat → Int32} (h1 : ∀ j, f x j = sc' j) (h2 : ∀ k ∈ mks, ∀ j, f (ma k) j = ar' k j) (h3 : ∀ b, b ≠ x → (∀ k ∈ mks, ma k ≠ b) → ∀ j, f b j = gI G b j) : f = mWI x ma sc' ar' (gI G) := by
  funext b j
  unfold mWI
  by_cases hb : b = x
  · rw [if_pos hb, hb]; exact h1 j
  · rw [if_neg hb]
    cases hf : mks.find? (fun k => decide (ma k = b)) with
    | none => exact h3 b hb (fun k hk e => by have := List.find?_eq_none.mp hf k hk; simp [e] at this) j
    | some k =>
      have h5 := List.find?_some hf
      have h4 : ma k = b := of_decide_eq_true h5
      rw [← h4]
      exact h2 k (List.mem_of_find?_eq_some hf) j
theorem mW_o (hK : MK G x ma) (b : Nat) (hb : b ≠ x) (h : ∀ k ∈ mks, ma k ≠ b) (j : Nat) : gI (mW G x ma sc ar) b j = gI G b j := by
  show mWI x ma sc ar (gI G) b j = _
  unfold mWI
  rw [if_neg hb]
  cases hf : mks.find? (fun k => decide (ma k = b)) with
  | none => rfl
  | some k =>
    have h5 := List.find?_some hf
    exact absurd (of_decide_eq_true h5) (h k (List.mem_of_find?_eq_some hf))
theorem MK.sx (hK : MK G x ma) (k : Nat) (v : Int32) : sI (mW G x ma sc ar) x k v = mW G x ma (u1 sc k v) ar := by
  have e : u2 (gI (mW G x ma sc ar)) x k v = mWI x ma (u1 sc k v) ar (gI G) := by
    refine mW_eq hK (fun j => ?_) (fun i hi j => ?_) (fun b h1 h2 j => ?_)
    · unfold u2 u1
      rw [mW_x hK]
      by_cases hj : j = k <;> simp [hj]
    · unfold u2
      rw [if_neg (fun z => hK.ne i hi z.1), mW_a hK i hi]
    · unfold u2
      rw [if_neg (fun z => h1 z.1), mW_o hK b h1 h2]
  exact congrArg (fun f => ((gC G, gL G, gM G, f, gR G, gF G) : GH)) e
theorem MK.sa (hK : MK G x ma) (k : Nat) (h : k ∈ mks) (n : Nat) (v : Int32) : sI (mW G x ma sc ar) (ma k) n v = mW G x ma sc (u1 ar k (u1 (ar k) n v)) := by
  have e : u2 (gI (mW G x ma sc ar)) (ma k) n v = mWI x ma sc (u1 ar k (u1 (ar k) n v)) (gI G) := by
    refine mW_eq hK (fun j => ?_) (fun i hi j => ?_) (fun b h1 h2 j => ?_)
    · unfold u2
      rw [if_neg (fun z => hK.ne k h z.1.symm), mW_x hK]
    · unfold u2 u1
      rw [mW_a hK i hi]
      by_cases hik : i = k
      · subst hik
        by_cases hj : j = n <;> simp [hj]
      · rw [if_neg (fun z => hik (hK.2.2.2 i hi k h z.1)), if_neg hik]
    · unfold u2
      rw [if_neg (fun z => h2 k h z.1.symm), mW_o hK b h1 h2]
  exact congrArg (fun f => ((gC G, gL G, gM G, f, gR G, gF G) : GH)) e
theorem MK.wa (hK : MK G x ma) (k : Nat) (h : k ∈ mks) (f : Nat → Int32) : wI (mW G x ma sc ar) (ma k) f = mW G x ma sc (u1 ar k f) := by
  have e : u1 (gI (mW G x ma sc ar)) (ma k) f = mWI x ma sc (u1 ar k f) (gI G) := by
    refine mW_eq hK (fun j => ?_) (fun i hi j => ?_) (fun b h1 h2 j => ?_)
    · unfold u1
      rw [if_neg (fun z => hK.ne k h z.symm), mW_x hK]
    · unfold u1
      by_cases hik : i = k
      · subst hik
        rw [if_pos rfl, if_pos rfl]
      · rw [if_neg (fun z => hik (hK.2.2.2 i hi k h z)), if_neg hik, mW_a hK i hi]
    · unfold u1
      rw [if_neg (fun z => h2 k h z.symm), mW_o hK b h1 h2]
  exact congrArg (fun f => ((gC G, gL G, gM G, f, gR G, gF G) : GH)) e
theorem mW_self (hK : MK G x ma) : mW G x ma (gI G x) (fun k => gI G (ma k)) = G := by
  have e : gI G = mWI x ma (gI G x) (fun k => gI G (ma k)) (gI G) := mW_eq hK (fun _ => rfl) (fun _ _ _ => rfl) (fun _ _ _ _ => rfl)
  show (gC G, gL G, gM G, mWI x ma (gI G x) (fun k => gI G (ma k)) (gI G), gR G, gF G) = G
  rw [← e]
  rfl
end MWL
/-- what stands in a crew's row, in M's numbers -/
def itc (p : It) : Nat := 2 * p.1 + bN p.2
def MC (σ : Nat → Int32) (b : Nat) (k : Cw) : Prop := σ b = cB k ∧ σ (b + 1) = cS k ∧ σ (b + 2) = cE k ∧ σ (b + 3) = nI (cT k).length ∧ (cT k).length ≤ 24 ∧ ∀ i, i < (cT k).length → σ (b + (4 + i)) = nI (2 * rl (cT k) i + bN (rf (cT k) i))
def MR (σ : Nat → Int32) (A : AS) : Prop := aN A ≤ 24 ∧ (aC A).length ≤ 6 ∧ σ 0 = nI (aN A) ∧ σ 1 = nI (aC A).length ∧ (∀ r, r < 8 → σ (2 + r) = aR A r) ∧ (∀ i f, i < aN A → f < 5 → σ (10 + (5 * i + f)) = aL A i f) ∧ ∀ c, c < (aC A).length → MC σ (130 + 28 * c) (cw A c)
/-- the row that is looked at -/
def MW (sc : Nat → Int32) (ar : Nat → Nat → Int32) (b : Int32) (r : List It) : Prop := sc 8 = nI r.length ∧ sc 9 = b ∧ r.length ≤ 48 ∧ ∀ i, i < r.length → ar 7 i = nI (2 * rl r i + bN (rf r i))
/-- a row's legs are there -/
def RV (A : AS) (r : List It) : Prop := ∀ i, i < r.length → rl r i < aN A
theorem cI.det {Γ : GE} {l : Launch} {h h0 : Nat} {y : MI} {av : List Value} {G G1 : GH} {bc bs : Nat} {v : Int32} {K : Int32 → GH → Nat → Nat → Prop} (hT : TrI Γ l y h0 0 0 av G (fun r G' => r = v ∧ G' = G1)) (hh : h0 < h) (k : K v G1 bc bs) : cI Γ l h y av G bc bs K := cI.mk0 hT hh (fun r G' q => by obtain ⟨rfl, rfl⟩ := q; exact k)
theorem cV.det {Γ : GE} {l : Launch} {h h0 : Nat} {y : MI} {av : List Value} {G G1 : GH} {bc bs : Nat} {K : GH → Nat → Nat → Prop} (hT : TrV Γ l y h0 0 0 av G (fun G' => G' = G1)) (hh : h0 < h) (k : K G1 bc bs) : cV Γ l h y av G bc bs K := cV.mk0 hT hh (fun G' q => by subst q; exact k)
