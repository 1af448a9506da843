/-! what a command's numbers say -/
set_option maxRecDepth 100000
theorem pNums_len {t : List Nat} : ∀ n k, (pNums t n k).2.1 = true → (pNums t n k).2.2.length = n := by
  intro n
  induction n with
  | zero => intro k _; rfl
  | succ n ih =>
    intro k h
    cases hb : (pNum t k).2.2 with
    | false => rw [pNums_no hb] at h; exact Bool.noConfusion h
    | true =>
      rw [pNums_ok hb] at h ⊢
      show (_ :: _).length = _
      rw [List.length_cons, ih _ h]
theorem xPerf_cg {S : SS} {w : Nat} {n n' : Nat → Int32} (hw : w < 10) (h : ∀ j, j < pNeed w → n j = n' j) : xPerf S w n = xPerf S w n' := by
  rcases (show w = 0 ∨ w = 1 ∨ w = 2 ∨ w = 3 ∨ w = 4 ∨ w = 5 ∨ w = 6 ∨ w = 7 ∨ w = 8 ∨ w = 9 by omega) with rfl | rfl | rfl | rfl | rfl | rfl | rfl | rfl | rfl | rfl
  · simp only [xPerf]
    rw [h 0 (by decide), h 1 (by decide), h 2 (by decide), h 3 (by decide)]
  · simp only [xPerf]
    rw [h 0 (by decide)]
  · simp only [xPerf]
    rw [h 0 (by decide), h 1 (by decide)]
  · simp only [xPerf]
    rw [h 0 (by decide), h 1 (by decide)]
  · simp only [xPerf]
    rw [h 0 (by decide), h 1 (by decide)]
  · simp only [xPerf]
    rw [h 0 (by decide), h 1 (by decide)]
  · simp only [xPerf]
    rw [h 0 (by decide)]
  · simp only [xPerf]
    rw [h 0 (by decide), h 1 (by decide)]
  · simp only [xPerf]
  · simp only [xPerf]
/-- the numbers of a command as a row -/
def nV (l : List Nat) : Nat → Int32 := fun j => nI (l.getD j 0)
theorem nV_eq {w : Nat} {l : List Nat} {n : Nat → Int32} (hl : l.length = pNeed w) (h : ∀ (j u : Nat), l[j]? = some u → n j = nI u) : ∀ j, j < pNeed w → n j = nV l j := by
  intro j hj
  have hg : l[j]? = some l[j] := List.getElem?_eq_getElem (by omega)
  rw [h j _ hg]
  unfold nV
  rw [List.getD_eq_getElem?_getD, hg]
  rfl
