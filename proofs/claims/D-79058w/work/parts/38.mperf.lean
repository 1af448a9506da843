/-! M's contracts: perform -/
set_option maxRecDepth 100000
def xPerf (S : SS) (w : Nat) (n : Nat → Int32) : Int32 × SS := match w with
  | 0 => xAddLeg S (n 0) (n 1) (n 2) (n 3)
  | 1 => xAddCrew S (n 0)
  | 2 => xAssign S (n 0) (n 1) true
  | 3 => xAssign S (n 0) (n 1) false
  | 4 => xDrop S (n 0) (n 1)
  | 5 => xDelay S (n 0) (n 1)
  | 6 => xCancel S (n 0)
  | 7 => xSetRule S (n 0) (n 1)
  | 8 => xPair S
  | _ => xRepair S
section MC22
variable {Γ : GE} {l : Launch} {G : GH} {x : Nat} {ma : Nat → Nat} {sc : Nat → Int32} {ar : Nat → Nat → Int32} {A : AS} {b : Int32} {r : List It} {S : SS}
theorem t_perform (hK : MK G x ma) (hC : KC Γ G) (hT : MT sc ar S) (hw : WR (sA S)) (w : Nat) (hw10 : w < 10) : TrI Γ l mX2_perform 13 0 0 [.ref x, .int (nI w)] (mW G x ma sc ar) (fun v G' => v = (xPerf S w (ar 29)).1 ∧ ∃ sc' ar', G' = mW G x ma sc' ar' ∧ MT sc' ar' (xPerf S w (ar 29)).2) := by
  refine Tr.intro (by decide +kernel) (Nat.le_of_ble_eq_true rfl) ?_
  refine rX2_perform_0 x _ ⟨hK.c, ma 29, hK.r 29 (by decide), hK.t 29 0 (by decide) rfl, hK.inb 29 (by decide) 0 rfl (by decide), hK.inb 29 (by decide) 1 rfl (by decide), ?_⟩
  rw [hK.rd (i := 0) 29 (by decide) 0 rfl (by decide), hK.rd (i := 1) 29 (by decide) 1 rfl (by decide), hK.rd (i := 2) 29 (by decide) 2 rfl (by decide), hK.rd (i := 3) 29 (by decide) 3 rfl (by decide)]
  refine ⟨fun h => ?_, fun h => ?_, fun h => ?_, fun h => ?_, fun h => ?_, fun h => ?_, fun h => ?_, fun h => ?_, fun h => ?_, fun h => ?_⟩
  · have e : w = 0 := nI_e (by omega) (by decide) h
    subst e
    refine ⟨hK.inb 29 (by decide) 2 rfl (by decide), hK.inb 29 (by decide) 3 rfl (by decide), cI.mk0 (t_addLeg hK hT _ _ _ _) (by decide) ?_⟩
    rintro v G1 ⟨rfl, sc1, ar1, rfl, m1⟩
    exact ⟨_, rfl, rfl, sc1, ar1, rfl, m1⟩
  · have e : w = 1 := nI_e (by omega) (by decide) h
    subst e
    refine cI.mk0 (t_addCrew hK hT _) (by decide) ?_
    rintro v G1 ⟨rfl, sc1, ar1, rfl, m1⟩
    exact ⟨_, rfl, rfl, sc1, ar1, rfl, m1⟩
  · have e : w = 2 := nI_e (by omega) (by decide) h
    subst e
    refine cI.mk0 (t_fly hK hT hw.2.1 hw.rlen _ _) (by decide) ?_
    rintro v G1 ⟨rfl, sc1, ar1, rfl, m1⟩
    exact ⟨_, rfl, rfl, sc1, ar1, rfl, m1⟩
  · have e : w = 3 := nI_e (by omega) (by decide) h
    subst e
    refine cI.mk0 (t_ride hK hT hw.2.1 hw.rlen _ _) (by decide) ?_
    rintro v G1 ⟨rfl, sc1, ar1, rfl, m1⟩
    exact ⟨_, rfl, rfl, sc1, ar1, rfl, m1⟩
  · have e : w = 4 := nI_e (by omega) (by decide) h
    subst e
    refine cI.mk0 (t_drop hK hT hw.2.1 _ _) (by decide) ?_
    rintro v G1 ⟨rfl, sc1, ar1, rfl, m1⟩
    exact ⟨_, rfl, rfl, sc1, ar1, rfl, m1⟩
  · have e : w = 5 := nI_e (by omega) (by decide) h
    subst e
    refine cI.mk0 (t_delay hK hT hw.2.1 _ _) (by decide) ?_
    rintro v G1 ⟨rfl, sc1, ar1, rfl, m1⟩
    exact ⟨_, rfl, rfl, sc1, ar1, rfl, m1⟩
  · have e : w = 6 := nI_e (by omega) (by decide) h
    subst e
    refine cI.mk0 (t_cancel hK hT hw.2.1 _) (by decide) ?_
    rintro v G1 ⟨rfl, sc1, ar1, rfl, m1⟩
    exact ⟨_, rfl, rfl, sc1, ar1, rfl, m1⟩
  · have e : w = 7 := nI_e (by omega) (by decide) h
    subst e
    refine cI.mk0 (t_setRule hK hC hT _ _) (by decide) ?_
    rintro v G1 ⟨rfl, sc1, ar1, rfl, m1⟩
    exact ⟨_, rfl, rfl, sc1, ar1, rfl, m1⟩
  · have e : w = 8 := nI_e (by omega) (by decide) h
    subst e
    refine cI.mk0 (t_pair hK hT hw) (by decide) ?_
    rintro v G1 ⟨rfl, sc1, ar1, rfl, m1⟩
    exact ⟨_, rfl, rfl, sc1, ar1, rfl, m1⟩
  · have e : w = 9 := by rw [nI_toInt (by omega)] at h; omega
    subst e
    refine cI.mk0 (t_repair hK hT hw) (by decide) ?_
    rintro v G1 ⟨rfl, sc1, ar1, rfl, m1⟩
    exact ⟨_, rfl, rfl, sc1, ar1, rfl, m1⟩
end MC22
