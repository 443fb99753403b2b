/-! a rule, both -/
section ZRule13
variable {p b e d : Nat} {w : CW} {τ : TW}
noncomputable def ruT (τ : TW) (R : Nat) : TW := sA (sI (sA (sA (sI τ 27 R) 48 R (tI τ 5)) 28 R 0) 31 0) 49 R 1
theorem ruT_ft (τ : TW) (R : Nat) : FT [27, 28, 31, 48, 49] τ (ruT τ R) := by
  unfold ruT
  exact (((((FT.refl _ τ).ssI (by decide)).ssA (by decide)).ssA (by decide)).ssI (by decide)).ssA (by decide)
theorem ruT_at (τ : TW) (R : Nat) : tI (ruT τ R) 27 = R ∧ tI (ruT τ R) 31 = 0 ∧ tA (ruT τ R) 28 R = 0 ∧ tA (ruT τ R) 48 R = tI τ 5 ∧ tA (ruT τ R) 49 R = 1 ∧ ∀ y : Nat, y ≠ R → tA (ruT τ R) 28 y = tA τ 28 y ∧ tA (ruT τ R) 48 y = tA τ 48 y ∧ tA (ruT τ R) 49 y = tA τ 49 y := by
  have n1 : ∀ (y : Nat), y ≠ R → ¬ ((y : Int) = (R : Int)) := fun y hy => by omega
  refine ⟨?_, ?_, ?_, ?_, ?_, fun y hy => ⟨?_, ?_, ?_⟩⟩
  · unfold ruT
    show tI (sI (sA (sA (sI τ 27 R) 48 R (tI τ 5)) 28 R 0) 31 0) 27 = R
    rw [tI_sI, if_neg (by decide)]
    show tI (sI τ 27 R) 27 = R
    rw [tI_sI, if_pos rfl]
  · unfold ruT
    show tI (sI (sA (sA (sI τ 27 R) 48 R (tI τ 5)) 28 R 0) 31 0) 31 = 0
    rw [tI_sI, if_pos rfl]
  · unfold ruT
    rw [tA_sA, if_neg (by omega)]
    show tA (sA (sA (sI τ 27 R) 48 R (tI τ 5)) 28 R 0) 28 R = 0
    rw [tA_sA, if_pos ⟨rfl, rfl⟩]
  · unfold ruT
    rw [tA_sA, if_neg (by omega)]
    show tA (sA (sA (sI τ 27 R) 48 R (tI τ 5)) 28 R 0) 48 R = tI τ 5
    rw [tA_sA, if_neg (by omega), tA_sA, if_pos ⟨rfl, rfl⟩]
  · unfold ruT
    rw [tA_sA, if_pos ⟨rfl, rfl⟩]
  · unfold ruT
    rw [tA_sA, if_neg (by omega)]
    show tA (sA (sA (sI τ 27 R) 48 R (tI τ 5)) 28 R 0) 28 y = _
    rw [tA_sA, if_neg (by omega), tA_sA, if_neg (by omega)]
    rfl
  · unfold ruT
    rw [tA_sA, if_neg (by omega)]
    show tA (sA (sA (sI τ 27 R) 48 R (tI τ 5)) 28 R 0) 48 y = _
    rw [tA_sA, if_neg (by omega), tA_sA, if_neg (by omega)]
    rfl
  · unfold ruT
    rw [tA_sA, if_neg (by omega)]
    show tA (sA (sA (sI τ 27 R) 48 R (tI τ 5)) 28 R 0) 49 y = _
    rw [tA_sA, if_neg (by omega), tA_sA, if_neg (by omega)]
    rfl
/-- the rule's number in the reference -/
def ruN (f i : Nat) : Nat := 16 * f + (if i = 16 then 15 else i)
theorem sT_rule {f i : Nat} {σ0 : TW} (hf : f < 12) (hi : tA τ 45 f = i) (i16 : i ≤ 16) (h0 : σ0 = ruT τ (ruN f i)) {Q : TW → Prop} (hQ : pT_readRule_85 (wpT (e + 9)) Q f (if i = 16 then 1 else 0) (-4) 0 σ0) : wpT (e + 10) 23 [ai f] τ (zqV Q zno) := by
  have hff : (0 : Int) ≤ (f : Int) ∧ (f : Int) < 12 := by omega
  have e2 : (if tA τ 45 f = 16 then (1 : Int) else 0) = if i = 16 then 1 else 0 := by
    rw [hi]
    by_cases z : i = 16
    · rw [if_pos z, if_pos (by omega)]
    · rw [if_neg z, if_neg (by omega)]
  have e3 : (if ¬ ((if i = 16 then (1 : Int) else 0) = 0) then (15 : Int) else tA τ 45 f) = ((if i = 16 then 15 else i : Nat) : Int) := by
    rw [hi]
    by_cases z : i = 16
    · rw [if_pos z, if_pos (by decide), if_pos z]; rfl
    · rw [if_neg z, if_neg (by decide), if_neg z]
  have hR : ruN f i < 192 := by
    unfold ruN
    split <;> omega
  have eR : w32 ((w32 (16 * (f : Int))) + ((if i = 16 then 15 else i : Nat) : Int)) = ((ruN f i : Nat) : Int) := ixx (ixm (a := 16) (x := (f : Int)) rfl (by omega)) rfl (by unfold ruN at hR; omega)
  refine wT_readRule (by omega) (bT_readRule_0 ⟨hff, fun v2 hv2 => ⟨fun _ => hff, fun v3 hv3 u5 hu5 => ?_⟩⟩)
  rw [e2] at hv2
  subst hv2
  rw [e3] at hv3
  subst hv3
  rw [eR] at hu5
  have a27 : tI u5 27 = ruN f i := by rw [hu5]; exact (tI_sI _ _ _ _).trans (if_pos rfl)
  rw [a27]
  refine ⟨by omega, fun u6 hu6 => ?_⟩
  have b27 : tI u6 27 = ruN f i := by rw [hu6]; exact a27
  rw [b27]
  refine ⟨by omega, fun u8 hu8 u10 hu10 => ?_⟩
  have c27 : tI u10 27 = ruN f i := by
    rw [hu10, tI_sI, if_neg (by decide), hu8]; exact b27
  rw [c27]
  refine ⟨by omega, fun u11 hu11 => ?_⟩
  have e11 : u11 = σ0 := by
    rw [hu11, hu10, hu8, hu6, hu5, h0]
    rfl
  rw [e11]
  exact hQ
end ZRule13
