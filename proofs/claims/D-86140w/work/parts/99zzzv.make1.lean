/-! make: the reference's half -/
section ZMake1
variable {p b e d : Nat} {w : CW} {τ : TW}
/-- what is told for the part j -/
def ag (x2 x3 x4 x5 : Int) (j : Nat) : Int := if j = 0 then x2 else if j = 1 then x3 else if j = 2 then x4 else x5
theorem ag_i (x2 x3 x4 x5 : Int) (j : Nat) : (if (j : Int) = 0 then x2 else (if (j : Int) = 1 then x3 else (if (j : Int) = 2 then x4 else x5))) = ag x2 x3 x4 x5 j := by
  unfold ag
  by_cases h0 : j = 0
  · subst h0; rfl
  · rw [if_neg h0, if_neg (show ¬ ((j : Int) = 0) by omega)]
    by_cases h1 : j = 1
    · subst h1; rfl
    · rw [if_neg h1, if_neg (show ¬ ((j : Int) = 1) by omega)]
      by_cases h2 : j = 2
      · subst h2; rfl
      · rw [if_neg h2, if_neg (show ¬ ((j : Int) = 2) by omega)]
/-- the part j may be a -/
def mkO (τ : TW) (k : Nat) (a : Int) (j : Nat) : Prop := (0 ≤ a ∧ a < tI τ 109) ∧ ofS τ a.toNat (tA τ 15 (4 * k + j : Nat))
theorem mkZ_rg (hV : VAL p w τ) {k : Nat} {g : Nat → Int} : ∀ m, m ≤ 4 → (∀ j, j < m → mkO τ k (g j) j) → 1 ≤ mkZ τ g m ∧ mkZ τ g m ≤ 1 + 60 * m := by
  intro m
  induction m with
  | zero => intro _ _; exact ⟨Int.le_refl 1, Int.le_refl 1⟩
  | succ m ih =>
    intro h4 h
    have a := ih (by omega) (fun j hj => h j (by omega))
    have o := h m (by omega)
    obtain ⟨v, hv⟩ : ∃ v : Nat, g m = v := ⟨(g m).toNat, by have := o.1; omega⟩
    have r := (hV.2.2.2.2 v (by have := o.1; unfold nV; omega)).1
    unfold mkZ
    rw [hv]
    omega
theorem mt_run (hV : VAL p w τ) (hK : KR p w τ) {k m : Nat} (hk : k < nK τ) (em : tA τ 14 k = m) {x2 x3 x4 x5 : Int} {Q : Int → TW → Prop} (hg : (∀ j, j < m → mkO τ k (ag x2 x3 x4 x5 j) j) → pT_make_118 (wpT (d + 2)) Q k x2 x3 x4 x5 (mkZ τ (ag x2 x3 x4 x5) m) τ) (hb : (¬ ∀ j, j < m → mkO τ k (ag x2 x3 x4 x5 j) j) → Q (-1) τ) : pT_make_24 (wpT (d + 2)) Q k x2 x3 x4 x5 1 0 τ := by
  have b2 := hV.2.2.1
  have b3 := hV.2.2.2.1
  have k24 : nK τ ≤ 24 := by have := hK.2.2.2.1; unfold nK; omega
  have kl := hK.2.2.2.2.1 k hk
  have m4 : m ≤ 4 := by have : tA τ 14 k ≤ 4 := kl.2.2.2.2.2.2.2.1; omega
  refine bT_make_24 ?_
  intro I hI
  have key : ∀ n j : Nat, j + n = m → (∀ i, i < j → mkO τ k (ag x2 x3 x4 x5 i) i) → I (mkZ τ (ag x2 x3 x4 x5) j) (j : Int) τ := by
    intro n
    induction n with
    | zero =>
      intro j hj hd
      have e : j = m := by omega
      rw [e] at hd ⊢
      exact hI _ _ _ ⟨by omega, br1 (by omega) (hg hd)⟩
    | succ n ih =>
      intro j hj hd
      have ix : w32 (w32 (4 * (k : Int)) + (j : Int)) = ((4 * k + j : Nat) : Int) := ix4 (by omega) (by omega)
      have kp := (kl.2.2.2.2.2.2.2.2.2.2.2 j (by show (j : Int) < tA τ 14 k; omega)).2
      have kp : 0 ≤ tA τ 15 ((4 * k + j : Nat) : Int) ∧ tA τ 15 ((4 * k + j : Nat) : Int) < 3 + nK τ := by
        have e : ((4 * k + j : Nat) : Int) = 4 * (k : Int) + (j : Int) := by omega
        rw [e]; exact kp
      have zr := mkZ_rg hV (k := k) (g := ag x2 x3 x4 x5) j (by omega) hd
      refine hI _ _ _ ⟨by omega, br0 (by omega) (fa ?_)⟩
      rw [ag_i]
      obtain ⟨a, ha⟩ : ∃ a, a = ag x2 x3 x4 x5 j := ⟨_, rfl⟩
      rw [← ha]
      have fv : ff_isValue a τ = if ¬ (a < 0) ∧ ¬ (w32 (tI τ 109 - 1) < a) then 1 else 0 := rfl
      rw [w32_s (by omega) (by omega)] at fv
      by_cases z : 0 ≤ a ∧ a < tI τ 109
      · rw [if_pos (by omega)] at fv
        obtain ⟨v, hv⟩ : ∃ v : Nat, a = v := ⟨a.toNat, by omega⟩
        have r := hV.2.2.2.2 v (by unfold nV; omega)
        refine br0 (by rw [fv]; decide) ⟨by rw [ix]; omega, ?_⟩
        rw [ix, hv]
        refine sT_isOfSort (d := d) r (by omega) hK kp.1 kp.2 ?_
        by_cases y : ofS τ v (tA τ 15 ((4 * k + j : Nat) : Int))
        · rw [ofI_1 y]
          have ok : mkO τ k (ag x2 x3 x4 x5 j) j := by
            rw [← ha]
            exact ⟨z, by rw [hv, Int.toNat_natCast]; exact y⟩
          have q := r.1
          refine br0 (by decide) ⟨by omega, fa (fa ?_)⟩
          rw [w32_s (a := (j : Int) + 1) (by omega) (by omega), w32_s (by omega) (by omega)]
          have := ih (j + 1) (by omega) (fun i hi => by
            rcases Nat.lt_or_ge i j with u | u
            · exact hd i u
            · rw [show i = j by omega]; exact ok)
          have ez : mkZ τ (ag x2 x3 x4 x5) (j + 1) = mkZ τ (ag x2 x3 x4 x5) j + tA τ 113 (v : Int) := by
            show mkZ τ (ag x2 x3 x4 x5) j + tA τ 113 (ag x2 x3 x4 x5 j) = _
            rw [← ha, hv]
          rw [ez] at this
          exact this
        · rw [ofI_0 y]
          refine br1 rfl (bT_make_98 (call := wpT (d + 2)) (hb (fun q => y ?_)))
          have := (q j (by omega)).2
          rw [← ha, hv, Int.toNat_natCast] at this
          exact this
      · rw [if_neg (by omega)] at fv
        refine br1 fv (bT_make_98 (hb (fun q => z ?_)))
        have := (q j (by omega)).1
        rw [← ha] at this
        exact this
  have := key m 0 (by omega) (fun i hi => by omega)
  exact this
/-- the parts' rows -/
def ptT (τ : TW) (v : Nat) (g : Nat → Int) : Nat → TW
  | 0 => τ
  | j + 1 => sA (ptT τ v g j) 114 (4 * v + j : Nat) (g j)
theorem ptT_ft (v : Nat) (g : Nat → Int) : ∀ m, FT [114] τ (ptT τ v g m) := by
  intro m
  induction m with
  | zero => exact FT.refl _ _
  | succ m ih => exact ih.ssA (by decide)
theorem ptT_at (v : Nat) (g : Nat → Int) : ∀ (m : Nat) (i : Nat), tA (ptT τ v g m) 114 i = if 4 * v ≤ i ∧ i < 4 * v + m then g (i - 4 * v) else tA τ 114 i := by
  intro m
  induction m with
  | zero => intro i; rw [if_neg (by omega)]; rfl
  | succ m ih =>
    intro i
    show (if 114 = 114 ∧ (i : Int) = ((4 * v + m : Nat) : Int) then g m else tA (ptT τ v g m) 114 i) = _
    by_cases z : i = 4 * v + m
    · rw [if_pos ⟨rfl, by omega⟩, if_pos (by omega), show i - 4 * v = m by omega]
    · rw [if_neg (fun q => z (by omega)), ih]
      by_cases y : 4 * v ≤ i ∧ i < 4 * v + m
      · rw [if_pos y, if_pos (by omega)]
      · rw [if_neg y, if_neg (by omega)]
theorem mt2_run {k m v : Nat} {x2 x3 x4 x5 : Int} {Q : Int → TW → Prop} (hk : k < 24) (em : tA τ 14 k = m) (m4 : m ≤ 4) (hv : v < 160) (hQ : Q v (ptT τ v (ag x2 x3 x4 x5) m)) : pT_make_159 (wpT d) Q k x2 x3 x4 x5 v 0 τ := by
  refine bT_make_159 ?_
  intro I hI
  have key : ∀ n j : Nat, j + n = m → I (j : Int) (ptT τ v (ag x2 x3 x4 x5) j) := by
    intro n
    induction n with
    | zero =>
      intro j hj
      have e : j = m := by omega
      rw [e]
      refine hI _ _ ⟨by omega, br1 ?_ (bT_make_220 (call := wpT d) hQ)⟩
      rw [(ptT_ft v _ m 14 (by decide)).2, em]
      exact Int.le_refl _
    | succ n ih =>
      intro j hj
      have ix : w32 (w32 (4 * (v : Int)) + (j : Int)) = ((4 * v + j : Nat) : Int) := jx 4 v j (by omega) (by decide)
      refine hI _ _ ⟨by omega, br0 ?_ (fa ⟨by rw [ix]; omega, fa (fa ?_)⟩)⟩
      · rw [(ptT_ft v _ j 14 (by decide)).2, em]
        omega
      · rw [ix, ag_i, w32_s (by omega) (by omega)]
        have := ih (j + 1) (by omega)
        exact this
  exact key m 0 (by omega)
/-- a value of a kind: the reference's row -/
def lvT (τ : TW) (k m : Nat) (g : Nat → Int) : TW := ptT (sA (nvT τ 4 k 0) 113 (tI τ 109) (mkZ τ g m)) (nV τ) g m
/-- a value of a kind may be made -/
def mkG (τ : TW) (x1 : Int) (g : Nat → Int) (k m : Nat) : Prop := x1 = k ∧ k < nK τ ∧ slN τ k (nK τ) = 0 ∧ tA τ 14 k = m ∧ m ≤ 4 ∧ ∀ j, j < m → mkO τ k (g j) j
theorem sT_make (hV : VAL p w τ) (hK : KR p w τ) {x1 x2 x3 x4 x5 : Int} {Q : Int → TW → Prop} (hb : (∀ k m, ¬ mkG τ x1 (ag x2 x3 x4 x5) k m) → Q (-1) τ) (hf : ∀ k m, mkG τ x1 (ag x2 x3 x4 x5) k m → (tI τ 109 = 160 ∨ ¬ (mkZ τ (ag x2 x3 x4 x5) m ≤ 60)) → Q (-3) τ)
    (hg : ∀ k m, mkG τ x1 (ag x2 x3 x4 x5) k m → tI τ 109 < 160 → mkZ τ (ag x2 x3 x4 x5) m ≤ 60 → Q (tI τ 109) (lvT τ k m (ag x2 x3 x4 x5))) : wpT (d + 3) 83 [ai x1, ai x2, ai x3, ai x4, ai x5] τ (zqI Q zno) := by
  have b2 := hV.2.2.1
  have b3 := hV.2.2.2.1
  have k0 : 0 ≤ tI τ 10 := hK.2.2.1
  have k24 : tI τ 10 ≤ 24 := hK.2.2.2.1
  have fk : ff_isKind x1 τ = if ¬ (x1 < 0) ∧ ¬ (w32 (tI τ 10 - 1) < x1) then 1 else 0 := rfl
  rw [w32_s (by omega) (by omega)] at fk
  refine wT_make (by omega) (bT_make_0 ?_)
  by_cases z : ¬ (x1 < 0) ∧ ¬ (tI τ 10 - 1 < x1)
  · rw [if_pos z] at fk
    obtain ⟨k, hk⟩ : ∃ k : Nat, x1 = k := ⟨x1.toNat, by omega⟩
    subst hk
    have hkn : k < nK τ := by
      have : nK τ = (tI τ 10).toNat := rfl
      omega
    refine br0 (by rw [fk]; decide) (sT_isSealed (d := d + 1) k0 k24 ?_)
    by_cases y : slN τ k (nK τ) = 0
    · obtain ⟨m, em⟩ : ∃ m : Nat, tA τ 14 k = m := ⟨(tA τ 14 k).toNat, by
        have kl := hK.2.2.2.2.1 k hkn
        have : 0 ≤ tA τ 14 k := kl.2.2.2.2.2.2.1
        omega⟩
      have m4 : m ≤ 4 := by
        have kl := hK.2.2.2.2.1 k hkn
        have : tA τ 14 k ≤ 4 := kl.2.2.2.2.2.2.2.1
        omega
      refine br1 y (mt_run hV hK hkn em (fun ok => bT_make_118 ?_) (fun nq => hb (fun k2 m2 g2 => nq (by
        have e1 : k2 = k := by have := g2.1; omega
        subst e1
        have e2 : m2 = m := by have := g2.2.2.2.1; omega
        subst e2
        exact g2.2.2.2.2.2))))
      by_cases u : tI τ 109 = 160 ∨ ¬ (mkZ τ (ag x2 x3 x4 x5) m ≤ 60)
      · exact br1 u (bT_make_135 (call := wpT (d + 2)) (hf k m ⟨rfl, hkn, y, em, m4, ok⟩ u))
      · refine br0 u (sT_newValue (d := d + 1) b2 b3 (fun q => absurd (Or.inl q) u) (fun hlt => ⟨⟨b2, hlt⟩, fa ?_⟩))
        have hn : tI τ 109 = (nV τ : Int) := by unfold nV; omega
        have e160 : nV τ < 160 := by omega
        have e14 : tA (sA (nvT τ 4 k 0) 113 (tI τ 109) (mkZ τ (ag x2 x3 x4 x5) m)) 14 k = m := em
        have := mt2_run (d := d + 2) (v := nV τ) (x2 := x2) (x3 := x3) (x4 := x4) (x5 := x5) (Q := Q) (τ := sA (nvT τ 4 k 0) 113 (tI τ 109) (mkZ τ (ag x2 x3 x4 x5) m)) (k := k) (m := m) (by have : nK τ = (tI τ 10).toNat := rfl; omega) e14 m4 e160 (by
          rw [← hn]
          exact hg k m ⟨rfl, hkn, y, em, m4, ok⟩ hlt (by omega))
        rw [← hn] at this
        exact this
    · exact br0 y (bT_make_16 (call := wpT (d + 2)) (hb (fun k2 m2 g2 => y (by
        have e1 : k2 = k := by have := g2.1; omega
        subst e1
        exact g2.2.2.1))))
  · rw [if_neg z] at fk
    exact br1 fk (bT_make_16 (hb (fun k2 m2 g2 => z (by
      have e1 := g2.1
      have e2 := g2.2.1
      unfold nK at e2
      omega))))
end ZMake1
