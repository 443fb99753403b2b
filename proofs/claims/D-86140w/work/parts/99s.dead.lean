/-! the reference's loop of patterns, dead -/
section ZDead
variable {p e : Nat} {w : CW} {τ : TW}
/-- what the reading of a pattern writes of the reference's -/
abbrev SPT : List Nat := [2, 3, 4, 5, 6, 7, 8, 16, 17, 18, 19, 20, 21, 22, 23, 24, 25, 26, 28, 29, 30, 31, 32, 33, 34, 35, 36, 37, 38, 39, 40]
theorem SLv.wanted {k : Nat} (h : SLv τ k) (hk : k < 8) (h32 : tI τ 32 = ((k + 1 : Nat) : Int)) : fo_wanted τ := by
  have ek : w32 ((tI τ 32) - 1) = (k : Int) := by rw [h32, w32_s (by omega) (by omega)]; omega
  obtain ⟨q, h1, h2, h3, h4, h5, h6⟩ := h
  unfold fo_wanted
  rw [ek, h1]
  refine ⟨by omega, by omega, fun z => ⟨by omega, by omega, ?_⟩, fun _ => by omega⟩
  rcases h6 with ⟨_, kk, a, b, c⟩ | h6
  · rw [a]
    obtain ⟨m, hm⟩ : ∃ m : Nat, tA τ 34 k = m := ⟨(tA τ 34 k).toNat, by omega⟩
    rw [hm]
    have e1 := ixa (a := m) (ixm (a := 4) (x := (kk : Int)) rfl (by omega)) (by omega)
    have e2 : w32 (w32 (4 * (kk : Int)) + (m : Int)) = ((4 * kk + m : Nat) : Int) := e1
    rw [e2]
    omega
  · omega
theorem dd_begins {h pl x1 x2 : Int} (D : Dd h pl τ) (h0 : tI τ 7 = 0) : ∃ σ', FT [7, 8] τ σ' ∧ Dd h pl σ' ∧ tI σ' 7 ≠ 0 ∧ ∀ Q, Q (.inl (some (ai (-4)))) σ' → wpT (e + 8) 25 [ai x1, ai x2] τ Q := by
  obtain ⟨σ', ⟨a, b, c⟩, run⟩ := dd_stop (d := e + 5) (k := 2) D (by decide)
  have n := D.ns h0
  have s7 : tI τ 3 = 7 := (n 0).2.2
  have z6 : (if ((tI τ 3) = 3) ∨ (¬ ((ff_isSign 45 τ) = 0)) then (1 : Int) else 0) = 0 := if_neg (by rw [(n 45).1]; omega)
  have z13 : (if ¬ ((ff_isWord 8 τ) = 0) ∨ (¬ ((ff_isWord 9 τ) = 0)) then (1 : Int) else 0) = 0 := if_neg (by rw [(n 8).2.1, (n 9).2.1]; omega)
  refine ⟨σ', a, b, c, fun Q hQ => wT_begins (by omega) (bT_begins_0 (fa (fa (fa (fa ?_)))))⟩
  rw [z6, z13]
  refine br1 ?_ (run _ hQ)
  rw [if_neg]
  rw [(n 95).1, (n 40).1, (n 10).2.1]
  omega
theorem dA15 {h pl v x4 : Int} {o R : Nat} {G : PI → PQ → Int → TW → Prop} (D : Dd h pl τ) (hR : tI τ 27 = R) (hR2 : R < 192) (h32 : tI τ 32 = o) (ho : o ≤ 7) (hS : ∀ k, o = k + 1 → SLv τ k) (hv : tI τ 7 = 0 → 0 ≤ v ∧ v < 1700) (hx4 : 0 ≤ x4) : DD SPT h pl (tmG e G (fun I QF => rpA (wpT (e + 8)) QF I v x4 τ)) τ := by
  by_cases h0 : tI τ 7 = 0
  · have n := D.ns h0
    obtain ⟨vn, hvn⟩ : ∃ vn : Nat, v = vn := ⟨v.toNat, by have := hv h0; omega⟩
    subst hvn
    have hv2 := hv h0
    by_cases z : o = 0
    · exact DD.iE (x := vn) D (fun I QF cl k => br1 h0 (br1 (by omega) (bT_readPattern_82 (bT_readPattern_208 k)))) (Or.inr hv2)
    · obtain ⟨k, hk⟩ : ∃ k, o = k + 1 := ⟨o - 1, by omega⟩
      obtain ⟨q, a1, a2, a3, a4, a5, a6⟩ := hS k hk
      have h32' : tI τ 32 = ((k + 1 : Nat) : Int) := by rw [h32, hk]
      obtain ⟨σ1, F1, -, -, -, -, run1⟩ := sT_comesInto (d := e + 7) (by omega) h32' a1 a2 (v := vn) (by omega) a5
      have D1 := D.ft F1 (by decide)
      obtain ⟨σ2, F2, D2, hf, run2⟩ := dd_goesOn (e := e + 3) D1 ((F1 7 (by decide)).1.trans h0) ((F1 27 (by decide)).1.trans hR) hR2 (k := k) (by omega) ((F1 32 (by decide)).1.trans h32') (((F1 33 (by decide)).2 _).trans a1) a2 (by
        rw [(F1 17 (by decide)).2, (F1 19 (by decide)).2]
        rcases a6 with ⟨b1, kk, b2, b3, _⟩ | b1
        · exact Or.inl ⟨b1, kk, b2, b3⟩
        · exact Or.inr b1)
      refine ⟨σ2, (vn, 0), (F1.mono (by decide)).trans (F2.mono (by decide)), (F2 5 (by decide)).1.trans (F1 5 (by decide)).1, (F2 1 (by decide)).1.trans (F1 1 (by decide)).1, D2, fun Q hQ I QF cl _ h2 => ?_⟩
      exact br1 h0 (br0 (by omega) (run1 _ (run2 _ (br1 rfl (br0 hf (cl _ _ _ (br0 hf (bT_readPattern_208 (h2 _ _ hQ (Or.inl hf))))))))))
  · exact DD.iE (x := v) D (fun I QF cl k => br0 h0 (bT_readPattern_208 k)) (Or.inl h0)
theorem dI15 {h pl v x4 : Int} {o R : Nat} {G : PI → PQ → Int → TW → Prop} (D : Dd h pl τ) (hR : tI τ 27 = R) (hR2 : R < 192) (h32 : tI τ 32 = o) (ho : o ≤ 7) (hS : ∀ k, o = k + 1 → SLv τ k) (hv : tI τ 7 = 0 → 0 ≤ v ∧ v < 1700) (hx4 : 0 ≤ x4) : DD SPT h pl (tmG e G (fun I _ => I v x4 τ)) τ := by
  by_cases h0 : tI τ 7 = 0
  · have n := D.ns h0
    by_cases hx : tI τ 32 ≤ x4
    · -- the loop's end, or something within others
      exact DD.iT (F' := fun I QF => rpA (wpT (e + 8)) QF I v x4 τ) (fun I QF cl k => cl _ _ _ (br1 h0 (br1 hx (wT_readAs (by omega) (bT_readAs_0 (br0 (fun y => y.2 (n 4).2.1) (bT_readAs_62 k))))))) (dA15 D hR hR2 h32 ho hS hv hx4)
    · -- what has just been put there
      obtain ⟨σ2, F2, D2, hf, run2⟩ := dd_begins (e := e) (x1 := ff_wanted τ) (x2 := if (tI τ 32) = 6 then 1 else 0) D h0
      have hz : ¬ (o = 0) ∨ o = 0 := by omega
      rcases hz with z | z
      · obtain ⟨k, hk⟩ : ∃ k, o = k + 1 := ⟨o - 1, by omega⟩
        have wn := (hS k hk).wanted (by omega) (by rw [h32, hk])
        refine ⟨σ2, (-4, 0), F2.mono (by decide), (F2 5 (by decide)).1, (F2 1 (by decide)).1, D2, fun Q hQ I QF cl _ h2 => cl _ _ _ (br1 h0 (br0 hx (fa ⟨wn, fa (run2 _ (cl _ _ _ (br0 hf (bT_readPattern_208 (h2 _ _ hQ (Or.inl hf))))))⟩)))⟩
      · omega
  · exact DD.iF (x := v) (y := x4) D h0 (fun I QF cl k => k)
end ZDead
