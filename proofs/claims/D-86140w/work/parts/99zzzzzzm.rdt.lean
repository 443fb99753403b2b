/-! read: rows are laid, trees are made: the reference -/
section ZRdt
variable {p b e d f F n lo wy A : Nat} {w w' w0 : CW} {τ σ : TW} {ps : List Pa} {ro : Nat × Nat → Nat} {ru : Nat → Nat} {S : Nat → Nat}
theorem spr_of {bare : Int} {m : Nat} (K : KR p w τ) (hC : FC w τ f F m) (hR : ∀ i, i < n → RP τ (16 * f + i) m) : SPRs τ f (rowsK τ f bare n) := by
  have n24 : nK τ ≤ 24 := by have := K.2.2.2.1; unfold nK; change (tI τ 10).toNat ≤ 24; have : tI τ 10 ≤ 24 := this; omega
  intro x hx e he
  obtain ⟨i, i1, i2, -⟩ := (rowsK_mem n).mp hx
  have hr := hR i i1
  rw [← i2] at hr
  obtain ⟨-, k, j, π, e1, q⟩ := tsR_ext hr he
  rw [e1]
  rcases q with ⟨q1, q2, q3, -⟩ | ⟨q1, e0, q2, q3, q4, q5, q6, q7, -⟩
  · have := (hC.2.2.2 j q3).2
    show 0 ≤ (if k = 24 then tA τ 44 (3 * f + j : Nat) else tA τ 15 (4 * k + j : Nat)) ∧ (if k = 24 then tA τ 44 (3 * f + j : Nat) else tA τ 15 (4 * k + j : Nat)) < _
    rw [if_pos q2]
    exact this
  · have := ((K.2.2.2.2.1 k q6).2.2.2.2.2.2.2.2.2.2.2 j q7).2
    show 0 ≤ (if k = 24 then tA τ 44 (3 * f + j : Nat) else tA τ 15 (4 * k + j : Nat)) ∧ (if k = 24 then tA τ 44 (3 * f + j : Nat) else tA τ 15 (4 * k + j : Nat)) < _
    rw [if_neg (by omega)]
    exact this
/-- what makes asks of a function -/
def FPS (τ : TW) (f n : Nat) : Prop := FP τ f n ∧ ∀ bare, CX τ f (rowsK τ f bare n) ∧ SPRs τ f (rowsK τ f bare n)
theorem SET.fps (hS : SET p w τ) (hnp : np τ ≤ 800) (hf : f < nF τ) : FPS τ f (rk τ f) := by
  obtain ⟨⟨W, -⟩, K, -, N, -, J⟩ := hS
  have n12 := N.2.2.2.1
  obtain ⟨S, S1, S2⟩ := N.2.2.2.2.1
  have Sm : ∀ j k, k + j ≤ nF τ → S k ≤ S (k + j) := by
    intro j
    induction j with
    | zero => intro k _; exact Nat.le_refl _
    | succ j ih =>
      intro k hk
      have q1 := ih k (by omega)
      have q2 := (S2 (k + j) (by omega)).1
      have : k + (j + 1) = (k + j) + 1 := by omega
      rw [this]
      omega
  have Sn := Sm (nF τ - (f + 1)) (f + 1) (by omega)
  rw [show f + 1 + (nF τ - (f + 1)) = nF τ by omega] at Sn
  have hj := judged_rows N hf (J f hf).2
  obtain ⟨m, k, h1, h2, h3, h4, h5⟩ := (S2 f hf).2
  have e45 := (N.gl hf).2.2.1
  have hk : k = rk τ f := by have := h4.1; omega
  rw [hk] at h4
  have ext := h4.ext K hj.1
  obtain ⟨-, -, g3, s, -, g5⟩ := h4
  have hwh : ∀ i, i < rk τ f → RP τ (16 * f + i) m ∧ ∀ j c : Nat, (cks τ (16 * f + i))[j]? = some c → tA τ 18 c = tA τ 44 (3 * f + j : Nat) := fun i hi => by
    obtain ⟨m', r1, r2, r3, -, r5⟩ := (g5 i hi).2.whole K (hj.1 i hi)
    have : m' = m := by have := h2.1; omega
    subst this
    exact ⟨r2, r5⟩
  refine ⟨⟨by omega, e45, g3, ⟨m, h2.1, h3, h2.2.2.1, fun i hi => (hwh i hi).1⟩, hnp, hj.2⟩, fun bare => ⟨cx_rows K hnp (by omega) g3 hwh hj.2 (by omega), spr_of K h2 (fun i hi => (hwh i hi).1)⟩⟩
theorem rt_rows (hP : ∀ f, f < nF τ → FPS τ f (rk τ f)) (h7 : tI τ 7 = 0) (n41 : tI τ 41 = nF τ) (n12 : nF τ ≤ 12) (h10 : 0 ≤ tI τ 10) {Qf : Int → TW → Prop}
    (hQ : (∀ f, f < nF τ → tz τ f ≤ 120) → ∀ σ, FT (1 :: SM1) τ σ → tI σ 1 = 0 → (∀ f, f < nF τ → TRT τ σ f (rk τ f) 0) → Qf (nF τ) (sI σ 9 1))
    (hX : (∃ f, f < nF τ ∧ 120 < tz τ f) → ∀ σ, FT (1 :: SM1) τ σ → tI σ 1 = 0 → Qf (-3) (sI (sI (sI σ 9 0) 10 0) 41 0)) : pT_read_109 (wpT (e + 11)) Qf τ := by
  refine bT_read_109 (fa (bT_read_118 ?_))
  intro I hI
  have key : ∀ t k, k + t = nF τ → ∀ σ, FT (1 :: SM1) τ σ → tI σ 1 = 0 → (∀ f, f < k → TRT τ σ f (rk τ f) 0) → I 0 (k : Nat) σ := by
    intro t
    induction t with
    | zero =>
      intro k hk σ F h1 hT
      have hk : k = nF τ := by omega
      have e41 : tI σ 41 = nF τ := by rw [(F 41 (by decide)).1]; exact n41
      have e7 : tI σ 7 = 0 := by rw [(F 7 (by decide)).1]; exact h7
      refine hI _ _ _ (br0 (fun q => q.1 (by rw [e41, hk]; exact Int.le_refl _)) (bT_read_160 (call := wpT (e + 11)) (fa (fa (fa ?_)))))
      rw [if_pos ⟨e7, rfl⟩]
      refine br0 (by rw [tI_sI, if_pos rfl]; decide) (bT_read_202 (call := wpT (e + 11)) (fa ?_))
      have z7 : tI (sI σ 9 1) 7 = 0 := by rw [tI_sI, if_neg (by decide)]; exact e7
      have z41 : tI (sI σ 9 1) 41 = nF τ := by rw [tI_sI, if_neg (by decide)]; exact e41
      rw [z7, z41, if_pos (Int.le_refl _), if_pos rfl]
      exact hQ (fun f hf => (hT f (by omega)).2.2.2) σ F h1 (fun f hf => hT f (by omega))
    | succ t ih =>
      intro k hk σ F h1 hT
      have hkn : k < nF τ := by omega
      have e41 : tI σ 41 = nF τ := by rw [(F 41 (by decide)).1]; exact n41
      have e7 : tI σ 7 = 0 := by rw [(F 7 (by decide)).1]; exact h7
      obtain ⟨p1, p2⟩ := hP k hkn
      refine hI _ _ _ (br1 ⟨by rw [e41]; omega, e7, rfl⟩ ?_)
      have hE : PE τ σ := PE.ft F (by decide)
      have hx : KX τ σ := KX.ft F (by decide)
      refine sT_makes2 (d := e + 5) (n := rk τ k) (slot := k) (wy := 0) (bare := 0) hE hx p1 (p2 0).1 (by omega) (by decide) h10 (p2 0).2 ⟨fun σ' hY => ?_, fun σ' hN => ?_⟩
      · refine fa (fa ?_)
        obtain ⟨⟨m1, m2, m3, m4⟩, m5, m6, m7, m8, m9⟩ := hY
        rw [if_neg (by decide), w32_s (by omega) (by omega)]
        have F' : FT (1 :: SM1) τ σ' := F.trans (m1.mono (fun g hg => List.mem_cons_of_mem _ hg))
        have := ih (k + 1) (by omega) σ' F' (by rw [(m1 1 (by decide)).1]; exact h1) (fun f hf => ?_)
        · exact this
        · by_cases q : f = k
          · subst q
            refine ⟨⟨by rw [m5, if_pos rfl], by rw [m2, if_pos rfl], ?_⟩, m6, ⟨m7, m8⟩, m9⟩
            rw [m3, if_pos rfl, (F 10 (by decide)).1]
            unfold nK
            change tI τ 10 = ((tI τ 10).toNat : Int)
            omega
          · exact (hT f (by omega)).fr (by rw [m5, if_neg q]) (by rw [m2, if_neg q]) (by rw [m3, if_neg q]) (fun g i h1 h2 h3 h4 => m4 g i h1 h2 (by omega))
      · refine fa (fa ?_)
        obtain ⟨⟨m1, m2, m3, m4⟩, m5, m6⟩ := hN
        rw [if_pos rfl, w32_s (by omega) (by omega)]
        have F' : FT (1 :: SM1) τ σ' := F.trans (m1.mono (fun g hg => List.mem_cons_of_mem _ hg))
        have e7' : tI σ' 7 = 0 := by rw [(F' 7 (by decide)).1]; exact h7
        have h1' : tI σ' 1 = 0 := by rw [(m1 1 (by decide)).1]; exact h1
        refine hI _ _ _ (br0 (fun q => by have := q.2.2; omega) (bT_read_160 (call := wpT (e + 11)) (fa (fa (fa ?_)))))
        rw [if_neg (fun q => by have := q.2; omega)]
        refine br1 (by rw [tI_sI, if_pos rfl]) (fa (fa (bT_read_202 (call := wpT (e + 11)) (fa ?_))))
        have z7 : tI (sI (sI (sI σ' 9 0) 10 0) 41 0) 7 = 0 := by
          rw [tI_sI, if_neg (by decide), tI_sI, if_neg (by decide), tI_sI, if_neg (by decide)]; exact e7'
        rw [z7, if_pos (Int.le_refl _), if_neg (by decide)]
        exact hX ⟨k, hkn, m6⟩ σ' F' h1'
  have F0 : FT (1 :: SM1) τ (sI τ 1 0) := (FT.refl _ _).ssI (by decide)
  exact key (nF τ) 0 (by omega) (sI τ 1 0) F0 (by rw [tI_sI, if_pos rfl]) (fun f hf => by omega)
end ZRdt
