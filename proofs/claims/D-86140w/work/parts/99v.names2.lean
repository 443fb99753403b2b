/-! a name is bound: its cases, what stays -/
section ZNames2
variable {p d e : Nat} {w : CW} {τ : TW}
theorem nm_cases (h : NmR p w τ) (v : Int) : (∃ n, n < nN τ ∧ nmB τ v = (n : Nat) ∧ bit (tI τ 31) n = 1) ∨ (nmB τ v = -4 ∧ nN τ = 8) ∨ ∃ n, n < 8 ∧ n ≤ nN τ ∧ ((nmB τ v = -4 ∧ n = nN τ) ∨ nmB τ v = (n : Nat)) ∧ bit (tI τ 31) n = 0 := by
  have h4 := h.2.2.2.2.1
  have hb := h.2.2.2.2.2.2.2.1
  rcases nmB_spec τ v with ⟨a, _⟩ | ⟨k, a, b, _⟩
  · by_cases z : nN τ = 8
    · exact Or.inr (Or.inl ⟨a, z⟩)
    · refine Or.inr (Or.inr ⟨nN τ, by omega, Nat.le_refl _, Or.inl ⟨a, rfl⟩, ?_⟩)
      obtain ⟨B, b1, b2, b3⟩ := hb
      have b1' : tI τ 31 = (B : Int) := b1
      rw [b1', bit_eq b2 (by omega), b3 _ (Nat.le_refl _)]
      rfl
  · rcases bit_01 h (k := k) (by omega) with y | y
    · exact Or.inr (Or.inr ⟨k, by omega, by omega, Or.inr b, y⟩)
    · exact Or.inl ⟨k, a, b, y⟩
theorem sT_bindsX3 (h : RB p w τ) (hN : NmR p w τ) {s : Int} (hx : ∃ n, n < nN τ ∧ nmB τ (tI τ 4) = (n : Nat) ∧ bit (tI τ 31) n = 1) : ∃ σ', FT [7, 8] τ σ' ∧ Dd 3 (tI τ 5) σ' ∧ tI σ' 7 ≠ 0 ∧ ∀ Q, Q (.inl (some (ai (-4)))) σ' → wpT (d + 2) 29 [ai s] τ Q := by
  obtain ⟨n, a, b, c⟩ := hx
  obtain ⟨σ', ⟨f1, f2, f3⟩, run⟩ := RB.fails (e := d) (pl := tI τ 5) h (k := 3) (by decide)
  refine ⟨σ', f1, f2, f3, fun Q hQ => wT_binds (by omega) (bT_binds_0 (sT_nameOf hN.2.1 hN.2.2.1 hN.2.2.2.1 hN.2.2.2.2.1 ?_))⟩
  have b' : nmB τ (tI τ 4) = (n : Int) := b
  rw [b']
  exact br1 ⟨by omega, c⟩ (run _ (bT_binds_65 (br0 f3 hQ)))
theorem sT_bindsX9 (h : RB p w τ) (hN : NmR p w τ) {s : Int} (hx : nmB τ (tI τ 4) = -4 ∧ nN τ = 8) : ∃ σ', FT [7, 8] τ σ' ∧ Dd 9 (tI τ 5) σ' ∧ tI σ' 7 ≠ 0 ∧ ∀ Q, Q (.inl (some (ai (-4)))) σ' → wpT (d + 2) 29 [ai s] τ Q := by
  obtain ⟨σ', ⟨f1, f2, f3⟩, run⟩ := RB.fails (e := d) (pl := tI τ 5) h (k := 9) (by decide)
  refine ⟨σ', f1, f2, f3, fun Q hQ => wT_binds (by omega) (bT_binds_0 (sT_nameOf hN.2.1 hN.2.2.1 hN.2.2.2.1 hN.2.2.2.2.1 ?_))⟩
  have b' : nmB τ (tI τ 4) = -4 := hx.1
  have e27 : tI τ 27 = nR τ := hN.2.1
  have e28 : tA τ 28 (nR τ) = nN τ := hN.2.2.2.1
  have r2 := hN.2.2.1
  rw [b']
  refine br0 (by omega) (bT_binds_37 ⟨fun _ => by omega, br1 ⟨by omega, ?_⟩ (run _ (bT_binds_65 (br0 f3 hQ)))⟩)
  rw [e27, e28, hx.2]
  rfl
theorem bdT_31 (τ : TW) (n : Nat) (s : Int) : tI (bdT τ n s) 31 = i_or (tI τ 31) (i_shl 1 n) := by
  unfold bdT
  exact (tI_sI _ _ _ _).trans (if_pos rfl)
theorem bdT_30 (τ : TW) (n : Nat) (s : Int) (x : Nat) : tA (bdT τ n s) 30 x = if x = 8 * nR τ + n then s else tA τ 30 x := by
  show tA (sA (if n = nN τ then sA (sA τ 28 (nR τ) (nN τ + 1 : Nat)) 29 (8 * nR τ + n : Nat) (tI τ 4) else τ) 30 (8 * nR τ + n : Nat) s) 30 x = _
  rw [tA_sA]
  by_cases y : x = 8 * nR τ + n
  · rw [if_pos ⟨rfl, by omega⟩, if_pos y]
  · rw [if_neg (by omega), if_neg y]
    by_cases z : n = nN τ
    · rw [if_pos z, tA_sA, if_neg (by omega), tA_sA, if_neg (by omega)]
    · rw [if_neg z]
theorem bdT_29 (τ : TW) (n : Nat) (s : Int) (x : Nat) (hx : n = nN τ → x ≠ 8 * nR τ + n) : tA (bdT τ n s) 29 x = tA τ 29 x := by
  show tA (sA (if n = nN τ then sA (sA τ 28 (nR τ) (nN τ + 1 : Nat)) 29 (8 * nR τ + n : Nat) (tI τ 4) else τ) 30 (8 * nR τ + n : Nat) s) 29 x = _
  rw [tA_sA, if_neg (by omega)]
  by_cases z : n = nN τ
  · have := hx z
    rw [if_pos z, tA_sA, if_neg (by omega), tA_sA, if_neg (by omega)]
  · rw [if_neg z]
theorem bdT_28 (τ : TW) (n : Nat) (s : Int) (x : Nat) (hx : x ≠ nR τ) : tA (bdT τ n s) 28 x = tA τ 28 x := by
  show tA (sA (if n = nN τ then sA (sA τ 28 (nR τ) (nN τ + 1 : Nat)) 29 (8 * nR τ + n : Nat) (tI τ 4) else τ) 30 (8 * nR τ + n : Nat) s) 28 x = _
  rw [tA_sA, if_neg (by omega)]
  by_cases z : n = nN τ
  · rw [if_pos z, tA_sA, if_neg (by omega), tA_sA, if_neg (by omega)]
  · rw [if_neg z]
theorem BN.bind (h : NmR p w τ) {n : Nat} {s : Int} (hn : (nmB τ (tI τ 4) = -4 ∧ n = nN τ) ∨ nmB τ (tI τ 4) = n) (h8 : n < 8) (hb : bit (tI τ 31) n = 0) (hw : fI w 12 p = tI τ 4) (o : Nat) : BN τ (bdT τ n s) (fun k => k = n) ∧ SnR (bdT τ n s) n = s ∧ UT τ (bdT τ n s) o := by
  obtain ⟨_, eR, eN⟩ := h.bind (s := s) hn h8 hw
  have F := bdT_ft τ n s
  obtain ⟨B, b1, b2, b3⟩ := h.2.2.2.2.2.2.2.1
  have b1' : tI τ 31 = (B : Int) := b1
  have ho := or_eq b2 h8
  have h4 := h.2.2.2.2.1
  have hnle : n ≤ nN τ := by
    rcases hn with ⟨x1, x2⟩ | x
    · omega
    · rcases nmB_spec τ (tI τ 4) with ⟨y1, y2⟩ | ⟨k, y1, y2, y3⟩
      · omega
      · omega
  refine ⟨⟨⟨by rw [eN]; omega, fun k hk => by rw [eN] at hk; omega⟩, fun k hk => bdT_29 τ n s _ (fun z => by omega), fun k hk => ⟨by rw [eN]; omega, by rw [hk]; exact hb⟩, fun k hk => ?_, fun k hk hk1 => ?_⟩, ?_, ⟨fun f h1 h2 x _ => (F f (by simp only [List.mem_cons, List.not_mem_nil, or_false]; omega)).2 _, fun f h1 h2 x _ => (F f (by simp only [List.mem_cons, List.not_mem_nil, or_false]; omega)).2 _, fun x _ => (F 40 (by decide)).2 _, fun x hx => ⟨bdT_29 τ n s x (fun _ => by omega), by rw [bdT_30, if_neg (by omega)]⟩, fun x hx => bdT_28 τ n s x hx⟩⟩
  · rw [bdT_31, b1', ho.1, bit_eq ho.2 (by omega), bit_eq b2 (by omega), Nat.testBit_or, Nat.testBit_two_pow]
    by_cases z : n = k
    · subst z
      simp
    · by_cases y : B.testBit k = true
      · simp [y]
      · simp [y, z, Ne.symm z]
  · rw [bdT_30, if_neg]
    intro z
    exact hk1 (by omega)
  · unfold SnR
    rw [eR, bdT_30, if_pos rfl]
end ZNames2
