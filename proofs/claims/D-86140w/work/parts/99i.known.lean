/-! bound names of both -/
section ZKnownN
variable {p d e : Nat} {w : CW} {τ : TW}
theorem bit_01 (h : NmR p w τ) {k : Nat} (hk : k < 9) : bit (tI τ 31) k = 0 ∨ bit (tI τ 31) k = 1 := by
  obtain ⟨B, b1, b2, _⟩ := h.2.2.2.2.2.2.2.1
  rw [b1, bit_eq b2 hk]
  split
  · exact Or.inr rfl
  · exact Or.inl rfl
theorem pr_known {S S' T : List Nat} {whole : Int} (h : RB p w τ) (hN : NmR p w τ) (h1 : tI τ 3 = 1) (hw : whole = 0 ∨ whole = 1) (hS' : ∀ f, f ∈ [7, 8] → f ∈ S') (hR : Rm 100 w τ) :
    OUT p T S S' 0 13 (fun (v : Int) (b : Int) w' τ' => v = b ∧ w' = w ∧ τ' = τ ∧ ∃ n : Nat, v = n ∧ n < nN τ ∧ nmB τ (tI τ 4) = n ∧ bit (tI τ 31) n = 1 ∧ (whole = 1 → tA τ 30 (8 * nR τ + n : Nat) = 0)) (fun Q X => if whole = 1 then wpC p (d + 6) 37 [ar p] w (zqI Q X) else wpC p (d + 5) 38 [ar p] w (zqI Q X)) (fun Q => wpT (e + 3) 41 [ai whole] τ (zqI Q zno)) w τ := by
  have hh := hN
  obtain ⟨⟨⟨a1, a2, a3, a4⟩, a5, a6, a7, a8⟩, b1, b2, b3, b4, b5, b6, b7, b8, b9, b10⟩ := hN
  have hwd : fI w 12 p = tI τ 4 := h.wd (Or.inl h1)
  have hroom := Rm.room h hR (k := 1) (n := 8) (by decide)
  have b1' : tI τ 27 = nR τ := b1
  have hbit : ∀ k : Nat, (i_and (i_shr (tI τ 31) (k : Int)) 1) = bit (tI τ 31) k := fun k => rfl
  by_cases hA : ∃ n : Nat, nmB τ (tI τ 4) = n ∧ bit (tI τ 31) n = 1
  · obtain ⟨n, n1, n2⟩ := hA
    have nlt : n < nN τ := by
      rcases nmB_spec τ (tI τ 4) with ⟨y1, y2⟩ | ⟨k, y1, y2, y3⟩ <;> omega
    have n1' : nmB τ (tI τ 4) = (n : Int) := n1
    have kn : ∀ Q : ZRes → CW → Prop, Q (.inl (some (ai n))) w → wpC p (d + 5) 38 [ar p] w Q := by
      intro Q hQ
      refine sC_known hh n (Or.inl ⟨by rw [hwd]; exact n1, n2⟩) ?_
      rw [if_pos (by omega)]
      exact sC_needOk (by decide) hQ
    have hgo : ¬ (nmB τ (tI τ 4) < 0 ∨ i_and (i_shr (tI τ 31) (nmB τ (tI τ 4))) 1 = 0) := by
      rw [n1', hbit, n2]; omega
    have e8 : w32 ((w32 (8 * (tI τ 27))) + nmB τ (tI τ 4)) = ((8 * nR τ + n : Nat) : Int) := by rw [b1', n1', w32_8 b2 (by omega)]
    by_cases hs : whole = 1 ∧ tA τ 30 (8 * nR τ + n : Nat) ≠ 0
    · -- it is no whole
      obtain ⟨τ1, ⟨p1, p2, p3⟩, r1⟩ := RB.fails (e := e + 1) h (k := 5) (pl := tI τ 5) (by decide)
      refine OUT.thr' (b := (n : Int)) h (by decide) (fun Q X hX => ?_) p1 ⟨hS' 7 (by decide), hS' 8 (by decide)⟩ p2 (fun Q hQ => wT_boundName (Nat.zero_le _) (sT_nameOf b1 b2 b3 b4 ⟨fun y => absurd y hgo, fun _ => ⟨fun _ => by rw [e8]; omega, fun _ => r1 _ ?_, fun y => ?_⟩⟩))
      · rw [if_pos hs.1]
        refine wC_X0_wholeName (Nat.zero_le _) (kn _ ⟨⟨a5, by omega, by rw [a6]; omega⟩, fa ?_⟩)
        have e9 : aN w (fR w 16 p) n = tA τ 30 (8 * nR τ + n : Nat) := by
          unfold aN; rw [if_neg (by rw [a5]; decide)]; exact b9 n nlt
        rw [e9, if_neg hs.2, h.pl]
        exact sC_needNo rfl hroom hX
      · rw [n1']; exact hQ
      · exfalso
        apply y
        rw [e8]
        exact ⟨by omega, hs.2⟩
    · have hs' : whole = 1 → tA τ 30 (8 * nR τ + n : Nat) = 0 := fun y => Classical.byContradiction (fun z => hs ⟨y, z⟩)
      refine OUT.ret (v := (n : Int)) (b := (n : Int)) h ⟨rfl, rfl, rfl, n, rfl, nlt, n1, n2, hs'⟩ (Int.le_refl _) (fun Q X hQ => ?_) (fun Q hQ => wT_boundName (Nat.zero_le _) (sT_nameOf b1 b2 b3 b4 ⟨fun y => absurd y hgo, fun _ => ⟨fun _ => by rw [e8]; omega, fun y => ?_, fun _ => ?_⟩⟩))
      · by_cases z : whole = 1
        · rw [if_pos z]
          refine wC_X0_wholeName (Nat.zero_le _) (kn _ ⟨⟨a5, by omega, by rw [a6]; omega⟩, fa ?_⟩)
          have e9 : aN w (fR w 16 p) n = tA τ 30 (8 * nR τ + n : Nat) := by
            unfold aN; rw [if_neg (by rw [a5]; decide)]; exact b9 n nlt
          rw [e9, if_pos (hs' z)]
          exact sC_needOk (by decide) hQ
        · rw [if_neg z]
          exact kn _ hQ
      · exfalso
        rw [e8] at y
        apply y.2
        apply hs'
        rcases hw with x | x
        · exact absurd x y.1
        · exact x
      · rw [n1']; exact hQ
  · -- no bound name
    obtain ⟨τ1, ⟨p1, p2, p3⟩, r1⟩ := RB.fails (e := e + 1) h (k := 4) (pl := tI τ 5) (by decide)
    have kn : ∀ Q : ZRes → CW → Prop, Q (.inr (cz w + 1)) (wrW w 4 (tI τ 5)) → wpC p (d + 5) 38 [ar p] w Q := by
      intro Q hQ
      refine sC_known hh (nN τ) (Or.inr ⟨rfl, fun k hk => ?_⟩) ?_
      · rw [hwd] at hk
        have klt : k < nN τ := by
          rcases nmB_spec τ (tI τ 4) with ⟨y1, y2⟩ | ⟨k, y1, y2, y3⟩ <;> omega
        rcases bit_01 hh (k := k) (by omega) with y | y
        · exact y
        · exact absurd ⟨k, hk, y⟩ hA
      · rw [if_neg (by omega), h.pl]
        exact sC_needNo rfl hroom hQ
    have hgo : nmB τ (tI τ 4) < 0 ∨ i_and (i_shr (tI τ 31) (nmB τ (tI τ 4))) 1 = 0 := by
      rcases nmB_spec τ (tI τ 4) with ⟨y1, y2⟩ | ⟨k, y1, y2, y3⟩
      · left
        have : nmB τ (tI τ 4) = -4 := y1
        omega
      · right
        have y2' : nmB τ (tI τ 4) = (k : Int) := y2
        rw [y2', hbit]
        rcases bit_01 hh (k := k) (by omega) with x | x
        · exact x
        · exact absurd ⟨k, y2, x⟩ hA
    refine OUT.thr' (b := nmB τ (tI τ 4)) h (by decide) (fun Q X hX => ?_) p1 ⟨hS' 7 (by decide), hS' 8 (by decide)⟩ p2 (fun Q hQ => wT_boundName (Nat.zero_le _) (sT_nameOf b1 b2 b3 b4 ⟨fun _ => r1 _ hQ, fun y => absurd hgo y⟩))
    by_cases z : whole = 1
    · rw [if_pos z]
      exact wC_X0_wholeName (Nat.zero_le _) (kn _ hX)
    · rw [if_neg z]
      exact kn _ hX
end ZKnownN
