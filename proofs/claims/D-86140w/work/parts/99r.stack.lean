/-! the reference's stack of patterns: its methods -/
section ZStack
variable {p d e : Nat} {w : CW} {τ : TW}
theorem ix8 {x : Int} {R n : Nat} (e : x = R) (h : 8 * R + n ≤ 1000000) : w32 ((w32 (8 * x)) + (n : Int)) = ((8 * R + n : Nat) : Int) := ixa (ixm (a := 8) e (by omega)) h
/-- an alternative's end: the first one's -/
theorem sT_ea29 {R k : Nat} (hR : tI τ 27 = R) (hR2 : R < 192) (hk : k < 8) : ∀ m n (σ : TW), m + n = 8 → tI σ 27 = R → ∃ σ', FT [40] σ σ' ∧ (∀ x : Nat, (x < 8 * k + n ∨ 8 * k + 8 ≤ x) → tA σ' 40 x = tA σ 40 x) ∧ (∀ i, n ≤ i → i < 8 → tA σ' 40 (8 * k + i : Nat) = tA σ 30 (8 * R + i : Nat)) ∧ ∀ (Q : TW → Prop) (I : Int → TW → Prop), (∀ (x2 : Int) (w : TW), (
    (8 ≤ x2 →
      pT_endsAlternative_66 (wpT d) Q w) ∧
    (¬ (8 ≤ x2) →
      (0 ≤ (w32 ((w32 (8 * (tI w 27))) + x2)) ∧ (w32 ((w32 (8 * (tI w 27))) + x2)) < 1536) ∧
      (0 ≤ (w32 ((w32 (8 * (k : Int))) + x2)) ∧ (w32 ((w32 (8 * (k : Int))) + x2)) < 64) ∧
      ∀ u32 : TW, u32 = sA w 40 (w32 ((w32 (8 * (k : Int))) + x2)) (tA w 30 (w32 ((w32 (8 * (tI w 27))) + x2))) →
      ∀ x2_34 : Int, x2_34 = w32 (x2 + 1) →
      I x2_34 u32)) → I x2 w) → Q σ' → I n σ := by
  intro m
  induction m with
  | zero =>
    intro n σ hn h27
    refine ⟨σ, FT.refl _ _, fun _ _ => rfl, fun i h1 h2 => by omega, fun Q I cl hQ => cl _ _ (br1 (by omega) (bT_endsAlternative_66 (bT_endsAlternative_201 hQ)))⟩
  | succ m ih =>
    intro n σ hn h27
    have e1 : w32 ((w32 (8 * (tI σ 27))) + (n : Int)) = ((8 * R + n : Nat) : Int) := ix8 h27 (by omega)
    have e2 : w32 ((w32 (8 * (k : Int))) + (n : Int)) = ((8 * k + n : Nat) : Int) := ix8 rfl (by omega)
    have e3 : w32 ((n : Int) + 1) = ((n + 1 : Nat) : Int) := w32_k (by omega)
    obtain ⟨σ1, h1⟩ : ∃ σ1, σ1 = sA σ 40 ((8 * k + n : Nat) : Int) (tA σ 30 ((8 * R + n : Nat) : Int)) := ⟨_, rfl⟩
    have F1 : FT [40] σ σ1 := by rw [h1]; exact (FT.refl _ _).ssA (by decide)
    obtain ⟨σ', F2, g1, g2, run⟩ := ih (n + 1) σ1 (by omega) ((F1 27 (by decide)).1.trans h27)
    refine ⟨σ', F1.trans F2, fun x hx => ?_, fun i hi1 hi2 => ?_, fun Q I cl hQ => cl _ _ (br0 (by omega) ⟨by rw [e1]; omega, by rw [e2]; omega, fa (fa ?_)⟩)⟩
    · rw [g1 x (by omega), h1, tA_sA, if_neg (by omega)]
    · by_cases z : i = n
      · subst z
        rw [g1 _ (by omega), h1, tA_sA, if_pos ⟨rfl, rfl⟩]
      · rw [g2 i (by omega) hi2, (F1 30 (by decide)).2]
    · rw [e1, e2, e3, ← h1]
      exact run Q I cl hQ
/-- an alternative's end: a later one's -/
theorem sT_ea90 {R k : Nat} (hR : tI τ 27 = R) (hR2 : R < 192) (hk : k < 8) : ∀ m n (x2 : Int), m + n = 8 → ∃ y : Int, (y = 0 ↔ x2 = 0 ∧ ∀ i, n ≤ i → i < 8 → bit (tI τ 31) i = 1 → bit (tA τ 37 k) i = 0 → tA τ 40 (8 * k + i : Nat) = tA τ 30 (8 * R + i : Nat)) ∧ ∀ (Q : TW → Prop) (I : Int → Int → TW → Prop), (∀ (x2 : Int) (x3 : Int) (w : TW), (
    (8 ≤ x3 →
      pT_endsAlternative_177 (wpT d) Q k x2 w) ∧
    (¬ (8 ≤ x3) →
      (((i_and (i_shr (tI w 31) x3) 1) = 1 → (0 ≤ (k : Int) ∧ (k : Int) < 8))) ∧
      ∀ v14 : Int, v14 = (if ((i_and (i_shr (tI w 31) x3) 1) = 1) ∧ ((i_and (i_shr (tA w 37 k) x3) 1) = 0) then 1 else 0) →
      ((x2 = 0 → (¬ (v14 = 0) → (0 ≤ (w32 ((w32 (8 * (k : Int))) + x3)) ∧ (w32 ((w32 (8 * (k : Int))) + x3)) < 64) ∧ (0 ≤ (w32 ((w32 (8 * (tI w 27))) + x3)) ∧ (w32 ((w32 (8 * (tI w 27))) + x3)) < 1536)))) ∧
      ∀ v16 : Int, v16 = (if ¬ (x2 = 0) ∨ (¬ (v14 = 0) ∧ (¬ ((tA w 40 (w32 ((w32 (8 * (k : Int))) + x3))) = (tA w 30 (w32 ((w32 (8 * (tI w 27))) + x3)))))) then 1 else 0) →
      ∀ x3_18 : Int, x3_18 = w32 (x3 + 1) →
      I v16 x3_18 w)) → I x2 x3 w) → pT_endsAlternative_177 (wpT d) Q k y τ → I x2 n τ := by
  intro m
  induction m with
  | zero =>
    intro n x2 hn
    exact ⟨x2, ⟨fun h => ⟨h, fun i h1 h2 => by omega⟩, fun h => h.1⟩, fun Q I cl hQ => cl _ _ _ (br1 (by omega) hQ)⟩
  | succ m ih =>
    intro n x2 hn
    have e1 : w32 ((w32 (8 * (tI τ 27))) + (n : Int)) = ((8 * R + n : Nat) : Int) := ix8 hR (by omega)
    have e2 : w32 ((w32 (8 * (k : Int))) + (n : Int)) = ((8 * k + n : Nat) : Int) := ix8 rfl (by omega)
    have e3 : w32 ((n : Int) + 1) = ((n + 1 : Nat) : Int) := w32_k (by omega)
    obtain ⟨v14, h14⟩ : ∃ v14 : Int, v14 = (if ((i_and (i_shr (tI τ 31) n) 1) = 1) ∧ ((i_and (i_shr (tA τ 37 k) n) 1) = 0) then 1 else 0) := ⟨_, rfl⟩
    obtain ⟨v16, h16⟩ : ∃ v16 : Int, v16 = (if ¬ (x2 = 0) ∨ (¬ (v14 = 0) ∧ (¬ (tA τ 40 ((8 * k + n : Nat) : Int) = tA τ 30 ((8 * R + n : Nat) : Int)))) then 1 else 0) := ⟨_, rfl⟩
    obtain ⟨y, hy, run⟩ := ih (n + 1) v16 (by omega)
    refine ⟨y, ?_, fun Q I cl hQ => cl _ _ _ (br0 (by omega) ⟨fun _ => by omega, fa ⟨fun _ _ => ⟨by rw [e2]; omega, by rw [e1]; omega⟩, fa (fa ?_)⟩⟩)⟩
    · have z14 : v14 = 0 ↔ ¬ (bit (tI τ 31) n = 1 ∧ bit (tA τ 37 k) n = 0) := by
        rw [h14]
        unfold bit
        split
        · rename_i z; exact ⟨fun h => by omega, fun h => absurd z h⟩
        · rename_i z; exact ⟨fun _ => z, fun _ => rfl⟩
      have z16 : v16 = 0 ↔ x2 = 0 ∧ (v14 = 0 ∨ tA τ 40 ((8 * k + n : Nat) : Int) = tA τ 30 ((8 * R + n : Nat) : Int)) := by
        rw [h16]
        split
        · rename_i z
          refine ⟨fun h => by omega, fun h => ?_⟩
          rcases z with z | ⟨z1, z2⟩
          · exact absurd h.1 z
          · rcases h.2 with q | q
            · exact absurd q z1
            · exact absurd q z2
        · rename_i z
          refine ⟨fun _ => ⟨Classical.byContradiction fun q => z (Or.inl q), ?_⟩, fun _ => rfl⟩
          by_cases q : v14 = 0
          · exact Or.inl q
          · exact Or.inr (Classical.byContradiction fun q2 => z (Or.inr ⟨q, q2⟩))
      rw [hy, z16]
      constructor
      · rintro ⟨⟨a, b⟩, c⟩
        refine ⟨a, fun i h1 h2 h3 h4 => ?_⟩
        by_cases z : i = n
        · subst z
          rcases b with b | b
          · exact absurd ⟨h3, h4⟩ (z14.mp b)
          · exact b
        · exact c i (by omega) h2 h3 h4
      · rintro ⟨a, c⟩
        refine ⟨⟨a, ?_⟩, fun i h1 h2 h3 h4 => c i (by omega) h2 h3 h4⟩
        by_cases z : bit (tI τ 31) n = 1 ∧ bit (tA τ 37 k) n = 0
        · exact Or.inr (c n (Nat.le_refl _) (by omega) z.1 z.2)
        · exact Or.inl (z14.mpr z)
    · rw [e1, e2, e3, ← h14, ← h16]
      exact run Q I cl hQ
theorem sT_endsAlt {R k : Nat} (hR : tI τ 27 = R) (hR2 : R < 192) (hk : k < 8) (h32 : tI τ 32 = ((k + 1 : Nat) : Int)) : ∃ σ', FT [38, 39, 40] τ σ' ∧ (∀ x : Nat, x ≠ k → tA σ' 38 x = tA τ 38 x ∧ tA σ' 39 x = tA τ 39 x) ∧ (∀ x : Nat, (x < 8 * k ∨ 8 * k + 8 ≤ x) → tA σ' 40 x = tA τ 40 x) ∧
    (tA τ 34 k = 1 → tA σ' 38 k = tI τ 31 ∧ tA σ' 39 k = tA τ 39 k ∧ ∀ i, i < 8 → tA σ' 40 (8 * k + i : Nat) = tA τ 30 (8 * R + i : Nat)) ∧
    (tA τ 34 k ≠ 1 → tA σ' 38 k = tA τ 38 k ∧ (∀ x, tA σ' 40 x = tA τ 40 x) ∧ (tA σ' 39 k = 0 ↔ tA τ 39 k = 0 ∧ tI τ 31 = tA τ 38 k ∧ ∀ i, i < 8 → bit (tI τ 31) i = 1 → bit (tA τ 37 k) i = 0 → tA τ 40 (8 * k + i : Nat) = tA τ 30 (8 * R + i : Nat))) ∧ ∀ Q, Q (.inl none) σ' → wpT (d + 1) 37 [] τ Q := by
  have ek : w32 ((tI τ 32) - 1) = (k : Int) := by rw [h32, w32_s (by omega) (by omega)]; omega
  have kr : (0 : Int) ≤ k ∧ (k : Int) < 8 := by omega
  by_cases z : tA τ 34 k = 1
  · obtain ⟨σ1, h1⟩ : ∃ σ1, σ1 = sA τ 38 k (tI τ 31) := ⟨_, rfl⟩
    have F1 : FT [38] τ σ1 := by rw [h1]; exact (FT.refl _ _).ssA (by decide)
    obtain ⟨σ', F2, g1, g2, run⟩ := sT_ea29 (d := d) hR hR2 hk 8 0 σ1 rfl ((F1 27 (by decide)).1.trans hR)
    refine ⟨σ', (F1.mono (by decide)).trans (F2.mono (by decide)), fun x hx => ⟨?_, ?_⟩, fun x hx => ?_, fun _ => ⟨?_, ?_, fun i hi => ?_⟩, fun q => absurd z q, fun Q hQ => wT_endsAlternative (Nat.zero_le _) (bT_endsAlternative_0 (fa ?_))⟩
    · rw [(F2 38 (by decide)).2, h1, tA_sA, if_neg (by omega)]
    · rw [(F2 39 (by decide)).2, (F1 39 (by decide)).2]
    · rw [g1 x (by omega), (F1 40 (by decide)).2]
    · rw [(F2 38 (by decide)).2, h1, tA_sA, if_pos ⟨rfl, rfl⟩]
    · rw [(F2 39 (by decide)).2, (F1 39 (by decide)).2]
    · rw [g2 i (Nat.zero_le _) hi, (F1 30 (by decide)).2]
    · rw [ek]
      refine ⟨kr, br1 z ⟨kr, fa ?_⟩⟩
      rw [← h1]
      exact bT_endsAlternative_29 (fun I cl => run _ I cl hQ)
  · obtain ⟨v5, h5⟩ : ∃ v5 : Int, v5 = (if ¬ ((tI τ 31) = (tA τ 38 k)) then 1 else 0) := ⟨_, rfl⟩
    obtain ⟨y, hy, run⟩ := sT_ea90 (d := d) hR hR2 hk 8 0 v5 rfl
    obtain ⟨v8, h8⟩ : ∃ v8 : Int, v8 = (if ¬ ((tA τ 39 k) = 0) ∨ (¬ (y = 0)) then 1 else 0) := ⟨_, rfl⟩
    obtain ⟨σ', h9⟩ : ∃ σ', σ' = sA τ 39 k (zb v8) := ⟨_, rfl⟩
    have F1 : FT [39] τ σ' := by rw [h9]; exact (FT.refl _ _).ssA (by decide)
    have z5 : v5 = 0 ↔ tI τ 31 = tA τ 38 k := by
      rw [h5]
      split
      · rename_i q; exact ⟨fun h => by omega, fun h => absurd h q⟩
      · rename_i q; exact ⟨fun _ => Classical.byContradiction q, fun _ => rfl⟩
    refine ⟨σ', F1.mono (by decide), fun x hx => ⟨(F1 38 (by decide)).2 _, by rw [h9, tA_sA, if_neg (by omega)]⟩, fun x _ => (F1 40 (by decide)).2 _, fun q => absurd q z, fun _ => ⟨(F1 38 (by decide)).2 _, (F1 40 (by decide)).2, ?_⟩, fun Q hQ => wT_endsAlternative (Nat.zero_le _) (bT_endsAlternative_0 (fa ?_))⟩
    · have e39 : tA σ' 39 k = zb v8 := by rw [h9, tA_sA, if_pos ⟨rfl, rfl⟩]
      have zz : zb v8 = 0 ↔ tA τ 39 k = 0 ∧ y = 0 := by
        rw [h8]
        split
        · rename_i q
          refine ⟨fun h => absurd h (by decide), fun h => ?_⟩
          rcases q with q | q
          · exact absurd h.1 q
          · exact absurd h.2 q
        · rename_i q
          exact ⟨fun _ => ⟨Classical.byContradiction fun n => q (Or.inl n), Classical.byContradiction fun n => q (Or.inr n)⟩, fun _ => rfl⟩
      rw [e39, zz, hy, z5]
      exact ⟨fun ⟨a, b, c⟩ => ⟨a, b, fun i hi => c i (Nat.zero_le _) hi⟩, fun ⟨a, b, c⟩ => ⟨a, b, fun i _ hi => c i hi⟩⟩
    · rw [ek]
      refine ⟨kr, br0 z ⟨kr, fa ?_⟩⟩
      rw [← h5]
      refine bT_endsAlternative_90 (fun I cl => run _ I cl (bT_endsAlternative_177 ⟨kr, fa ⟨kr, fa ?_⟩⟩))
      rw [← h8, ← h9]
      exact bT_endsAlternative_201 hQ
/-- a pattern comes into what is open last -/
theorem sT_comesInto {k q v : Nat} (hk : k < 8) (h32 : tI τ 32 = ((k + 1 : Nat) : Int)) (hq : tA τ 33 k = q) (hq2 : q < 1700) (hv : v < 1700) (hl : tA τ 35 k = -4 ∨ (0 ≤ tA τ 35 k ∧ tA τ 35 k < 1700)) : ∃ σ', FT [22, 23, 26, 34, 35] τ σ' ∧
    (∀ x : Nat, tA σ' 35 x = if x = k then (v : Int) else tA τ 35 x) ∧ (∀ x : Nat, tA σ' 34 x = if x = k then w32 (tA τ 34 k + 1) else tA τ 34 x) ∧
    (tA τ 35 k = -4 → (∀ x : Nat, tA σ' 22 x = if x = q then (v : Int) else tA τ 22 x) ∧ (∀ x, tA σ' 23 x = tA τ 23 x) ∧ ∀ x : Nat, tA σ' 26 x = if x = q then tA τ 26 v else tA τ 26 x) ∧
    (∀ l : Nat, tA τ 35 k = l → (∀ x, tA σ' 22 x = tA τ 22 x) ∧ (∀ x : Nat, tA σ' 23 x = if x = l then (v : Int) else tA τ 23 x) ∧ ∀ x : Nat, tA σ' 26 x = if x = q then (if ¬ ((if tA τ 17 q = 5 then w32 (tA τ 26 q * tA τ 26 v) else w32 (tA τ 26 q + tA τ 26 v)) ≤ 1000) then 1000 else (if tA τ 17 q = 5 then w32 (tA τ 26 q * tA τ 26 v) else w32 (tA τ 26 q + tA τ 26 v))) else tA τ 26 x) ∧
    ∀ Q, Q (.inl none) σ' → wpT (d + 1) 35 [ai v] τ Q := by
  have ek : w32 ((tI τ 32) - 1) = (k : Int) := by rw [h32, w32_s (by omega) (by omega)]; omega
  have kr : (0 : Int) ≤ k ∧ (k : Int) < 8 := by omega
  have qr : (0 : Int) ≤ q ∧ (q : Int) < 1700 := by omega
  have vr : (0 : Int) ≤ v ∧ (v : Int) < 1700 := by omega
  have sx : ∀ (σ : TW) (f n : Nat) (y : Int) (x : Nat), tA (sA σ f n y) f x = if x = n then y else tA σ f x := by
    intro σ f n y x
    rw [tA_sA]
    by_cases z : x = n
    · rw [if_pos ⟨rfl, by omega⟩, if_pos z]
    · rw [if_neg (by omega), if_neg z]
  by_cases z : tA τ 35 k = -4
  · obtain ⟨s1, h1⟩ : ∃ s1, s1 = sA τ 22 q v := ⟨_, rfl⟩
    obtain ⟨s2, h2⟩ : ∃ s2, s2 = sA s1 26 q (tA s1 26 v) := ⟨_, rfl⟩
    obtain ⟨s3, h3⟩ : ∃ s3, s3 = sA s2 35 k v := ⟨_, rfl⟩
    obtain ⟨s4, h4⟩ : ∃ s4, s4 = sA s3 34 k (w32 (tA s3 34 k + 1)) := ⟨_, rfl⟩
    have F1 : FT [22] τ s1 := by rw [h1]; exact (FT.refl _ _).ssA (by decide)
    have F2 : FT [26] s1 s2 := by rw [h2]; exact (FT.refl _ _).ssA (by decide)
    have F3 : FT [35] s2 s3 := by rw [h3]; exact (FT.refl _ _).ssA (by decide)
    have F4 : FT [34] s3 s4 := by rw [h4]; exact (FT.refl _ _).ssA (by decide)
    refine ⟨s4, (((F1.mono (by decide)).trans (F2.mono (by decide))).trans (F3.mono (by decide))).trans (F4.mono (by decide)), fun x => ?_, fun x => ?_, fun _ => ⟨fun x => ?_, fun x => ?_, fun x => ?_⟩, fun l hl => by omega, fun Q hQ => wT_comesInto (Nat.zero_le _) (bT_comesInto_0 (fa ?_))⟩
    · rw [(F4 35 (by decide)).2, h3, sx, (F2 35 (by decide)).2, (F1 35 (by decide)).2]
    · rw [h4, sx, (F3 34 (by decide)).2, (F3 34 (by decide)).2, (F2 34 (by decide)).2, (F2 34 (by decide)).2, (F1 34 (by decide)).2, (F1 34 (by decide)).2]
    · rw [(F4 22 (by decide)).2, (F3 22 (by decide)).2, (F2 22 (by decide)).2, h1, sx]
    · rw [(F4 23 (by decide)).2, (F3 23 (by decide)).2, (F2 23 (by decide)).2, (F1 23 (by decide)).2]
    · rw [(F4 26 (by decide)).2, (F3 26 (by decide)).2, h2, sx, (F1 26 (by decide)).2, (F1 26 (by decide)).2]
    · rw [ek]
      refine ⟨kr, fa ⟨kr, br1 z ?_⟩⟩
      rw [hq]
      refine ⟨qr, fa ⟨vr, qr, fa ?_⟩⟩
      rw [← h1, ← h2]
      refine bT_comesInto_122 ⟨kr, fa ⟨kr, kr, fa ?_⟩⟩
      rw [← h3, ← h4]
      exact hQ
  · obtain ⟨l, hl⟩ : ∃ l : Nat, tA τ 35 k = l := ⟨(tA τ 35 k).toNat, by omega⟩
    have lr : (0 : Int) ≤ l ∧ (l : Int) < 1700 := by omega
    obtain ⟨s1, h1⟩ : ∃ s1, s1 = sA τ 23 l v := ⟨_, rfl⟩
    obtain ⟨v10, h10⟩ : ∃ v10, v10 = (if (tA s1 17 q) = 5 then w32 ((tA s1 26 q) * (tA s1 26 v)) else w32 ((tA s1 26 q) + (tA s1 26 v))) := ⟨_, rfl⟩
    obtain ⟨v12, h12⟩ : ∃ v12 : Int, v12 = (if ¬ (v10 ≤ 1000) then 1000 else v10) := ⟨_, rfl⟩
    obtain ⟨s2, h2⟩ : ∃ s2, s2 = sA s1 26 q v12 := ⟨_, rfl⟩
    obtain ⟨s3, h3⟩ : ∃ s3, s3 = sA s2 35 k v := ⟨_, rfl⟩
    obtain ⟨s4, h4⟩ : ∃ s4, s4 = sA s3 34 k (w32 (tA s3 34 k + 1)) := ⟨_, rfl⟩
    have F1 : FT [23] τ s1 := by rw [h1]; exact (FT.refl _ _).ssA (by decide)
    have F2 : FT [26] s1 s2 := by rw [h2]; exact (FT.refl _ _).ssA (by decide)
    have F3 : FT [35] s2 s3 := by rw [h3]; exact (FT.refl _ _).ssA (by decide)
    have F4 : FT [34] s3 s4 := by rw [h4]; exact (FT.refl _ _).ssA (by decide)
    refine ⟨s4, (((F1.mono (by decide)).trans (F2.mono (by decide))).trans (F3.mono (by decide))).trans (F4.mono (by decide)), fun x => ?_, fun x => ?_, fun y => absurd y z, fun l' hl' => ?_, fun Q hQ => wT_comesInto (Nat.zero_le _) (bT_comesInto_0 (fa ?_))⟩
    · rw [(F4 35 (by decide)).2, h3, sx, (F2 35 (by decide)).2, (F1 35 (by decide)).2]
    · rw [h4, sx, (F3 34 (by decide)).2, (F3 34 (by decide)).2, (F2 34 (by decide)).2, (F2 34 (by decide)).2, (F1 34 (by decide)).2, (F1 34 (by decide)).2]
    · have el : l' = l := by omega
      subst el
      refine ⟨fun x => ?_, fun x => ?_, fun x => ?_⟩
      · rw [(F4 22 (by decide)).2, (F3 22 (by decide)).2, (F2 22 (by decide)).2, (F1 22 (by decide)).2]
      · rw [(F4 23 (by decide)).2, (F3 23 (by decide)).2, (F2 23 (by decide)).2, h1, sx]
      · rw [(F4 26 (by decide)).2, (F3 26 (by decide)).2, h2, sx, h12, h10, (F1 26 (by decide)).2, (F1 26 (by decide)).2, (F1 26 (by decide)).2, (F1 17 (by decide)).2]
    · rw [ek]
      refine ⟨kr, fa ⟨kr, br0 z ?_⟩⟩
      rw [hq, hl]
      refine ⟨kr, lr, fa ?_⟩
      rw [← h1]
      refine ⟨qr, ⟨fun _ => ⟨qr, vr⟩, fun _ => ⟨qr, vr⟩⟩, fa (fa ?_)⟩
      rw [← h10, ← h12]
      refine ⟨qr, fa ?_⟩
      rw [← h2]
      refine bT_comesInto_122 ⟨kr, fa ⟨kr, kr, fa ?_⟩⟩
      rw [← h3, ← h4]
      exact hQ
/-- what is open at level k is in order -/
def SLv (τ : TW) (k : Nat) : Prop := ∃ q : Nat, tA τ 33 k = q ∧ q < 1700 ∧ 0 ≤ tA τ 34 k ∧ tA τ 34 k ≤ 6 ∧ (tA τ 35 k = -4 ∨ (0 ≤ tA τ 35 k ∧ tA τ 35 k < 1700)) ∧ ((tA τ 17 q = 5 ∧ ∃ kk : Nat, tA τ 19 q = kk ∧ kk < 24 ∧ tA τ 34 k < 4) ∨ tA τ 17 q = 6)
/-- a wrong token behind a pattern within others -/
theorem dd_goesOn {h pl : Int} {R k q : Nat} (D : Dd h pl τ) (h0 : tI τ 7 = 0) (hR : tI τ 27 = R) (hR2 : R < 192) (hk : k < 8) (h32 : tI τ 32 = ((k + 1 : Nat) : Int)) (hq : tA τ 33 k = q) (hq2 : q < 1700) (hs : (tA τ 17 q = 5 ∧ ∃ kk : Nat, tA τ 19 q = kk ∧ kk < 24) ∨ tA τ 17 q = 6) :
    ∃ σ', FT [7, 8, 38, 39, 40] τ σ' ∧ Dd h pl σ' ∧ tI σ' 7 ≠ 0 ∧ ∀ Q, Q (.inl (some (ai 0))) σ' → wpT (e + 5) 36 [] τ Q := by
  have ek : w32 ((tI τ 32) - 1) = (k : Int) := by rw [h32, w32_s (by omega) (by omega)]; omega
  have kr : (0 : Int) ≤ k ∧ (k : Int) < 8 := by omega
  have qr : (0 : Int) ≤ q ∧ (q : Int) < 1700 := by omega
  have n := D.ns h0
  rcases hs with ⟨z, kk, z1, z2⟩ | z
  · by_cases y : tA τ 14 kk ≤ tA τ 34 k
    · obtain ⟨σ', ⟨a, b, c⟩, run⟩ := dd_must (d := e) (c := 41) D
      refine ⟨σ', a.mono (by decide), b, c, fun Q hQ => wT_goesOn (by omega) (bT_goesOn_0 (fa ?_))⟩
      rw [ek]
      refine ⟨kr, fa ?_⟩
      rw [hq, z1]
      exact ⟨qr, br1 z ⟨kr, qr, by omega, br1 y (br1 (n 44).1 (bT_goesOn_85 (run _ hQ)))⟩⟩
    · obtain ⟨σ', ⟨a, b, c⟩, run⟩ := dd_stop (d := e + 2) (k := 6) D (by decide)
      refine ⟨σ', a.mono (by decide), b, c, fun Q hQ => wT_goesOn (by omega) (bT_goesOn_0 (fa ?_))⟩
      rw [ek]
      refine ⟨kr, fa ?_⟩
      rw [hq, z1]
      exact ⟨qr, br1 z ⟨kr, qr, by omega, br0 y (br1 (n 44).1 (run _ (bT_goesOn_59 (dd_takes b _ ⟨Or.inl rfl, hQ⟩))))⟩⟩
  · obtain ⟨σ1, F1, -, -, -, -, run1⟩ := sT_endsAlt (d := e + 3) hR hR2 hk h32
    have D1 := D.ft F1 (by decide)
    obtain ⟨σ', ⟨a, b, c⟩, run⟩ := dd_must (d := e) (c := 41) D1
    have n1 := D1.ns ((F1 7 (by decide)).1.trans h0)
    refine ⟨σ', (F1.mono (by decide)).trans (a.mono (by decide)), b, c, fun Q hQ => wT_goesOn (by omega) (bT_goesOn_0 (fa ?_))⟩
    rw [ek]
    refine ⟨kr, fa ?_⟩
    rw [hq]
    exact ⟨qr, br0 (by omega) (run1 _ (dd_takes D1 _ (br1 rfl (br1 (n1 41).1 (bT_goesOn_210 (run _ hQ))))))⟩
end ZStack
