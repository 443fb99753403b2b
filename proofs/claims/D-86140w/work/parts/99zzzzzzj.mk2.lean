/-! the reference's trees: a tree is made, later on -/
section ZMk2
variable {p b e d f : Nat} {w : CW} {τ σ ρ : TW} {rs : List (Nat × Nat)}
/-- a tree is made, from σ on, of the text as it was at τ -/
def MKY2 (τ σ σ' : TW) (rs : List (Nat × Nat)) (slot wy : Nat) : Prop := MKO σ σ' slot wy ∧ (∀ i : Nat, tA σ' 77 i = if i = slot then ((tsz τ rs wy 121 [] : Nat) : Int) else tA σ 77 i) ∧ TT τ σ' rs wy (300 * slot) 121 [] 0 ∧ tA σ' 85 (300 * slot : Nat) = -4 ∧ tA σ' 88 (300 * slot : Nat) = -4 ∧ tsz τ rs wy 121 [] ≤ 120
def MKN2 (τ σ σ' : TW) (rs : List (Nat × Nat)) (slot wy : Nat) : Prop := MKO σ σ' slot wy ∧ (∀ i : Nat, tA σ' 77 i = tA σ 77 i) ∧ 120 < tsz τ rs wy 121 []
theorem sT_makes2 {n slot wy : Nat} {bare : Int} {σs : TW} (hE : PE τ σs) (hx : KX τ σs) (hF : FP τ f n) (hC : CX τ f (rowsK τ f bare n)) (hs : slot ≤ 12) (hwy : wy ≤ 3) (h10 : 0 ≤ tI τ 10) (hsp : SPRs τ f (rowsK τ f bare n)) {Q : ZRes → TW → Prop}
    (hQ : (∀ σ', MKY2 τ σs σ' (rowsK τ f bare n) slot wy → Q (.inl (some (ai 1))) σ') ∧ (∀ σ', MKN2 τ σs σ' (rowsK τ f bare n) slot wy → Q (.inl (some (ai 0))) σ')) : wpT (d + 6) 45 [ai (slot : Nat), ai (f : Nat), ai (wy : Nat), ai bare] σs Q := by
  obtain ⟨hQ1, hQ0⟩ := hQ
  obtain ⟨rs, hrs⟩ : ∃ rs, rs = rowsK τ f bare n := ⟨_, rfl⟩
  refine wT_makes (Nat.zero_le _) (bT_makes_0 ?_)
  have hF' : FP σs f n := by
    obtain ⟨a1, a2, a3, ⟨m, b1, b2, b3, b4⟩, c1, c2⟩ := hF
    exact ⟨a1, by rw [hx.a (by decide) (by decide)]; exact a2, a3, ⟨m, by rw [hx.a (by decide) (by decide)]; exact b1, b2, b3, fun i hi => x_RP hx (b4 i hi)⟩, by rw [x_np hx.pq]; exact c1, by rw [x_rowsK hx]; exact c2⟩
  refine sT_layRows (d := d + 1) hF' (fun σ1 F1 R1 => ?_)
  rw [x_rowsK hx] at R1
  have R1 : RLy τ σ1 (rowsK τ f bare n) := by
    unfold RLy at R1 ⊢
    rw [x_tsR hx, x_off hx] at R1
    refine ⟨R1.1, R1.2.1, R1.2.2.1, fun i x hi => ?_⟩
    have := R1.2.2.2 i x hi
    rw [x_off hx] at this
    exact this
  rw [← hrs] at hC hQ1 hQ0 R1 hsp
  refine ⟨by omega, fa ⟨by omega, fa (fa ?_)⟩⟩
  rw [show w32 (300 * ((slot : Nat) : Int)) = ((300 * slot : Nat) : Int) by rw [w32_s (by omega) (by omega)]; omega]
  refine fa (fa (bT_makes_47 ?_))
  intro I hI
  obtain ⟨base, hbase⟩ : ∃ base, base = 300 * slot := ⟨_, rfl⟩
  rw [← hbase] at hI
  rw [show tI (sA σ1 78 (slot : Nat) (wy : Nat)) 10 = tI σ1 10 from rfl]
  obtain ⟨σ0, h0⟩ : ∃ σ0, σ0 = sA (sA σ1 78 slot wy) 79 slot (tI σ1 10) := ⟨_, rfl⟩
  rw [← h0]
  have hI' : MKL (d + 5) (fun v w => Q (.inl (some (ai v))) w) slot wy base I := hI
  have fr0 : ∀ g i, g ≠ 78 → g ≠ 79 → tA σ0 g i = tA σ1 g i := fun g i h1 h2 => by rw [h0, tA_sA, if_neg (fun q => h2 q.1), tA_sA, if_neg (fun q => h1 q.1)]
  have F0 : FT SM1 σs σ0 := by rw [h0]; exact ((F1.mono (by decide)).ssA (by decide)).ssA (by decide)
  have E0 : PE τ σ0 := hE.trans (PE.ft F0 (by decide))
  have R0 : RLy τ σ0 rs := by
    rw [h0]
    exact R1.ft (S := [78, 79]) (((FT.refl _ _).ssA (by decide)).ssA (by decide)) (by decide)
  obtain ⟨tot, htot⟩ : ∃ tot, tot = tsz τ rs wy 121 [] := ⟨_, rfl⟩
  have hFb : 120 < tot → ∀ σ', GF base σ0 σ' → Q (.inl (some (ai 0))) σ' := fun hb σ' hG => by
    rw [hbase] at hG
    obtain ⟨k1, k2⟩ := GF.mko hs F1 h0 hG
    exact hQ0 σ' ⟨k1, k2, by rw [← htot]; exact hb⟩
  have hN := mk_node (τ := τ) (f := f) (rs := rs) (d := d) (σ0 := σ0) (wy := wy) (base := base) (slot := slot) (tot := tot) (Q := fun v w => Q (.inl (some (ai v))) w) (I := I) hC hI' hFb (by omega) hwy h10 hsp E0 (fun i => by rw [(F0 53 (by decide)).2, hx.a (by decide) (by decide)]) R0 121
  obtain ⟨σ2, h2⟩ : ∃ σ2, σ2 = sA (sI σ0 93 1) 94 0 (-4) := ⟨_, rfl⟩
  have G2 : GF base σ0 σ2 := by
    rw [h2]
    refine ⟨((FT.refl _ _).ssI (by decide)).ssA (by decide), fun g i h1 h2 h3 => by rw [tA_sA, if_neg (by omega), tA_sI]⟩
  rw [← h2]
  have s93 : tI σ2 93 = (0 + 1 : Nat) := by rw [h2]; rfl
  refine mk_pop0 (n := 0) (s := 0) (u := -4) (b := (tA σ2 95 (0 : Nat), tA σ2 96 (0 : Nat), tA σ2 97 (0 : Nat), zb (tA σ2 98 (0 : Nat)))) hI' s93 (by omega) (by omega) ⟨by rw [h2, tA_sA, if_pos ⟨rfl, rfl⟩], rfl, rfl, rfl, rfl⟩ (Or.inl rfl) ⟨fun q => absurd rfl q.1, fun _ => ?_⟩
  refine bT_makes_227 (br1 rfl (bT_makes_248 (br1 rfl (bT_makes_264 (fa ?_)))))
  obtain ⟨⟨p85, -, -, -, -, p86, p87, p88⟩, po⟩ := pkW_at (σ := σ2) (base + 0) 0 (-4) (tA σ2 95 (0 : Nat), tA σ2 96 (0 : Nat), tA σ2 97 (0 : Nat), zb (tA σ2 98 (0 : Nat)))
  have pf := pkW_ft (σ := σ2) (base + 0) 0 (-4) (tA σ2 95 (0 : Nat), tA σ2 96 (0 : Nat), tA σ2 97 (0 : Nat), zb (tA σ2 98 (0 : Nat)))
  have p93 : tI (pkW σ2 (base + 0) 0 (-4) (tA σ2 95 (0 : Nat), tA σ2 96 (0 : Nat), tA σ2 97 (0 : Nat), zb (tA σ2 98 (0 : Nat)))) 93 = (0 : Nat) := rfl
  obtain ⟨σ3, h3⟩ : ∃ σ3, σ3 = pkW σ2 (base + 0) 0 (-4) (tA σ2 95 (0 : Nat), tA σ2 96 (0 : Nat), tA σ2 97 (0 : Nat), zb (tA σ2 98 (0 : Nat))) := ⟨_, rfl⟩
  rw [← h3] at p85 p86 p87 p88 po pf p93 ⊢
  have G3 : GF base σ0 σ3 := G2.tr (pf.mono (by decide)) (fun g i h1 h2 h3 => po g i (by omega))
  have := hN [] 0 0 0 σ3 G3 ⟨by omega, p85⟩ trivial trivial (Nat.le_refl 0) p86 p87 p93 (by rw [htot]; omega) (Nat.le_refl 0) (by omega) (by omega) (by omega) (fun σ4 F4 T4 N4 R4 L4 n4 le4 => ?_)
  · rw [show w32 (((0 : Nat) : Int) + 1) = ((0 + 1 : Nat) : Int) by rw [w32_s (by omega) (by omega)]; rfl]
    exact this
  · have G4 : GF base σ0 σ4 := G3.tr F4 (fun g i h1 h2 h3 => N4 g i h1 h2 (by omega))
    refine hI _ _ (br1 (by rw [n4]; decide) (bT_makes_277 ⟨by omega, fa ?_⟩))
    have G5 := G4
    rw [hbase] at G5
    obtain ⟨⟨m1, m2, m3, m4⟩, m5⟩ := GF.mko hs F1 h0 G5
    have k : ∀ g i, g ≠ 77 → tA (sA σ4 77 (slot : Nat) ((0 + tsz τ rs wy 121 [] : Nat) : Int)) g i = tA σ4 g i := fun g i hg => by rw [tA_sA, if_neg (fun q => hg q.1)]
    refine hQ1 _ ⟨⟨m1.ssA (by decide), fun i => by rw [k 78 _ (by decide)]; exact m2 i, fun i => by rw [k 79 _ (by decide)]; exact m3 i, fun g i h1 h2 h3 => by rw [k g _ (by omega)]; exact m4 g i h1 h2 h3⟩, fun i => ?_, ?_, ?_, ?_, by omega⟩
    · rw [tA_sA, Nat.zero_add]
      by_cases q : i = slot
      · rw [if_pos ⟨rfl, by omega⟩, if_pos q]
      · rw [if_neg (by omega), if_neg q]
        exact m5 i
    · rw [← hbase]
      exact TT.in 121 [] 0 (fun g h1 h2 => k g _ (by omega)) (fun g i h1 h2 h3 h4 => k g _ (by omega)) T4
    · rw [← hbase, k 85 _ (by decide)]
      exact (R4 85 (by decide)).trans p85
    · rw [← hbase, k 88 _ (by decide)]
      exact (R4 88 (by decide)).trans p88
end ZMk2
