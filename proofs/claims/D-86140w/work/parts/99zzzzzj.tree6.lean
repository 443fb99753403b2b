/-! the reference's trees: a node is taken from those ahead -/
section ZTree6
variable {p b e d f : Nat} {w : CW} {τ σ ρ : TW} {rs : List (Nat × Nat)}
/-- the law of the loop that makes nodes -/
def MKL (d : Nat) (Q : Int → TW → Prop) (x1 x3 x5 : Int) (I47 : Int → TW → Prop) : Prop := ∀ (x6 : Int) (w : TW), (
    ((tI w 93) ≤ 0 →
      pT_makes_277 (wpT d) Q x1 x6 w) ∧
    (¬ ((tI w 93) ≤ 0) →
      ((w32 (x6 + (tI w 93))) ≤ 120 →
        ∀ u13 : TW, u13 = sI w 93 (w32 ((tI w 93) - 1)) →
        ∀ x7_14 : Int, x7_14 = w32 (x5 + x6) →
        (0 ≤ (tI u13 93) ∧ (tI u13 93) < 400) ∧
        ∀ x8_16 : Int, x8_16 = tA u13 94 (tI u13 93) →
        (0 ≤ x7_14 ∧ x7_14 < 3900) ∧
        ∀ u17 : TW, u17 = sA u13 85 x7_14 x8_16 →
        (0 ≤ (tI u17 93) ∧ (tI u17 93) < 400) ∧
        (0 ≤ x7_14 ∧ x7_14 < 3900) ∧
        ∀ u20 : TW, u20 = sA u17 89 x7_14 (tA u17 95 (tI u17 93)) →
        (0 ≤ (tI u20 93) ∧ (tI u20 93) < 400) ∧
        (0 ≤ x7_14 ∧ x7_14 < 3900) ∧
        ∀ u23 : TW, u23 = sA u20 90 x7_14 (tA u20 96 (tI u20 93)) →
        (0 ≤ (tI u23 93) ∧ (tI u23 93) < 400) ∧
        (0 ≤ x7_14 ∧ x7_14 < 3900) ∧
        ∀ u26 : TW, u26 = sA u23 91 x7_14 (tA u23 97 (tI u23 93)) →
        (0 ≤ (tI u26 93) ∧ (tI u26 93) < 400) ∧
        (0 ≤ x7_14 ∧ x7_14 < 3900) ∧
        ∀ u29 : TW, u29 = sA u26 92 x7_14 (zb (tA u26 98 (tI u26 93))) →
        (0 ≤ x7_14 ∧ x7_14 < 3900) ∧
        ∀ u31 : TW, u31 = sA u29 86 x7_14 (-4) →
        (0 ≤ x7_14 ∧ x7_14 < 3900) ∧
        ∀ u33 : TW, u33 = sA u31 87 x7_14 (-4) →
        (0 ≤ x7_14 ∧ x7_14 < 3900) ∧
        ∀ u35 : TW, u35 = sA u33 88 x7_14 (-4) →
        ((¬ (x8_16 = (-4)) → (0 ≤ x8_16 ∧ x8_16 < 3900))) ∧
        (¬ (x8_16 = (-4)) ∧ ((tA u35 86 x8_16) = (-4)) →
          (0 ≤ x8_16 ∧ x8_16 < 3900) ∧
          ∀ u38 : TW, u38 = sA u35 86 x8_16 x7_14 →
          pT_makes_248 (wpT d) Q I47 x1 x3 x5 x6 x7_14 x8_16 u38) ∧
        (¬ (¬ (x8_16 = (-4)) ∧ ((tA u35 86 x8_16) = (-4))) →
          pT_makes_227 (wpT d) Q I47 x1 x3 x5 x6 x7_14 x8_16 u35)) ∧
      (¬ ((w32 (x6 + (tI w 93))) ≤ 120) →
        pT_makes_66 (wpT d) Q w))) → I47 x6 w
/-- a node is taken, its fields -/
def pkW (σ : TW) (x s : Nat) (u : Int) (b : Br) : TW := sA (sA (sA (sA (sA (sA (sA (sA (sI σ 93 s) 85 x u) 89 x b.1) 90 x b.2.1) 91 x b.2.2.1) 92 x b.2.2.2) 86 x (-4)) 87 x (-4)) 88 x (-4)
theorem pkW_ft (x s : Nat) (u : Int) (b : Br) : FT [85, 86, 87, 88, 89, 90, 91, 92, 93] σ (pkW σ x s u b) := by
  unfold pkW
  exact ((((((((((FT.refl _ σ).ssI (by decide)).ssA (by decide)).ssA (by decide)).ssA (by decide)).ssA (by decide)).ssA (by decide)).ssA (by decide)).ssA (by decide)).ssA (by decide))
theorem pkW_at (x s : Nat) (u : Int) (b : Br) : (tA (pkW σ x s u b) 85 x = u ∧ tA (pkW σ x s u b) 89 x = b.1 ∧ tA (pkW σ x s u b) 90 x = b.2.1 ∧ tA (pkW σ x s u b) 91 x = b.2.2.1 ∧ tA (pkW σ x s u b) 92 x = b.2.2.2 ∧ tA (pkW σ x s u b) 86 x = -4 ∧ tA (pkW σ x s u b) 87 x = -4 ∧ tA (pkW σ x s u b) 88 x = -4) ∧ ∀ g (i : Int), i ≠ x → tA (pkW σ x s u b) g i = tA σ g i := by
  unfold pkW
  refine ⟨⟨?_, ?_, ?_, ?_, ?_, ?_, ?_, ?_⟩, fun g i hi => ?_⟩
  all_goals simp only [tA_sA, tA_sI]
  all_goals first | (rw [if_neg (by omega), if_neg (by omega), if_neg (by omega), if_neg (by omega), if_neg (by omega), if_neg (by omega), if_neg (by omega), if_neg (by omega)]) | simp
theorem mk_pop0 {wy base slot n s : Nat} {Q : Int → TW → Prop} {I : Int → TW → Prop} (hI : MKL d Q slot wy base I) (h93 : tI σ 93 = (s + 1 : Nat)) (h120 : n + (s + 1) ≤ 120) (hb : base ≤ 3600) {u : Int} {b : Br} (hA : tA σ 94 s = u ∧ tA σ 95 s = b.1 ∧ tA σ 96 s = b.2.1 ∧ tA σ 97 s = b.2.2.1 ∧ zb (tA σ 98 s) = b.2.2.2) (hu : u = -4 ∨ (0 ≤ u ∧ u < 3900))
    (hgo : (u ≠ -4 ∧ tA (pkW σ (base + n) s u b) 86 u = -4 → pT_makes_248 (wpT d) Q I slot wy base n ((base + n : Nat) : Int) u (sA (pkW σ (base + n) s u b) 86 u ((base + n : Nat) : Int))) ∧ (¬ (u ≠ -4 ∧ tA (pkW σ (base + n) s u b) 86 u = -4) → pT_makes_227 (wpT d) Q I slot wy base n ((base + n : Nat) : Int) u (pkW σ (base + n) s u b))) : I (n : Nat) σ := by
  obtain ⟨a1, a2, a3, a4, a5⟩ := hA
  have xr : 0 ≤ ((base + n : Nat) : Int) ∧ ((base + n : Nat) : Int) < 3900 := by omega
  have sr' : 0 ≤ ((s : Nat) : Int) ∧ ((s : Nat) : Int) < 400 := by omega
  have e1 : w32 ((n : Int) + tI σ 93) = ((n + (s + 1) : Nat) : Int) := by rw [h93, w32_s (by omega) (by omega)]; omega
  have e2 : w32 (tI σ 93 - 1) = (s : Nat) := by rw [h93, w32_s (by omega) (by omega)]; omega
  have e3 : w32 ((base : Int) + (n : Int)) = ((base + n : Nat) : Int) := by rw [w32_s (by omega) (by omega)]; omega
  refine hI _ _ (br0 (by omega) ?_)
  rw [e1, e2, e3]
  obtain ⟨x, hx⟩ : ∃ x, x = base + n := ⟨_, rfl⟩
  rw [← hx] at hgo xr ⊢
  refine br1 (by omega) (fa (fa ⟨sr', ?_⟩))
  rw [show tA (sI σ 93 (s : Nat)) 94 (tI (sI σ 93 (s : Nat)) 93) = u from a1]
  refine fa ⟨xr, fa ⟨sr', xr, ?_⟩⟩
  obtain ⟨v1, hv1⟩ : ∃ v1, v1 = sA (sI σ 93 (s : Nat)) 85 (x : Nat) u := ⟨_, rfl⟩
  rw [← hv1]
  have w1 : tI v1 93 = s ∧ ∀ g i, g ≠ 85 → tA v1 g i = tA σ g i := by
    rw [hv1]
    exact ⟨rfl, fun g i hg => by rw [tA_sA, if_neg (fun q => hg q.1), tA_sI]⟩
  rw [w1.1, w1.2 95 _ (by decide), a2]
  refine fa ⟨by show 0 ≤ tI v1 93 ∧ tI v1 93 < 400; rw [w1.1]; exact sr', xr, ?_⟩
  obtain ⟨v2, hv2⟩ : ∃ v2, v2 = sA v1 89 (x : Nat) b.1 := ⟨_, rfl⟩
  rw [← hv2]
  have w2 : tI v2 93 = s ∧ ∀ g i, g ≠ 85 → g ≠ 89 → tA v2 g i = tA σ g i := by
    rw [hv2]
    exact ⟨w1.1, fun g i h1 h2 => by rw [tA_sA, if_neg (fun q => h2 q.1), w1.2 g i h1]⟩
  rw [w2.1, w2.2 96 _ (by decide) (by decide), a3]
  refine fa ⟨by show 0 ≤ tI v2 93 ∧ tI v2 93 < 400; rw [w2.1]; exact sr', xr, ?_⟩
  obtain ⟨v3, hv3⟩ : ∃ v3, v3 = sA v2 90 (x : Nat) b.2.1 := ⟨_, rfl⟩
  rw [← hv3]
  have w3 : tI v3 93 = s ∧ ∀ g i, g ≠ 85 → g ≠ 89 → g ≠ 90 → tA v3 g i = tA σ g i := by
    rw [hv3]
    exact ⟨w2.1, fun g i h1 h2 h3 => by rw [tA_sA, if_neg (fun q => h3 q.1), w2.2 g i h1 h2]⟩
  rw [w3.1, w3.2 97 _ (by decide) (by decide) (by decide), a4]
  refine fa ⟨by show 0 ≤ tI v3 93 ∧ tI v3 93 < 400; rw [w3.1]; exact sr', xr, ?_⟩
  obtain ⟨v4, hv4⟩ : ∃ v4, v4 = sA v3 91 (x : Nat) b.2.2.1 := ⟨_, rfl⟩
  rw [← hv4]
  have w4 : tI v4 93 = s ∧ ∀ g i, g ≠ 85 → g ≠ 89 → g ≠ 90 → g ≠ 91 → tA v4 g i = tA σ g i := by
    rw [hv4]
    exact ⟨w3.1, fun g i h1 h2 h3 h4 => by rw [tA_sA, if_neg (fun q => h4 q.1), w3.2 g i h1 h2 h3]⟩
  rw [w4.1, w4.2 98 _ (by decide) (by decide) (by decide) (by decide), a5]
  have ep : sA (sA (sA (sA v4 92 (x : Nat) b.2.2.2) 86 (x : Nat) (-4)) 87 (x : Nat) (-4)) 88 (x : Nat) (-4) = pkW σ x s u b := by rw [hv4, hv3, hv2, hv1]; rfl
  refine fa ⟨xr, fa ⟨xr, fa ⟨xr, fa ?_⟩⟩⟩
  rw [ep]
  exact ⟨fun hne => by omega, fun q => ⟨by omega, fa (hgo.1 q)⟩, hgo.2⟩
/-- a child is taken and linked -/
def PKd (σ σ' : TW) (x s u : Nat) (b : Br) : Prop := FT [85, 86, 87, 88, 89, 90, 91, 92, 93] σ σ' ∧ tI σ' 93 = s ∧ (tA σ' 85 x = (u : Nat) ∧ tA σ' 89 x = b.1 ∧ tA σ' 90 x = b.2.1 ∧ tA σ' 91 x = b.2.2.1 ∧ tA σ' 92 x = b.2.2.2 ∧ tA σ' 86 x = -4 ∧ tA σ' 87 x = -4 ∧ tA σ' 88 x = -4) ∧ (tA σ' 86 u = if tA σ 86 u = -4 then (x : Int) else tA σ 86 u) ∧ tA σ' 87 u = (x : Nat) ∧ (∀ l : Nat, tA σ 86 u ≠ -4 → tA σ 87 u = l → tA σ' 88 l = (x : Nat)) ∧ ∀ g (i : Nat), i ≠ x → ¬ (g = 86 ∧ i = u) → ¬ (g = 87 ∧ i = u) → ¬ (g = 88 ∧ tA σ 86 u ≠ -4 ∧ (i : Int) = tA σ 87 u) → tA σ' g i = tA σ g i
theorem mk_pop {wy base slot n s u : Nat} {Q : Int → TW → Prop} {I : Int → TW → Prop} (hI : MKL d Q slot wy base I) (h93 : tI σ 93 = (s + 1 : Nat)) (h120 : n + (s + 1) ≤ 120) (hb : base ≤ 3600) {b : Br} (hA : AHk σ s u b) (h01 : b.2.2.2 = 0 ∨ b.2.2.2 = 1) (hux : u < base + n) (hL : tA σ 86 u = -4 ∨ ∃ l : Nat, tA σ 87 u = l ∧ l < base + n) (hgo : ∀ σ', PKd σ σ' (base + n) s u b → wpT d 52 [ai ((base + n : Nat) : Int), ai (wy : Nat)] σ' (zqV (fun u42 => I ((n + 1 : Nat) : Int) u42) zno)) : I (n : Nat) σ := by
  obtain ⟨x, hx⟩ : ∃ x, x = base + n := ⟨_, rfl⟩
  obtain ⟨a1, a2, a3, a4, a5⟩ := hA
  have zo : zb (tA σ 98 s) = b.2.2.2 := by rw [a5]; rcases h01 with q | q <;> rw [q] <;> rfl
  obtain ⟨⟨p1, p2, p3, p4, p5, p6, p7, p8⟩, po⟩ := pkW_at (σ := σ) x s (u : Nat) b
  have pf := pkW_ft (σ := σ) x s (u : Nat) b
  have p93 : tI (pkW σ x s (u : Nat) b) 93 = s := rfl
  have hxu : (u : Int) ≠ x := by omega
  have nxt : ∀ (k : TW), PKd σ (sA k 87 (u : Nat) (x : Nat)) x s u b → pT_makes_248 (wpT d) Q I slot wy base n ((x : Nat) : Int) (u : Nat) k := fun k hk => by
    refine bT_makes_248 (br0 (by omega) ⟨by omega, fa (bT_makes_264 (call := wpT d) (fa ?_))⟩)
    rw [w32_s (by omega) (by omega)]
    rw [← hx] at hgo
    exact hgo _ hk
  refine mk_pop0 hI h93 h120 hb ⟨a1, a2, a3, a4, zo⟩ (Or.inr (by omega)) ?_
  rw [← hx]
  by_cases z : tA σ 86 u = -4
  · have z' : tA (pkW σ x s (u : Nat) b) 86 (u : Nat) = -4 := by rw [po 86 _ hxu]; exact z
    refine br1 ⟨by omega, z'⟩ (nxt _ ⟨((pf.ssA (by decide)).ssA (by decide)), p93, ?_, ?_, ?_, fun l hne => absurd z hne, fun g i h1 h2 h3 h4 => ?_⟩)
    · have k : ∀ g, tA (sA (sA (pkW σ x s (u : Nat) b) 86 (u : Nat) (x : Nat)) 87 (u : Nat) (x : Nat)) g (x : Nat) = tA (pkW σ x s (u : Nat) b) g (x : Nat) := fun g => by
        rw [tA_sA, if_neg (by omega), tA_sA, if_neg (by omega)]
      rw [k, k, k, k, k, k, k, k]
      exact ⟨p1, p2, p3, p4, p5, p6, p7, p8⟩
    · rw [if_pos z, tA_sA, if_neg (by omega), tA_sA, if_pos ⟨rfl, rfl⟩]
    · rw [tA_sA, if_pos ⟨rfl, rfl⟩]
    · rw [tA_sA, if_neg (by omega), tA_sA, if_neg (by omega)]
      exact po g i (by omega)
  · obtain ⟨l, l1, l2⟩ : ∃ l : Nat, tA σ 87 u = l ∧ l < base + n := by
      rcases hL with q | q
      · exact absurd q z
      · exact q
    have z' : ¬ (tA (pkW σ x s (u : Nat) b) 86 (u : Nat) = -4) := by rw [po 86 _ hxu]; exact z
    have l87 : tA (pkW σ x s (u : Nat) b) 87 (u : Nat) = l := by rw [po 87 _ hxu]; exact l1
    refine br0 (fun q => z' q.2) (bT_makes_227 (br0 (by omega) ⟨by omega, by rw [l87]; omega, ?_⟩))
    rw [l87]
    refine fa (nxt _ ⟨((pf.ssA (by decide)).ssA (by decide)), p93, ?_, ?_, ?_, fun l' hne hl' => ?_, fun g i h1 h2 h3 h4 => ?_⟩)
    · have k : ∀ g, tA (sA (sA (pkW σ x s (u : Nat) b) 88 (l : Nat) (x : Nat)) 87 (u : Nat) (x : Nat)) g (x : Nat) = tA (pkW σ x s (u : Nat) b) g (x : Nat) := fun g => by
        rw [tA_sA, if_neg (by omega), tA_sA, if_neg (by omega)]
      rw [k, k, k, k, k, k, k, k]
      exact ⟨p1, p2, p3, p4, p5, p6, p7, p8⟩
    · rw [if_neg z, tA_sA, if_neg (by omega), tA_sA, if_neg (by omega)]
      exact po 86 _ hxu
    · rw [tA_sA, if_pos ⟨rfl, rfl⟩]
    · rw [tA_sA, if_neg (by omega), tA_sA, if_pos ⟨rfl, by omega⟩]
    · rw [tA_sA, if_neg (by omega), tA_sA, if_neg (by omega)]
      exact po g i (by omega)
end ZTree6
