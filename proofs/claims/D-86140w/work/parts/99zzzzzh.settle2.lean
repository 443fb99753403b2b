/-! the reference's trees: what a node is (2) -/
section ZSettle2
variable {p b e d f : Nat} {w : CW} {τ σ : TW} {rs : List (Nat × Nat)}
abbrev SSe : List Nat := [69, 70, 80, 81, 82, 83, 84, 93, 94, 95, 96, 97, 98, 99, 100, 101, 102, 103, 104, 105, 106, 107, 108]
theorem sT_settle {P : Sp} {x s wy : Nat} (hC : CX τ f rs) (hE : PE τ σ) (h53 : ∀ i, tA σ 53 i = tA τ 53 i) (h10 : 0 ≤ tI τ 10) (hsp : SPRs τ f rs) (hP : PSd τ f P) (hR : RLy τ σ rs) (hK : KC σ P x) (hPl : P.length ≤ 200) (hs : tI σ 93 = s) (hs2 : s ≤ 250) (hwy : wy ≤ 3) {Q : ZRes → TW → Prop}
    (hQ : ∀ σ', FT SSe σ σ' → NDR τ σ' rs wy P x → tI σ' 93 = (s + (chd τ rs wy P).length : Nat) → AHs σ' s x ((chd τ rs wy P).map (fun y => y.1)) → (∀ g (i : Nat), 80 ≤ g → g ≤ 84 → i ≠ x → tA σ' g i = tA σ g i) → (∀ g (i : Nat), 94 ≤ g → g ≤ 98 → i < s → tA σ' g i = tA σ g i) → (chd τ rs wy P).length ≤ 90 → Q (.inl none) σ') : wpT (d + 5) 52 [ai x, ai wy] σ Q := by
  have hx := hK.lt
  have xr : 0 ≤ (x : Int) ∧ (x : Int) < 3900 := by omega
  obtain ⟨⟨c1, c2, c3, c4⟩, c5, c6, c7⟩ := id hC
  refine wT_settle (Nat.zero_le _) (bT_settle_0 (sT_layKnown (d := d + 3) hK hPl (fun σ1 F1 k1 => ?_)))
  have hE1 : PE τ σ1 := hE.trans (PE.ft F1 (by decide))
  have hR1 : RLy τ σ1 rs := hR.ft F1 (by decide)
  refine sT_sift (d := d) hC hE1 hR1 hP k1 (fun σ2 v F2 hS2 hv => ?_)
  have hE2 : PE τ σ2 := hE1.trans (PE.ft F2 (by decide))
  have hR2 : RLy τ σ2 rs := hR1.ft F2 (by decide)
  refine ⟨xr, fa ⟨xr, fa ⟨xr, fa ?_⟩⟩⟩
  obtain ⟨σ3, hσ3⟩ : ∃ σ3, σ3 = sA (sA (sA σ2 83 x (-4)) 81 x (-4)) 84 x 0 := ⟨_, rfl⟩
  rw [← hσ3]
  have F3 : FT [81, 83, 84] σ2 σ3 := by rw [hσ3]; exact (((FT.refl _ _).ssA (by decide)).ssA (by decide)).ssA (by decide)
  have n3 : tA σ3 81 x = -4 ∧ tA σ3 83 x = -4 ∧ tA σ3 84 x = 0 := by rw [hσ3]; refine ⟨?_, ?_, ?_⟩ <;> simp [tA_sA]
  have o3 : ∀ g (i : Nat), i ≠ x → tA σ3 g i = tA σ2 g i := fun g i hi => by
    rw [hσ3, tA_sA, if_neg (by omega), tA_sA, if_neg (by omega), tA_sA, if_neg (by omega)]
  have hE3 : PE τ σ3 := hE2.trans (PE.ft F3 (by decide))
  have hR3 : RLy τ σ3 rs := hR2.ft F3 (by decide)
  have hS3 : SFS τ σ3 P rs := fun i x hx => (hS2 i x hx).ft F3 (by decide)
  have F13 : FT SSe σ σ3 := (F1.mono (by decide)).trans ((F2.mono (by decide)).trans (F3.mono (by decide)))
  have o13 : ∀ g (i : Nat), 80 ≤ g → g ≤ 84 → i ≠ x → tA σ3 g i = tA σ g i := fun g i h1 h2 hi => by
    rw [o3 g i hi, (F2 g (by simp; omega)).2, (F1 g (by simp; omega)).2]
  have l13 : ∀ g i, 93 ≤ g → g ≤ 98 → tI σ3 g = tI σ g ∧ tA σ3 g i = tA σ g i := fun g i h1 h2 => by
    rw [(F3 g (by simp; omega)).1, (F3 g (by simp; omega)).2, (F2 g (by simp; omega)).1, (F2 g (by simp; omega)).2, (F1 g (by simp; omega)).1, (F1 g (by simp; omega)).2]
    exact ⟨rfl, rfl⟩
  rcases frl_nd hv with ⟨v1, hnd⟩ | ⟨i, r, v1, hri, hlv, hnd⟩
  · have hch : chd τ rs wy P = [] := by unfold chd; rw [hnd]
    rw [hch] at hQ
    refine br1 v1 ⟨xr, fa (hQ _ (F13.ssA (by decide)) ?_ ?_ (fun i b hb => by simp at hb) (fun g i h1 h2 hi => ?_) (fun g i h1 h2 hi => ?_) (by decide))⟩
    · unfold NDR
      rw [hch, hnd]
      refine ⟨?_, ?_, ?_, ?_⟩
      · rw [tA_sA, if_neg (by omega)]; exact n3.2.2
      · rw [tA_sA, if_pos ⟨rfl, rfl⟩]
      · rw [tA_sA, if_neg (by omega)]; exact n3.1
      · rw [tA_sA, if_neg (by omega)]; exact n3.2.1
    · show tI σ3 93 = _
      rw [(l13 93 0 (by decide) (by decide)).1, hs]; rfl
    · rw [tA_sA, if_neg (by omega)]
      exact o13 g i h1 h2 hi
    · rw [tA_sA, if_neg (by omega)]
      exact (l13 g i (by omega) h2).2
  · have hil := (List.getElem?_eq_some_iff.mp hri).1
    have hrm : r ∈ rs := List.mem_of_getElem? hri
    obtain ⟨r192, r40, m, hRP, hSo⟩ := c7 r hrm
    have offb := off_mono (τ := τ) rs hri
    refine br0 (by omega) ?_
    rw [v1]
    refine sT_asksAt (d := d) hC hE3 h10 hsp hP hR3 hS3 hri hlv hwy (fun σ4 v12 F4 hA => ?_)
    have hE4 : PE τ σ4 := hE3.trans (PE.ft F4 (by decide))
    have hR4 : RLy τ σ4 rs := hR3.ft F4 (by decide)
    have F14 : FT SSe σ σ4 := F13.trans (F4.mono (by decide))
    have n4 : tA σ4 81 x = -4 ∧ tA σ4 83 x = -4 ∧ tA σ4 84 x = 0 := by
      rw [(F4 81 (by decide)).2, (F4 83 (by decide)).2, (F4 84 (by decide)).2]; exact n3
    have o14 : ∀ g (i : Nat), 80 ≤ g → g ≤ 84 → i ≠ x → tA σ4 g i = tA σ g i := fun g i h1 h2 hi => by
      rw [(F4 g (by simp; omega)).2]; exact o13 g i h1 h2 hi
    have l14 : ∀ g i, 93 ≤ g → g ≤ 98 → tI σ4 g = tI σ g ∧ tA σ4 g i = tA σ g i := fun g i h1 h2 => by
      rw [(F4 g (by simp; omega)).1, (F4 g (by simp; omega)).2]; exact l13 g i h1 h2
    obtain ⟨z1, z2, z3, z4⟩ := hR4.2.2.2 i r hri
    rcases hA with ⟨a1, a2⟩ | ⟨j, ee, a1, a2, a3, a4⟩
    · have e53 : tA σ4 53 (r.1 : Nat) = tA τ 53 (r.1 : Nat) := by rw [(F14 53 (by decide)).2]; exact h53 _
      have hch : chd τ rs wy P = if tA τ 53 (r.1 : Nat) = 0 then [] else [((0, 0, 0, 0), .inl r.1 :: P)] := by
        unfold chd
        rw [hnd]
        simp only [a2]
      refine br1 a1 ⟨by omega, xr, ?_⟩
      rw [z1]
      refine fa ⟨by omega, xr, ?_⟩
      have t63 : tA (sA σ4 81 x (r.1 : Nat)) 63 (i : Nat) = (r.2 : Nat) := z2
      rw [t63]
      refine fa ⟨by omega, ?_⟩
      have t62 : tA (sA (sA σ4 81 x (r.1 : Nat)) 82 x (r.2 : Nat)) 62 (i : Nat) = (r.1 : Nat) := z1
      have t53 : tA (sA (sA σ4 81 x (r.1 : Nat)) 82 x (r.2 : Nat)) 53 (r.1 : Nat) = tA τ 53 (r.1 : Nat) := e53
      rw [t62, t53]
      refine ⟨by omega, ?_⟩
      by_cases g0 : tA τ 53 (r.1 : Nat) = 0
      · rw [if_neg (fun q => q g0)]
        refine fa ?_
        rw [if_pos rfl]
        refine fa ⟨xr, fa ?_⟩
        rw [if_neg (fun q => q rfl)]
        refine fa ⟨xr, fa (br1 rfl (bT_settle_162 (call := wpT (d + 4)) ?_))⟩
        rw [if_pos g0] at hch
        rw [hch] at hQ
        refine hQ _ ((((F14.ssA (by decide)).ssA (by decide)).ssA (by decide)).ssA (by decide)) ?_ ?_ (fun i b hb => by simp at hb) (fun g i h1 h2 hi => ?_) (fun g i h1 h2 hi => ?_) (by decide)
        · unfold NDR
          rw [hch, hnd]
          simp only [a2]
          refine ⟨?_, ?_, ?_, ?_, ?_⟩
          · rw [tA_sA, if_pos ⟨rfl, rfl⟩]; rfl
          · rw [if_pos g0]; simp [tA_sA]
          · simp [tA_sA]
          · simp [tA_sA]
          · simp [tA_sA]; exact n4.2.1
        · show tI σ4 93 = _
          rw [(l14 93 0 (by decide) (by decide)).1, hs]; rfl
        · rw [tA_sA, if_neg (by omega), tA_sA, if_neg (by omega), tA_sA, if_neg (by omega), tA_sA, if_neg (by omega)]
          exact o14 g i h1 h2 hi
        · rw [tA_sA, if_neg (by omega), tA_sA, if_neg (by omega), tA_sA, if_neg (by omega), tA_sA, if_neg (by omega)]
          exact (l14 g i (by omega) h2).2
      · rw [if_pos g0]
        refine fa ?_
        rw [if_neg (by decide)]
        refine fa ⟨xr, fa ?_⟩
        rw [if_pos (by decide)]
        refine fa ⟨xr, fa (br0 (by decide) (fa ?_))⟩
        rw [if_neg g0] at hch
        obtain ⟨σ5, hσ5⟩ : ∃ σ5, σ5 = sI (sA (sA (sA (sA σ4 81 x (r.1 : Nat)) 82 x (r.2 : Nat)) 80 x 2) 84 x 1) 99 0 := ⟨_, rfl⟩
        rw [← hσ5]
        have F5 : FT [80, 81, 82, 84, 99] σ4 σ5 := by rw [hσ5]; exact (((((FT.refl _ _).ssA (by decide)).ssA (by decide)).ssA (by decide)).ssA (by decide)).ssI (by decide)
        have n5 : tA σ5 81 x = (r.1 : Nat) ∧ tA σ5 82 x = (r.2 : Nat) ∧ tA σ5 80 x = 2 ∧ tA σ5 84 x = 1 := by
          rw [hσ5]
          refine ⟨?_, ?_, ?_, ?_⟩ <;> simp [tA_sA, tA_sI]
        have o5 : ∀ g (i : Nat), i ≠ x → tA σ5 g i = tA σ4 g i := fun g i hi => by
          rw [hσ5, tA_sI, tA_sA, if_neg (by omega), tA_sA, if_neg (by omega), tA_sA, if_neg (by omega), tA_sA, if_neg (by omega)]
        refine sT_oneBranch (d := d + 3) (L := []) ⟨by rw [hσ5]; rfl, fun j b hj => by simp at hj⟩ (by decide) (Or.inl rfl) (fun σ6 F6 B6 => ?_)
        refine sT_layAhead (d := d + 3) (s := s) B6 (fun b hb => Or.inl (by rw [List.mem_singleton.mp hb])) (by rw [(F6 93 (by decide)).1, (F5 93 (by decide)).1, (l14 93 0 (by decide) (by decide)).1, hs]) (by decide) (by simp; omega) (fun σ7 F7 n7 A7 lo7 => bT_settle_162 (call := wpT (d + 4)) ?_)
        rw [hch] at hQ
        have k7 : ∀ g (i : Nat), 80 ≤ g → g ≤ 84 → tA σ7 g i = tA σ5 g i := fun g i h1 h2 => by
          rw [(F7 g (by simp; omega)).2, (F6 g (by simp; omega)).2]
        refine hQ σ7 (F14.trans ((F5.mono (by decide)).trans ((F6.mono (by decide)).trans (F7.mono (by decide))))) ?_ n7 A7 (fun g i h1 h2 hi => ?_) (fun g i h1 h2 hi => ?_) (by simp)
        · unfold NDR
          rw [hch, hnd]
          simp only [a2]
          rw [k7 84 x (by decide) (by decide), k7 80 x (by decide) (by decide), k7 81 x (by decide) (by decide), k7 82 x (by decide) (by decide), k7 83 x (by decide) (by decide)]
          refine ⟨n5.2.2.2, by rw [if_neg g0]; exact n5.2.2.1, n5.1, n5.2.1, ?_⟩
          rw [(F5 83 (by decide)).2]
          exact n4.2.1
        · rw [k7 g i h1 h2, o5 g i hi]
          exact o14 g i h1 h2 hi
        · rw [lo7 g i hi, (F6 g (by simp; omega)).2, (F5 g (by simp; omega)).2]
          exact (l14 g i (by omega) h2).2
    · have hem : ee ∈ tsR τ r.1 r.2 := List.mem_of_getElem? a2
      have hjl := (List.getElem?_eq_some_iff.mp a2).1
      obtain ⟨u1, ⟨u2, u2'⟩, u3, u4, u5, u6, u7⟩ := hC.t hrm hem
      obtain ⟨t1, t2, t3⟩ := z4 j ee a2
      have hch : chd τ rs wy P = (brs τ P (rws τ rs P) ee.1 (tA τ 18 ee.2)).map (fun b => (b, .inr (ee.1, b) :: P)) := by
        unfold chd
        rw [hnd]
        simp only [a4]
      have hmap : (chd τ rs wy P).map (fun y => y.1) = brs τ P (rws τ rs P) ee.1 (tA τ 18 ee.2) := by
        rw [hch, List.map_map]
        show (brs τ P (rws τ rs P) ee.1 (tA τ 18 ee.2)).map (fun b => b) = _
        rw [List.map_id']
      have hlen : (chd τ rs wy P).length = (brs τ P (rws τ rs P) ee.1 (tA τ 18 ee.2)).length := by rw [hch, List.length_map]
      have ha := mem_fil.mp a3
      have ho : opn τ P ee.1 := ask_opn c3 c1 c2 hP hRP hSo hlv.2 ee.1 ee hem rfl ha.2.2
      refine br0 (by omega) ⟨by omega, by rw [a1, t3]; omega, ?_⟩
      rw [a1, t3, hE4.a (by decide) (by decide), u4]
      refine fa (fa ⟨xr, fa ⟨by omega, xr, ?_⟩⟩)
      have t67 : ∀ v, tA (sA σ4 80 x v) 67 ((off τ rs i + j : Nat) : Int) = (cod ee.1 : Nat) := fun v => t2
      rw [t67]
      refine fa ⟨by omega, ?_⟩
      obtain ⟨σ5, hσ5⟩ : ∃ σ5, σ5 = sA (sA σ4 80 x (knd (srP τ f ee.1))) 83 x (cod ee.1 : Nat) := ⟨_, rfl⟩
      have ek : (if srP τ f ee.1 < 3 then (if srP τ f ee.1 = 1 then (4 : Int) else (if srP τ f ee.1 = 2 then 5 else 6)) else 3) = knd (srP τ f ee.1) := rfl
      rw [ek, ← hσ5]
      have F5 : FT [80, 83] σ4 σ5 := by rw [hσ5]; exact ((FT.refl _ _).ssA (by decide)).ssA (by decide)
      have hE5 : PE τ σ5 := hE4.trans (PE.ft F5 (by decide))
      have hR5 : RLy τ σ5 rs := hR4.ft F5 (by decide)
      have hS5 : SFS τ σ5 P rs := fun i x hx => ((hS3 i x hx).ft F4 (by decide)).ft F5 (by decide)
      have n5 : tA σ5 80 x = knd (srP τ f ee.1) ∧ tA σ5 83 x = (cod ee.1 : Nat) := by
        rw [hσ5]
        refine ⟨?_, ?_⟩ <;> simp [tA_sA]
      have o5 : ∀ g (i : Nat), i ≠ x → tA σ5 g i = tA σ4 g i := fun g i hi => by
        rw [hσ5, tA_sA, if_neg (by omega), tA_sA, if_neg (by omega)]
      have t675 : tA σ5 67 ((off τ rs i + j : Nat) : Int) = (cod ee.1 : Nat) := by rw [(F5 67 (by decide)).2]; exact t2
      rw [t675]
      refine sT_layBranches (d := d + 1) hC hE5 h10 hR5 hS5 ho (hsp _ hrm _ hem) (fun σ6 F6 B6 ln6 => ⟨xr, ?_⟩)
      rw [← u4] at B6 ln6
      rw [B6.1]
      refine fa ?_
      obtain ⟨σ7, hσ7⟩ : ∃ σ7, σ7 = sA σ6 84 x ((brs τ P (rws τ rs P) ee.1 (tA τ 18 ee.2)).length : Nat) := ⟨_, rfl⟩
      rw [← hσ7]
      have F7 : FT [84] σ6 σ7 := by rw [hσ7]; exact (FT.refl _ _).ssA (by decide)
      have B7 : BRs σ7 (brs τ P (rws τ rs P) ee.1 (tA τ 18 ee.2)) := ⟨by rw [(F7 99 (by decide)).1]; exact B6.1, fun j b hj => by
        rw [(F7 100 (by decide)).2, (F7 101 (by decide)).2, (F7 102 (by decide)).2, (F7 103 (by decide)).2]
        exact B6.2 j b hj⟩
      refine sT_layAhead (d := d + 3) (s := s) B7 brs_o (by rw [(F7 93 (by decide)).1, (F6 93 (by decide)).1, (F5 93 (by decide)).1, (l14 93 0 (by decide) (by decide)).1, hs]) (by omega) (by omega) (fun σ8 F8 n8 A8 lo8 => ?_)
      have k8 : ∀ g (i : Nat), 80 ≤ g → g ≤ 84 → tA σ8 g i = tA σ7 g i := fun g i h1 h2 => (F8 g (by simp; omega)).2 i
      have k6 : ∀ g (i : Nat), 80 ≤ g → g ≤ 84 → tA σ6 g i = tA σ5 g i := fun g i h1 h2 => (F6 g (by simp; omega)).2 i
      refine hQ σ8 (F14.trans ((F5.mono (by decide)).trans ((F6.mono (by decide)).trans ((F7.mono (by decide)).trans (F8.mono (by decide)))))) ?_ (by rw [n8, hlen]) (by rw [hmap]; exact A8) (fun g i h1 h2 hi => ?_) (fun g i h1 h2 hi => ?_) (by rw [hlen]; exact ln6)
      · unfold NDR
        rw [hlen, hnd]
        simp only [a4]
        rw [k8 84 x (by decide) (by decide), k8 80 x (by decide) (by decide), k8 81 x (by decide) (by decide), k8 83 x (by decide) (by decide)]
        refine ⟨by rw [hσ7, tA_sA, if_pos ⟨rfl, rfl⟩], ?_, ?_, ?_⟩
        · rw [(F7 80 (by decide)).2, k6 80 x (by decide) (by decide), u4]; exact n5.1
        · rw [(F7 81 (by decide)).2, k6 81 x (by decide) (by decide), (F5 81 (by decide)).2]; exact n4.1
        · rw [(F7 83 (by decide)).2, k6 83 x (by decide) (by decide)]; exact n5.2
      · rw [k8 g i h1 h2, hσ7, tA_sA, if_neg (by omega), k6 g i h1 h2, o5 g i hi]
        exact o14 g i h1 h2 hi
      · rw [lo8 g i hi, (F7 g (by simp; omega)).2, (F6 g (by simp; omega)).2, (F5 g (by simp; omega)).2]
        exact (l14 g i (by omega) h2).2
end ZSettle2
