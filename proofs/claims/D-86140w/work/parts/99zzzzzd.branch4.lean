/-! the reference's trees: the branches of a place, whole (2) -/
section ZBranch4
variable {p b e d f : Nat} {w : CW} {τ σ : TW}
def stT (τ : TW) (acc : List Int) (q : Nat) : List Int := adT acc (tA τ 21 q)
def stW (τ : TW) (acc : List Int) (q : Nat) : List Int := ins (ins acc (tA τ 19 q - 1)) (tA τ 20 q)
theorem txs_eq (P : Sp) (rows : List (Nat × Nat)) (π : Pa) : txs τ P rows π = rows.foldl (lfS τ P π (stT τ)) [] := by
  unfold txs
  rfl
theorem bos_eq (P : Sp) (rows : List (Nat × Nat)) (π : Pa) : bos τ P rows π = rows.foldl (lfS τ P π (stW τ)) [] := by
  unfold bos
  rfl
theorem sT_layBranches {P : Sp} {rs : List (Nat × Nat)} {π : Pa} (hC : CX τ f rs) (hE : PE τ σ) (h10 : 0 ≤ tI τ 10) (hR : RLy τ σ rs) (hS : SFS τ σ P rs) (ho : opn τ P π) (hs : 0 ≤ srP τ f π ∧ srP τ f π < 3 + nK τ) {Q : ZRes → TW → Prop} (hQ : ∀ σ', FT SBr σ σ' → BRs σ' (brs τ P (rws τ rs P) π (srP τ f π)) → (brs τ P (rws τ rs P) π (srP τ f π)).length ≤ 90 → Q (.inl none) σ') : wpT (d + 3) 58 [ai (cod π : Nat), ai (srP τ f π)] σ Q := by
  obtain ⟨⟨c1, c2, c3, c4⟩, c5, c6, c7⟩ := id hC
  obtain ⟨s, hs'⟩ : ∃ s, s = srP τ f π := ⟨_, rfl⟩
  rw [← hs'] at hs hQ ⊢
  have tf : ∀ x q, x ∈ rs → (π, q) ∈ tsR τ x.1 x.2 → tA τ 18 q = s ∧ ∃ n, WP τ (n + 1) q := fun x q hx hq => by
    obtain ⟨-, -, -, t4, -⟩ := hC.t hx hq
    obtain ⟨-, -, m, g3, -⟩ := c7 x hx
    exact ⟨t4.trans hs'.symm, (tsR_ext g3 hq).1.2.2.2.2.2⟩
  have foldlen : ∀ (stp : List Int → Nat → List Int) (k : Nat), (∀ acc q, (stp acc q).length ≤ acc.length + k) → ∀ (rows : List (Nat × Nat)) (acc : List Int), (rows.foldl (lfS τ P π stp) acc).length ≤ acc.length + k * rows.length := by
    intro stp k hk rows
    induction rows with
    | nil => intro acc; exact Nat.le_refl _
    | cons x rows ih =>
      intro acc
      have := ih (lfS τ P π stp acc x)
      have h1 : (lfS τ P π stp acc x).length ≤ acc.length + k := by
        unfold lfS
        cases lfq τ P x π with
        | none => exact Nat.le_add_right _ _
        | some q => exact hk acc q
      show (rows.foldl (lfS τ P π stp) (lfS τ P π stp acc x)).length ≤ acc.length + k * (rows.length + 1)
      rw [Nat.mul_add]
      omega
  have rwl : (rws τ rs P).length ≤ 40 := Nat.le_trans (fil_len rs) c5
  refine wT_layBranches (Nat.zero_le _) (bT_layBranches_0 (fa ?_))
  obtain ⟨σ0, hσ0⟩ : ∃ σ0, σ0 = sI σ 99 0 := ⟨_, rfl⟩
  rw [← hσ0]
  have F0 : FT SBr σ σ0 := by rw [hσ0]; exact (FT.refl _ _).ssI (by decide)
  have B0 : BRs σ0 [] := ⟨by rw [hσ0]; rfl, fun j b hj => by simp at hj⟩
  have hE0 : PE τ σ0 := hE.trans (PE.ft F0 (by decide))
  have hR0 : RLy τ σ0 rs := hR.ft F0 (by decide)
  have hS0 : SFS τ σ0 P rs := fun i x hx => (hS i x hx).ft F0 (by decide)
  by_cases s3 : s < 3
  · refine br1 s3 ?_
    by_cases s1 : s = 1
    · have eb : brs τ P (rws τ rs P) π s = [(0, 0, 0, 0), (1, 0, 0, 0)] := by unfold brs; rw [if_neg (by omega), if_pos s1]
      rw [eb] at hQ
      refine br1 s1 (sT_oneBranch (d := d + 1) B0 (by decide) (Or.inl rfl) (fun σ1 F1 B1 => sT_oneBranch (d := d + 1) B1 (by decide) (Or.inl rfl) (fun σ2 F2 B2 => bT_layBranches_235 (call := wpT (d + 2)) (hQ σ2 (F0.trans ((F1.mono (by decide)).trans (F2.mono (by decide)))) B2 (by decide)))))
    · refine br0 s1 ?_
      by_cases s2 : s = 2
      · have eb : brs τ P (rws τ rs P) π s = (txs τ P (rws τ rs P) π).map (fun t => (0, 0, t, 0)) ++ [(0, 0, 0, 1)] := by unfold brs; rw [if_neg (by omega), if_neg s1, if_pos s2]
        have tl : (txs τ P (rws τ rs P) π).length ≤ 40 := by
          rw [txs_eq]
          have := foldlen (stT τ) 1 (fun acc q => by
            unfold stT adT
            split
            · omega
            · rw [List.length_append]; exact Nat.le_refl _) (rws τ rs P) []
          simp at this
          omega
        rw [s2]
        refine lb_go (d := d + 2) (St := fun acc σ => BRs σ (acc.map (fun t => (0, 0, t, 0)))) (stp := stT τ) hC hR0 hS0 ho (fun acc q σ1 F1 hSt hln hq _ K hK => br0 (by decide) ⟨by omega, ?_⟩) (fun acc q => by
            unfold stT adT
            split
            · omega
            · rw [List.length_append]; simp) B0 (fun σ' F' hSt => bT_layBranches_215 (br1 rfl (sT_oneBranch (d := d + 1) hSt (by rw [List.length_map, ← txs_eq]; omega) (Or.inr rfl) (fun σ2 F2 B2 => bT_layBranches_235 (call := wpT (d + 2)) (hQ σ2 (F0.trans (F'.trans (F2.mono (by decide)))) ?_ ?_)))))
        · have e21 : tA σ1 21 q = tA τ 21 q := by rw [(F1 21 (by decide)).2, hE0.a (by decide) (by decide)]
          rw [e21]
          exact sT_wants (d := d) hSt (by omega) (fun σ2 F2 B2 => hK σ2 (F2.mono (by decide)) B2)
        · rw [eb, txs_eq]
          exact B2
        · rw [eb, List.length_append, List.length_map]
          simp
          omega
      · have s0 : s = 0 := by omega
        have eb : brs τ P (rws τ rs P) π s = rgs (-2147483648) (bos τ P (rws τ rs P) π) := by unfold brs; rw [if_neg (by omega), if_neg s1, if_neg s2]
        have bl : (bos τ P (rws τ rs P) π).length ≤ 80 := by
          rw [bos_eq]
          have := foldlen (stW τ) 2 (fun acc q => by
            unfold stW
            have a := ins_len (l := ins acc (tA τ 19 q - 1)) (v := tA τ 20 q)
            have b := ins_len (l := acc) (v := tA τ 19 q - 1)
            omega) (rws τ rs P) []
          simp at this
          omega
        rw [s0]
        refine lb_go (d := d + 2) (St := fun acc σ => CUs σ (acc.map (fun x => x + 1)) ∧ srtd acc ∧ ∀ x, x ∈ acc → -1000000000 ≤ x ∧ x ≤ 999999999) (stp := stW τ) hC hR0 hS0 ho (fun acc q σ1 F1 hSt hln hq hx K hK => ?_) (fun acc q => by
            unfold stW
            have a := ins_len (l := ins acc (tA τ 19 q - 1)) (v := tA τ 20 q)
            have b := ins_len (l := acc) (v := tA τ 19 q - 1)
            omega) ⟨⟨by rw [hσ0]; rfl, fun j c hj => by simp at hj⟩, trivial, fun x hx => by cases hx⟩ (fun σ' F' hSt => bT_layBranches_215 (br0 (by decide) (sT_parts (d := d) hSt.1 (fun x hx => by have := hSt.2.2 x hx; omega) (by rw [← bos_eq]; omega) (fun σ2 F2 B2 => bT_layBranches_235 (call := wpT (d + 2)) (hQ σ2 (F0.trans (F'.trans (F2.mono (by decide)))) ?_ ?_)))))
        · obtain ⟨x, hxm, hxq⟩ := hx
          obtain ⟨q18, n, hWP⟩ := tf x q hxm hxq
          obtain ⟨-, ⟨t1, t1'⟩, -⟩ := hC.t hxm hxq
          simp only at t1 t1'
          have w2 := hWP.2.2.2.2.1
          have w3 := hWP.2.2.2.2.2.1
          have w4 := hWP.2.2.2.2.2.2.1
          have w1 := hWP.2.2.2.1
          have w5 : tA τ 17 q = 5 → 3 ≤ tA τ 18 q := fun h => (hWP.2.2.2.2.2.2.2.1 h).1
          have q17 : tA τ 17 q = 1 := by
            rcases (by omega : tA τ 17 q = 1 ∨ tA τ 17 q = 2 ∨ tA τ 17 q = 3 ∨ tA τ 17 q = 4 ∨ tA τ 17 q = 5) with y | y | y | y | y
            · exact y
            · have := (w2 y).1; omega
            · have := w3 y; omega
            · have := w4 y; omega
            · have := w5 y; omega
          obtain ⟨r1, r2, r3, r4⟩ := w1 q17
          obtain ⟨hc1, hc2, hc3⟩ := hSt
          have e19 : tA σ1 19 q = tA τ 19 q := by rw [(F1 19 (by decide)).2, hE0.a (by decide) (by decide)]
          have e20 : tA σ1 20 q = tA τ 20 q := by rw [(F1 20 (by decide)).2, hE0.a (by decide) (by decide)]
          refine br1 rfl ⟨by omega, ?_⟩
          rw [e19]
          refine sT_cut (d := d + 1) hc1 (srt_map hc2) (by rw [List.length_map]; omega) (by omega) (fun σ2 F2 C2 => ⟨by omega, ?_⟩)
          have i1 : ins (acc.map (fun x => x + 1)) (tA τ 19 q) = (ins acc (tA τ 19 q - 1)).map (fun x => x + 1) := by
            rw [ins_map, show tA τ 19 q - 1 + 1 = tA τ 19 q by omega]
          rw [i1] at C2
          rw [(F2 20 (by decide)).2, e20, w64_id (by unfold zrl; omega)]
          have ln1 := ins_len (l := acc) (v := tA τ 19 q - 1)
          refine sT_cut (d := d + 1) C2 (srt_map (ins_srt hc2)) (by rw [List.length_map]; omega) (by omega) (fun σ3 F3 C3 => hK σ3 ((F2.mono (by decide)).trans (F3.mono (by decide))) ⟨?_, ins_srt (ins_srt hc2), fun y hy => ?_⟩)
          · rw [← ins_map] at C3
            exact C3
          · rcases ins_mem.mp hy with g | g
            · omega
            · rcases ins_mem.mp g with g | g
              · omega
              · exact hc3 y g
        · rw [eb, bos_eq]
          exact B2
        · rw [eb, rgs_len]
          omega
  · have eb : brs τ P (rws τ rs P) π s = (-4, 0, 0, 0) :: (lvs τ (s - 3)).map (fun (k : Nat) => (((k : Nat) : Int), 0, 0, 0)) := by unfold brs; rw [if_pos (by omega)]
    obtain ⟨o, ho2⟩ : ∃ o : Nat, s - 3 = o := ⟨(s - 3).toNat, by omega⟩
    have ll : ∀ k, k ≤ nK τ → (fil (fun k : Nat => slN τ k (nK τ) = 0 ∧ ofT τ k (s - 3)) (List.range k)).length ≤ 24 := fun k hk => by
      have := fil_len (c := fun k : Nat => slN τ k (nK τ) = 0 ∧ ofT τ k (s - 3)) (List.range k)
      rw [List.length_range] at this
      omega
    refine br0 s3 (sT_oneBranch (d := d + 1) B0 (by decide) (Or.inl rfl) (fun σ1 F1 B1 => bT_layBranches_21 ?_))
    intro I hI
    have nk : tI τ 10 = (nK τ : Nat) := by unfold nK; omega
    have key : ∀ n k : Nat, k + n = nK τ → ∀ σ2, FT SBr σ σ2 → BRs σ2 ((-4, 0, 0, 0) :: (fil (fun k : Nat => slN τ k (nK τ) = 0 ∧ ofT τ k (s - 3)) (List.range k)).map (fun (k : Nat) => (((k : Nat) : Int), 0, 0, 0))) → I (k : Nat) σ2 := by
      intro n
      induction n with
      | zero =>
        intro k hk σ2 F2 B2
        have hk : k = nK τ := by omega
        subst hk
        refine hI _ _ (br1 (by rw [(F2 10 (by decide)).1, hE.2.1, nk]; exact Int.le_refl _) (bT_layBranches_62 (bT_layBranches_235 (call := wpT (d + 2)) (hQ σ2 F2 (by rw [eb]; exact B2) ?_))))
        rw [eb, List.length_cons, List.length_map]
        have := ll (nK τ) (Nat.le_refl _)
        show (lvs τ (s - 3)).length + 1 ≤ 90
        unfold lvs
        omega
      | succ n ih =>
        intro k hk σ2 F2 B2
        have hE2 : PE τ σ2 := hE.trans (PE.ft F2 (by decide))
        have t10 : tI σ2 10 = (nK τ : Nat) := by rw [hE2.2.1, nk]
        have lk := ll k (by omega)
        have nxt : ∀ σ3, FT SBr σ σ3 → BRs σ3 ((-4, 0, 0, 0) :: (fil (fun k : Nat => slN τ k (nK τ) = 0 ∧ ofT τ k (s - 3)) (List.range (k + 1))).map (fun (k : Nat) => (((k : Nat) : Int), 0, 0, 0))) → pT_layBranches_56 (wpT (d + 2)) (fun w => Q (.inl none) w) I s (k : Nat) σ3 := fun σ3 F3 B3 => by
          refine bT_layBranches_56 (call := wpT (d + 2)) (fa ?_)
          rw [w32_s (by omega) (by omega)]
          have := ih (k + 1) (by omega) σ3 F3 B3
          exact this
        have ra : List.range (k + 1) = List.range k ++ [k] := List.range_succ
        refine hI _ _ (br0 (by rw [t10]; omega) (sT_isSealed (d := d + 1) (by rw [t10]; omega) (by rw [t10]; omega) ?_))
        rw [e_slN hE2, e_nK hE2]
        by_cases z : slN τ k (nK τ) = 0
        · refine br1 z ?_
          rw [w32_s (by omega) (by omega), ho2]
          refine sT_isOf (d := d + 1) (e_UnT hE2 c1) (by rw [e_nK hE2]; omega) ?_
          have e2 : ofB σ2 k o = ofB τ k o := by unfold ofB; rw [e_ofT hE2]
          rw [e2]
          by_cases y : ofT τ k o
          · rw [ofB_1 y]
            refine br0 (by decide) (sT_oneBranch (d := d + 1) B2 (by rw [List.length_cons, List.length_map]; omega) (Or.inl rfl) (fun σ3 F3 B3 => nxt σ3 (F2.trans (F3.mono (by decide))) ?_))
            rw [ra, fil_append, fil_cons_1 ⟨z, by rw [ho2]; exact y⟩, List.map_append]
            exact B3
          · rw [ofB_0 y]
            refine br1 rfl (nxt σ2 F2 ?_)
            rw [ra, fil_append, fil_cons_0 (fun h => y (by rw [← ho2]; exact h.2)), List.map_append]
            simpa [fil] using B2
        · refine br0 z (nxt σ2 F2 ?_)
          rw [ra, fil_append, fil_cons_0 (fun h => z h.1), List.map_append]
          simpa [fil] using B2
    have := key (nK τ) 0 (by omega) σ1 (F0.trans (F1.mono (by decide))) (by simpa [fil] using B1)
    exact this
end ZBranch4
