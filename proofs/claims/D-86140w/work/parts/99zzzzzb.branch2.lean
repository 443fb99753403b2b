/-! the reference's trees: the branches of a place -/
section ZBranch2
variable {p b e d f : Nat} {w : CW} {τ σ : TW}
theorem rgs_len : ∀ (l : List Int) (lo : Int), (rgs lo l).length = l.length + 1 := by
  intro l
  induction l with
  | nil => intro lo; rfl
  | cons y l ih => intro lo; show (rgs (y + 1) l).length + 1 = _; rw [ih]; rfl
theorem sT_parts {L : List Int} (h : CUs σ (L.map (fun x => x + 1))) (hr : ∀ x, x ∈ L → -2147483648 ≤ x ∧ x < 2147483647) (hl : L.length ≤ 90) {Q : ZRes → TW → Prop} (hQ : ∀ σ', FT [99, 100, 101, 102, 103] σ σ' → BRs σ' (rgs (-2147483648) L) → Q (.inl none) σ') : wpT (d + 2) 62 [] σ Q := by
  obtain ⟨h1, h2⟩ := h
  rw [List.length_map] at h1
  refine wT_parts (Nat.zero_le _) (bT_parts_0 (fa (fa (bT_parts_17 ?_))))
  rw [h1]
  intro I hI
  have key : ∀ (M : List Int) (k : Nat) (lo : Int) (D : List Br) (σ1 : TW), L.drop k = M → k + M.length = L.length → D.length = k → -2147483648 ≤ lo ∧ lo ≤ 2147483647 → FT [99, 100, 101, 102, 103] σ σ1 → BRs σ1 D → rgs (-2147483648) L = D ++ rgs lo M → I lo (k : Nat) σ1 := by
    intro M
    induction M with
    | nil =>
      intro k lo D σ1 hd hk hD hlo F hB he
      have hk : k = L.length := hk
      refine hI _ _ _ (br0 (by omega) ⟨fun q => absurd (by omega) q, ?_⟩)
      rw [if_neg (by omega)]
      refine fa ?_
      rw [w64_id (by unfold zrl; omega), w32_s (a := (2147483648 : Int) - 1) (by decide) (by decide), w32_s hlo.1 hlo.2]
      refine sT_oneBranch (d := d) hB (by omega) (Or.inl rfl) (fun σ2 F2 B2 => fa ?_)
      rw [w32_s (by omega) (by omega)]
      refine hI _ _ _ (br1 (by omega) (bT_parts_66 (call := wpT (d + 1)) (hQ σ2 (F.trans F2) ?_)))
      rw [he]
      exact B2
    | cons y M ih =>
      intro k lo D σ1 hd hk hD hlo F hB he
      have hk : k + (M.length + 1) = L.length := hk
      have hkl : k < L.length := by omega
      have hy : L[k]? = some y := by
        have := List.drop_eq_getElem_cons hkl
        rw [hd] at this
        injection this with q1 q2
        rw [List.getElem?_eq_getElem hkl, ← q1]
      have hym := hr y (List.mem_of_getElem? hy)
      have e104 : tA σ1 104 (k : Nat) = y + 1 := by
        rw [(F 104 (by decide)).2]
        exact h2 k (y + 1) (by rw [List.getElem?_map, hy]; rfl)
      refine hI _ _ _ (br0 (by omega) ⟨fun _ => by omega, ?_⟩)
      rw [if_pos (by omega), e104]
      refine fa ?_
      rw [show y + 1 - 1 = y by omega, w64_id (by unfold zrl; omega), w32_s (a := y) (by omega) (by omega), w32_s hlo.1 hlo.2]
      refine sT_oneBranch (d := d) hB (by omega) (Or.inl rfl) (fun σ2 F2 B2 => fa ?_)
      rw [w32_s (by omega) (by omega)]
      have hd2 : L.drop (k + 1) = M := by
        have := List.drop_eq_getElem_cons hkl
        rw [hd] at this
        injection this with q1 q2
        exact q2.symm
      have := ih (k + 1) (y + 1) (D ++ [(lo, y, 0, 0)]) σ2 hd2 (by omega) (by rw [List.length_append, hD]; rfl) (by omega) (F.trans F2) B2 (by
        rw [he]
        show D ++ ((lo, y, 0, 0) :: rgs (y + 1) M) = _
        simp)
      exact this
  refine key L 0 (-2147483648) [] _ (List.drop_zero) (by omega) rfl (by decide) ((FT.refl _ _).ssI (by decide)) ⟨rfl, fun j b hj => by simp at hj⟩ rfl
theorem e_slN (h : PE τ σ) (k : Int) : ∀ n, slN σ k n = slN τ k n := by
  intro n
  induction n with
  | zero => rfl
  | succ n ih => unfold slN; rw [ih, h.a (by decide) (by decide)]
theorem fil_len {α : Type} {c : α → Prop} (l : List α) : (fil c l).length ≤ l.length := List.length_filter_le ..
/-- a row's test that is left at a place: the one, or none -/
theorem lfq_cs (hU : UnT τ) (hL : LfP τ) {P : Sp} {R m way : Nat} (h : RP τ R m) (hlv : liv τ P (R, way)) {π : Pa} (ho : opn τ P π) : (lfq τ P (R, way) π = none ∧ ∀ e, e ∈ tsR τ R way → stn τ P e = 0 → cod e.1 ≠ cod π) ∨ ∃ q l1 l2, lfq τ P (R, way) π = some q ∧ tsR τ R way = l1 ++ (π, q) :: l2 ∧ stn τ P (π, q) = 0 ∧ ∀ e, e ∈ l1 ∨ e ∈ l2 → stn τ P e = 0 → cod e.1 ≠ cod π := by
  have key : ∀ e, e ∈ tsR τ R way → stn τ P e = 0 → cod e.1 = cod π → e.1 = π := fun e he _ hc => by
    have ok := (tsR_ext h he).1.1
    exact (row_at hU hL h hlv.2 π e he ho (cod_ix (opn_ok ho) ok hc.symm)).symm
  cases hf : fil (fun e => e.1 = π ∧ stn τ P e = 0) (tsR τ R way) with
  | nil =>
    refine Or.inl ⟨by unfold lfq; simp only; rw [hf]; rfl, fun e he h0 hc => ?_⟩
    have : e ∈ fil (fun e => e.1 = π ∧ stn τ P e = 0) (tsR τ R way) := mem_fil.mpr ⟨he, key e he h0 hc, h0⟩
    rw [hf] at this
    cases this
  | cons e0 rest =>
    have hm : e0 ∈ fil (fun e => e.1 = π ∧ stn τ P e = 0) (tsR τ R way) := by rw [hf]; exact List.mem_cons_self ..
    obtain ⟨m1, m2, m3⟩ := mem_fil.mp hm
    obtain ⟨l1, l2, hl⟩ := List.append_of_mem m1
    have e0eq : e0 = (π, e0.2) := by rw [← m2]
    refine Or.inr ⟨e0.2, l1, l2, by unfold lfq; simp only; rw [hf]; rfl, by rw [← e0eq]; exact hl, by rw [← e0eq]; exact m3, fun e he h0 hc => ?_⟩
    have he2 : e ∈ tsR τ R way := by
      rw [hl]
      rcases he with q | q
      · exact List.mem_append_left _ q
      · exact List.mem_append_right _ (List.mem_cons_of_mem _ q)
    have eq := tsR_one h he2 m1 (by rw [key e he2 h0 hc, m2])
    have nd := tsR_nodup (τ := τ) R way
    rw [hl, List.nodup_append] at nd
    rcases he with q | q
    · exact nd.2.2 e q e0 (List.mem_cons_self ..) eq
    · have := (List.nodup_cons.mp nd.2.1).1
      rw [← eq] at this
      exact this q
end ZBranch2
