/-! does a tree have a node of a rule, or of none: the component -/
section ZHas
variable {p b e d f F n lo wy base lt : Nat} {w wS : CW} {τ σ ρ τ0 : TW} {rs : List (Nat × Nat)} {ps : List Pa} {ro : Nat × Nat → Nat} {ru : Nat → Nat}
/-- a node is of the rule R; 0: of none, unfitted -/
def hit (τ : TW) (rs : List (Nat × Nat)) (wy : Nat) (ru : Nat → Nat) (R : Nat) (P : Sp) : Prop := (R = 0 ∧ ndE τ rs P = none) ∨ (R ≠ 0 ∧ ∃ y, ndE τ rs P = some y ∧ chs τ wy P (rws τ rs P) (ask τ P y) = none ∧ ru y.1 = R)
theorem chd_no {P : Sp} (h : ndE τ rs P = none) : chd τ rs wy P = [] := by unfold chd; rw [h]
theorem chd_ne {P : Sp} {y : Nat × Nat} {e : Pa × Nat} (h : ndE τ rs P = some y) (hc : chs τ wy P (rws τ rs P) (ask τ P y) = some e) : chd τ rs wy P ≠ [] := by
  unfold chd
  rw [h]
  simp only
  rw [hc]
  simp only
  intro q
  have q := List.map_eq_nil_iff.mp q
  unfold brs at q
  split at q
  · cases q
  · split at q
    · cases q
    · split at q
      · simp at q
      · cases hb : bos τ P (rws τ rs P) e.1 with
        | nil => rw [hb] at q; cases q
        | cons a l => rw [hb] at q; cases q
/-- what a node says of its rule -/
theorem nd_rule {P : Sp} {r : Nat} (hC : CX τ f rs) (hS : SPRs τ f rs) (h : NDC p wS w τ f F ps rs ro wy lt P r) (hro : ∀ y, y ∈ rs → tg w (ro y) = 14 ∧ fR w 80 (ro y) = ru y.1 ∧ ru y.1 ≠ 0) : (tg w r = 20 ∨ tg w r = 21 → tg w (fR w 108 r) = 14) ∧ ((tg w r = 19 ∧ ndE τ rs P = none) ∨ (∃ y, ndE τ rs P = some y ∧ chs τ wy P (rws τ rs P) (ask τ P y) = none ∧ (tg w r = 20 ∨ tg w r = 21) ∧ fR w 80 (fR w 108 r) = ru y.1 ∧ ru y.1 ≠ 0) ∨ (∃ y e, ndE τ rs P = some y ∧ chs τ wy P (rws τ rs P) (ask τ P y) = some e ∧ 22 ≤ tg w r)) := by
  cases hn : ndE τ rs P with
  | none =>
    have := h.1 hn
    exact ⟨fun q => by omega, Or.inl ⟨this, rfl⟩⟩
  | some y =>
    have hy := (ndE_in hn).1
    obtain ⟨o1, o2, o3⟩ := hro y hy
    cases hc : chs τ wy P (rws τ rs P) (ask τ P y) with
    | none =>
      obtain ⟨t1, t2⟩ := (h.2 y hn).1 hc
      refine ⟨fun _ => by rw [t2]; exact o1, Or.inr (Or.inl ⟨y, rfl, hc, ?_, by rw [t2]; exact o2, o3⟩)⟩
      by_cases z : tA τ 53 (y.1 : Nat) = 0
      · rw [if_pos z] at t1; exact Or.inl t1
      · rw [if_neg z] at t1; exact Or.inr t1
    | some e =>
      obtain ⟨t1, t2, t3, t4, t5⟩ := (h.2 y hn).2 e hc
      have he : e ∈ tsR τ y.1 y.2 := (mem_fil.mp (chs_in hc)).1
      have s0 := (hS y hy e he).1
      have : 22 ≤ tg w r := by
        by_cases z3 : 3 ≤ srP τ f e.1
        · have := (t2 z3).1; omega
        · by_cases z1 : srP τ f e.1 = 1
          · have := t3 z1; omega
          · by_cases z2 : srP τ f e.1 = 2
            · have := (t4 z2).1; omega
            · have := (t5 (by omega)).1; omega
      exact ⟨fun q => by omega, Or.inr (Or.inr ⟨y, e, rfl, hc, this⟩)⟩
theorem sC_has {R : Nat} (hC : CX τ f rs) (hS : SPRs τ f rs) (hro : ∀ y, y ∈ rs → tg w (ro y) = 14 ∧ fR w 80 (ro y) = ru y.1 ∧ ru y.1 ≠ 0) : ∀ (m : Nat) (P : Sp) (n r : Nat), CTn p wS w τ f F ps rs ro wy lt m P n r → 1 ≤ m → tsz τ rs wy m P ≤ 1000 → ∀ Q : ZRes → CW → Prop, ((∃ y, y ∈ nds τ rs wy m P ∧ hit τ rs wy ru R y.2) → Q (.inl (some (ai 1))) w) → ((∀ y, y ∈ nds τ rs wy m P → ¬ hit τ rs wy ru R y.2) → Q (.inl (some (ai 0))) w) → wpC p (d + m + 1) 159 [ar r, ar R] w Q := by
  intro m
  induction m with
  | zero => intro P n r _ h; omega
  | succ m ih =>
    intro P n r h _ hz Q h1 h0
    have hkid := fun i y => h.kid (i := i) (y := y)
    obtain ⟨⟨g1, g2, g2'⟩, ⟨k1, k2, k3⟩, g3, g4, g5⟩ := id h
    have es : tsz τ rs wy (m + 1) P = 1 + ((chd τ rs wy P).map (fun x => tsz τ rs wy m x.2)).sum := rfl
    have mem : ∀ y : Nat × Sp, y ∈ nds τ rs wy (m + 1) P ↔ y = (m + 1, P) ∨ ∃ x, x ∈ chd τ rs wy P ∧ y ∈ nds τ rs wy m x.2 := fun y => by
      show y ∈ (m + 1, P) :: ((chd τ rs wy P).map (fun y => nds τ rs wy m y.2)).flatten ↔ _
      rw [List.mem_cons, List.mem_flatten]
      refine or_congr_right ⟨fun ⟨l, hl, hy⟩ => ?_, fun ⟨x, hx, hy⟩ => ⟨_, List.mem_map.mpr ⟨x, hx, rfl⟩, hy⟩⟩
      obtain ⟨x, hx, rfl⟩ := List.mem_map.mp hl
      exact ⟨x, hx, hy⟩
    obtain ⟨hr1, hr2⟩ := nd_rule (ru := ru) hC hS g4 hro
    have arr : 101 ≤ tg w (fR w 107 r) ∧ tg w (fR w 107 r) ≤ 119 ∧ (tg w (fR w 107 r) < 107 ∨ 111 ≤ tg w (fR w 107 r)) := by rw [k1]; decide
    -- it is hit
    have yes : hit τ rs wy ru R P → pC_X21_has_28 p (wpC p (d + (m + 1))) (fun v w => Q (.inl (some (ai v))) w) r R w := fun hh => bC_X21_has_28 (bC_X21_has_33 (bC_X21_has_36 (fun I hI => hI _ _ _ ⟨nd_hF g2 (Or.inr rfl), arr, fun y => absurd y.2 (by decide), fun _ => bC_X21_has_66 ⟨Or.inr rfl, h1 ⟨(m + 1, P), (mem _).mpr (Or.inl rfl), hh⟩⟩⟩)))
    -- its children are asked
    have nay : ¬ hit τ rs wy ru R P → pC_X21_has_32 p (wpC p (d + (m + 1))) (fun v w => Q (.inl (some (ai v))) w) r R w := fun hh => by
      refine bC_X21_has_32 (bC_X21_has_33 (bC_X21_has_36 (fun I hI => ?_)))
      have fin : ∀ j : Nat, j = (chd τ rs wy P).length → (∀ i x, i < j → (chd τ rs wy P)[i]? = some x → ∀ y, y ∈ nds τ rs wy m x.2 → ¬ hit τ rs wy ru R y.2) → I 0 (j : Int) w := fun j ej hn => by
        refine hI _ _ _ ⟨nd_hF g2 (Or.inr rfl), arr, fun y => absurd y.1 (by rw [k2, ej]; exact fun q => q (Int.le_refl _)), fun _ => bC_X21_has_66 ⟨Or.inl rfl, h0 (fun y hy => ?_)⟩⟩
        rcases (mem y).mp hy with q | ⟨x, hx, hy'⟩
        · rw [q]; exact hh
        · obtain ⟨i, hi⟩ := List.getElem?_of_mem hx
          exact hn i x (by have := (List.getElem?_eq_some_iff.mp hi).1; omega) hi y hy'
      have key : ∀ g j : Nat, (chd τ rs wy P).length - j ≤ g → j ≤ (chd τ rs wy P).length → (∀ i x, i < j → (chd τ rs wy P)[i]? = some x → ∀ y, y ∈ nds τ rs wy m x.2 → ¬ hit τ rs wy ru R y.2) → I 0 (j : Int) w := by
        intro g
        induction g with
        | zero => intro j hg hj hn; exact fin j (by omega) hn
        | succ g ihg =>
          intro j hg hj hn
          by_cases ej : j = (chd τ rs wy P).length
          · exact fin j ej hn
          · have hjl : j < (chd τ rs wy P).length := by omega
            obtain ⟨y, hy⟩ : ∃ y, (chd τ rs wy P)[j]? = some y := ⟨_, List.getElem?_eq_getElem hjl⟩
            obtain ⟨m', em, c, ct⟩ := hkid j y hy
            have ep := prs_s (τ := τ) (rs := rs) (wy := wy) (m := m) hy
            have pl := prs_le (τ := τ) (rs := rs) (wy := wy) (m := m) (cs := chd τ rs wy P) (j + 1)
            have ll : (chd τ rs wy P).length ≤ ((chd τ rs wy P).map (fun x => tsz τ rs wy m x.2)).sum := len_sum _ (fun y _ => by rw [em]; exact tsz_pos)
            refine hI _ _ _ ⟨nd_hF g2 (Or.inr rfl), arr, fun _ => ⟨nd_hF g2 (Or.inr rfl), ⟨by rw [k1]; decide, by omega, by rw [k2]; omega⟩, nd_tag ct, ?_⟩, fun y => absurd ⟨by rw [k2]; omega, rfl⟩ y⟩
            refine ih y.2 _ _ (by rw [em] at c ⊢; exact c) (by omega) (by omega) _ (fun ⟨z, z1, z2⟩ => fa ?_) (fun hno => fa ?_)
            · rw [w32_k (by omega)]
              refine hI _ _ _ ⟨nd_hF g2 (Or.inr rfl), arr, fun y => absurd y.2 (by decide), fun _ => bC_X21_has_66 ⟨Or.inr rfl, h1 ⟨z, (mem z).mpr (Or.inr ⟨y, List.mem_of_getElem? hy, z1⟩), z2⟩⟩⟩
            · rw [w32_k (by omega)]
              refine ihg (j + 1) (by omega) (by omega) (fun i x hi hx => ?_)
              by_cases q : i = j
              · subst q
                have : x = y := by rw [hy] at hx; exact (Option.some.inj hx).symm
                rw [this]
                exact hno
              · exact hn i x (by omega) hx
      exact key _ 0 (Nat.le_refl _) (Nat.zero_le _) (fun i x hi => by omega)
    refine wC_X21_has (Nat.zero_le _) (bC_X21_has_0 (sC_nrule (d := d + m) g2 hr1 ?_))
    refine ⟨fun _ => ⟨nd_hF g2 (Or.inr rfl), arr⟩, ?_⟩
    rw [k2]
    rcases hr2 with ⟨t, hn⟩ | ⟨y, hn, hc, t, er, ne⟩ | ⟨y, e, hn, hc, t⟩
    · rw [if_neg (by omega)]
      by_cases z : R = 0
      · subst z
        exact br0 (fun q => by
          rcases q with q | q
          · exact q rfl
          · rw [chd_no hn] at q; exact q rfl) (yes (Or.inl ⟨rfl, hn⟩))
      · have nh : ¬ hit τ rs wy ru R P := fun q => by
          rcases q with q | ⟨-, y, q, -⟩
          · exact z q.1
          · rw [hn] at q; cases q
        refine br1 (Or.inl (fun q => z q.symm)) (bC_X21_has_16 (br0 z (sC_nrule (d := d + m) g2 hr1 ?_)))
        rw [if_neg (by omega)]
        exact br0 (fun q => z q.symm) (nay nh)
    · rw [if_pos t, er]
      by_cases z : ru y.1 = R
      · have hh : hit τ rs wy ru R P := Or.inr ⟨by rw [← z]; exact ne, y, hn, hc, z⟩
        have nz : R ≠ 0 := by rw [← z]; exact ne
        refine ⟨fun _ => bC_X21_has_16 (br0 nz (sC_nrule (d := d + m) g2 hr1 ?_)), fun _ => yes hh⟩
        rw [if_pos t, er]
        exact br1 z (yes hh)
      · have nh : ¬ hit τ rs wy ru R P := fun q => by
          rcases q with q | ⟨-, y', q, -, q2⟩
          · rw [hn] at q; cases q.2
          · rw [hn] at q
            rw [← Option.some.inj q] at q2
            exact z q2
        refine br1 (Or.inl z) (bC_X21_has_16 ⟨fun _ => nay nh, fun nz => sC_nrule (d := d + m) g2 hr1 ?_⟩)
        rw [if_pos t, er]
        exact br0 z (nay nh)
    · rw [if_neg (by omega)]
      have nh : ¬ hit τ rs wy ru R P := fun q => by
        rcases q with q | ⟨-, y', q, q2, -⟩
        · rw [hn] at q; cases q.2
        · rw [hn] at q
          rw [← Option.some.inj q, hc] at q2
          cases q2
      have cn := chd_ne hn hc
      have c1 : ¬ (((chd τ rs wy P).length : Nat) : Int) = 0 := fun q => cn (List.eq_nil_of_length_eq_zero (by omega))
      refine br1 (Or.inr c1) (bC_X21_has_16 ⟨fun _ => nay nh, fun nz => sC_nrule (d := d + m) g2 hr1 ?_⟩)
      rw [if_neg (by omega)]
      exact br0 (fun q => nz q.symm) (nay nh)
end ZHas
