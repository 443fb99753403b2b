/-! the reference's rows: all rows of a function -/
section ZLayT3
variable {p b e d : Nat} {w : CW} {τ σ : TW}
/-- the patterns of a rule -/
def cks (τ : TW) (R : Nat) : List Nat := chF τ 3 (tA τ 47 R)
def RP (τ : TW) (R m : Nat) : Prop := CHL τ (tA τ 47 R) (cks τ R) ∧ (cks τ R).length = m ∧ (1 ≤ m ∧ m ≤ 3) ∧ (∀ c, c ∈ cks τ R → WP τ 7 c) ∧ (tA τ 49 R = (prN τ (cks τ R) : Nat) ∧ tA τ 49 R ≤ 40) ∧ ((cks τ R).map (wsz τ 7)).sum ≤ np τ
/-- the tests of a row -/
def tsR (τ : TW) (R way : Nat) : List (Pa × Nat) := tsL (tst τ 7) τ 24 [] 0 (cks τ R) way
/-- where the i-th row's tests begin -/
def off (τ : TW) (rs : List (Nat × Nat)) (i : Nat) : Nat := ((rs.take i).map (fun x => (tsR τ x.1 x.2).length)).sum
/-- rows are laid -/
def RLy (τ σ : TW) (rs : List (Nat × Nat)) : Prop := tI σ 61 = (rs.length : Nat) ∧ tI σ 65 = (off τ rs rs.length : Nat) ∧ tA σ 64 (rs.length : Nat) = (off τ rs rs.length : Nat) ∧ ∀ i x, rs[i]? = some x → tA σ 62 (i : Nat) = (x.1 : Nat) ∧ tA σ 63 (i : Nat) = (x.2 : Nat) ∧ tA σ 64 (i : Nat) = (off τ rs i : Nat) ∧ TSm σ (off τ rs i) (tsR τ x.1 x.2)
theorem off_le (rs : List (Nat × Nat)) (x : Nat × Nat) {i : Nat} (hi : i ≤ rs.length) : off τ (rs ++ [x]) i = off τ rs i := by
  unfold off
  rw [List.take_append_of_le_length hi]
theorem off_last (rs : List (Nat × Nat)) (x : Nat × Nat) : off τ (rs ++ [x]) (rs ++ [x]).length = off τ rs rs.length + (tsR τ x.1 x.2).length := by
  unfold off
  rw [List.take_length, List.take_length, List.map_append, List.sum_append]
  simp
theorem off_mono (rs : List (Nat × Nat)) {i : Nat} {x : Nat × Nat} (h : rs[i]? = some x) : off τ rs i + (tsR τ x.1 x.2).length ≤ off τ rs rs.length := by
  have hl := (List.getElem?_eq_some_iff.mp h).1
  have e : rs.take rs.length = rs.take i ++ rs.drop i := by rw [List.take_length, List.take_append_drop]
  have hx : rs[i] = x := (List.getElem?_eq_some_iff.mp h).2
  unfold off
  rw [e, List.map_append, List.sum_append, List.drop_eq_getElem_cons hl, hx]
  simp
theorem TSm.keep {t0 : Nat} {L : List (Pa × Nat)} (h : TSm σ t0 L) {ρ : TW} (hk : ∀ f (i : Nat), f = 66 ∨ f = 67 ∨ f = 68 → i < t0 + L.length → tA ρ f i = tA σ f i) (h17 : ∀ i, tA ρ 17 i = tA σ 17 i) : TSm ρ t0 L := fun i e he => by
  have hl := (List.getElem?_eq_some_iff.mp he).1
  rw [hk 66 _ (by decide) (by omega), hk 67 _ (by decide) (by omega), hk 68 _ (by decide) (by omega), h17]
  exact h i e he
theorem tsR_len {R m way : Nat} (h : RP τ R m) : (tsR τ R way).length ≤ np τ := by
  obtain ⟨h1, h2, h3, h4, h5, h6⟩ := h
  have := tsL_len (τ := τ) (n := 7) (k := 24) (π := []) (tst_len 7) (cks τ R) 0 way h4
  unfold tsR
  omega
theorem sT_layRow {R m way : Nat} {rs : List (Nat × Nat)} (hE : PE τ σ) (e47 : tA σ 47 R = tA τ 47 R) (hnp : np τ ≤ 800) (hR : RP τ R m) (hR2 : R < 192) (hw : way ≤ 40) (hL : RLy τ σ rs) (hl : rs.length < 40) (ht : off τ rs rs.length ≤ 800 * rs.length) {Q : ZRes → TW → Prop} (hQ : ∀ σ', FT [61, 62, 63, 64, 65, 66, 67, 68, 71, 72, 73, 74, 75, 76] σ σ' → RLy τ σ' (rs ++ [(R, way)]) → Q (.inl none) σ') : wpT (d + 3) 47 [ai R, ai way] σ Q := by
  obtain ⟨a1, a2, a3, a4⟩ := hL
  obtain ⟨t0, ht0⟩ : ∃ t0, t0 = off τ rs rs.length := ⟨_, rfl⟩
  rw [← ht0] at a2 a3 ht
  have len := tsR_len (way := way) hR
  obtain ⟨r1, r2, r3, r4, r5, r6⟩ := hR
  have b61 : 0 ≤ tI σ 61 ∧ tI σ 61 < 40 := by rw [a1]; omega
  refine wT_layRow (Nat.zero_le _) (bT_layRow_0 ⟨b61, fa ⟨b61, fa ⟨⟨b61.1, by have := b61.2; show tI σ 61 < 41; omega⟩, fa (fa ⟨⟨by omega, by omega⟩, ?_⟩)⟩⟩⟩)
  obtain ⟨σ1, hσ1⟩ : ∃ σ1, σ1 = sI (sA (sA (sA σ 62 (rs.length : Nat) (R : Nat)) 63 (rs.length : Nat) (way : Nat)) 64 (rs.length : Nat) (t0 : Nat)) 71 0 := ⟨_, rfl⟩
  have e1 : sI (sA (sA (sA σ 62 (tI σ 61) (R : Nat)) 63 (tI (sA σ 62 (tI σ 61) (R : Nat)) 61) (way : Nat)) 64 (tI (sA (sA σ 62 (tI σ 61) (R : Nat)) 63 (tI (sA σ 62 (tI σ 61) (R : Nat)) 61) (way : Nat)) 61) (tI (sA (sA σ 62 (tI σ 61) (R : Nat)) 63 (tI (sA σ 62 (tI σ 61) (R : Nat)) 61) (way : Nat)) 65)) 71 0 = σ1 := by
    have h61 : tI (sA σ 62 (tI σ 61) (R : Nat)) 61 = tI σ 61 := rfl
    have h61' : tI (sA (sA σ 62 (tI σ 61) (R : Nat)) 63 (tI σ 61) (way : Nat)) 61 = tI σ 61 := rfl
    have h65 : tI (sA (sA σ 62 (tI σ 61) (R : Nat)) 63 (tI σ 61) (way : Nat)) 65 = tI σ 65 := rfl
    rw [hσ1, h61, h61', h65, a1, a2]
  rw [e1]
  have F1 : FT [62, 63, 64, 71] σ σ1 := by rw [hσ1]; exact ((((FT.refl _ _).ssA (by decide)).ssA (by decide)).ssA (by decide)).ssI (by decide)
  have E1 : PE τ σ1 := hE.trans (PE.ft F1 (by decide))
  have n47 : tA σ1 47 R = tA τ 47 R := by rw [(F1 47 (by decide)).2]; exact e47
  have n71 : tI σ1 71 = (0 : Nat) := by rw [hσ1]; rfl
  have n65 : tI σ1 65 = t0 := by rw [(F1 65 (by decide)).1]; exact a2
  have n61 : tI σ1 61 = rs.length := by rw [(F1 61 (by decide)).1]; exact a1
  have o62 : ∀ f (i : Nat), f = 62 ∨ f = 63 ∨ f = 64 → i < rs.length → tA σ1 f i = tA σ f i := fun f i hf hi => by
    rw [hσ1]
    show (if f = 64 ∧ (i : Int) = (rs.length : Nat) then _ else if f = 63 ∧ (i : Int) = (rs.length : Nat) then _ else if f = 62 ∧ (i : Int) = (rs.length : Nat) then _ else tA σ f i) = _
    rw [if_neg (by omega), if_neg (by omega), if_neg (by omega)]
  have n62 : tA σ1 62 (rs.length : Nat) = (R : Nat) ∧ tA σ1 63 (rs.length : Nat) = (way : Nat) ∧ tA σ1 64 (rs.length : Nat) = (t0 : Nat) := by
    rw [hσ1]
    refine ⟨?_, ?_, ?_⟩ <;> simp [tA_sA, tA_sI]
  rw [n47]
  refine sT_waitAll (d := d) (cs := cks τ R) (place := 0) (s := 0) (by rw [e_CHL E1]; exact r1) (by rw [e_np E1]; omega) (fun c hc => ?_) (by omega) (by omega) (by omega) n71 (by omega) (Or.inl (by decide)) ?_
  · rw [E1.a (by decide) (by decide)]
    have hc := r4 c hc
    exact ⟨hc.1.2.2.2.1, hc.1.2.2.2.2⟩
  · obtain ⟨σ3, hσ3⟩ : ∃ σ3, σ3 = lsW σ1 0 (cks τ R) := ⟨_, rfl⟩
    have F3 : FT [76] σ1 σ3 := by rw [hσ3]; exact lsW_ft _ _ _
    have E3 : PE τ σ3 := E1.trans (PE.ft F3 (by decide))
    have m71' : tI σ3 71 = (0 : Nat) := by rw [(F3 71 (by decide)).1]; exact n71
    obtain ⟨σ4, hσ4⟩ : ∃ σ4, σ4 = waW σ1 (cks τ R) way (0 : Nat) (-4) := ⟨_, rfl⟩
    have hσ4' : σ4 = wpW σ3 (0 : Nat) (cv σ1 (0 : Nat) (-4)) way 0 (cks τ R) := by rw [hσ4, hσ3]; rfl
    have F4 : FT [71, 72, 73, 74, 75] σ3 σ4 := by rw [hσ4']; exact wpW_ft _ _ _ _ _
    have E4 : PE τ σ4 := E3.trans (PE.ft F4 (by decide))
    have F14 : FT [71, 72, 73, 74, 75, 76] σ1 σ4 := (F3.mono (by decide)).trans (F4.mono (by decide))
    show pT_layRow_52 (wpT (d + 2)) (fun w => Q (.inl none) w) (waW σ1 (cks τ R) way (0 : Nat) (-4))
    rw [← hσ4]
    refine bT_layRow_52 ?_
    intro I hI0
    refine ly_list (τ := τ) (n := 7) (k := 24) (π := []) (Q := fun w => Q (.inl none) w) (fun q x π s t0 σ => ly_go (d := d) (τ := τ) hI0 (by omega) 7 q x π s t0 σ) (cks τ R) 0 way 0 t0 σ4 E4 r4 ?_ (fun i c hc => ?_) ?_ (by omega) (by omega) (by omega) (by decide) (fun σ' RR => ?_)
    · rw [hσ4', wpW_n, m71']; omega
    · have := wpW_at (τ := σ3) (0 : Nat) (cv σ1 (0 : Nat) (-4)) way m71' (cks τ R) 0 i c hc
      rw [← hσ4', e_prN E3, e_rw E3] at this
      have ec : cv σ1 (0 : Nat) (-4) (0 + i) = -4 := by unfold cv; rw [if_pos (by decide)]
      rw [ec] at this
      exact this
    · rw [(F14 65 (by decide)).1]; exact n65
    · obtain ⟨⟨x1, x2, x3, x4, x5⟩, x6⟩ := RR
      have eL : tsL (tst τ 7) τ 24 [] 0 (cks τ R) way = tsR τ R way := rfl
      rw [eL] at x2 x4
      have F : FT [62, 63, 64, 65, 66, 67, 68, 71, 72, 73, 74, 75, 76] σ σ' := ((F1.mono (by decide)).trans (F14.mono (by decide))).trans (x1.mono (by decide))
      have k6 : ∀ f i, f = 62 ∨ f = 63 ∨ f = 64 → tA σ' f i = tA σ1 f i := fun f i hf => by rw [(x1 f (by simp; omega)).2, (F14 f (by simp; omega)).2]
      have k61 : tI σ' 61 = rs.length := by rw [(x1 61 (by decide)).1, (F14 61 (by decide)).1]; exact n61
      have e61 : w32 (tI σ' 61 + 1) = ((rs.length + 1 : Nat) : Int) := by rw [k61, w32_s (by omega) (by omega)]; omega
      refine hI0 σ' (br1 (by omega) (bT_layRow_177 ?_))
      rw [e61]
      refine fa ⟨⟨by show 0 ≤ ((rs.length + 1 : Nat) : Int); omega, by show ((rs.length + 1 : Nat) : Int) < 41; omega⟩, fa ?_⟩
      refine hQ _ (((F.mono (by decide)).ssI (by decide)).ssA (by decide)) ?_
      have e65 : tI (sI σ' 61 ((rs.length + 1 : Nat) : Int)) 65 = ((t0 + (tsR τ R way).length : Nat) : Int) := x2
      have e61' : tI (sI σ' 61 ((rs.length + 1 : Nat) : Int)) 61 = ((rs.length + 1 : Nat) : Int) := rfl
      rw [e65, e61']
      obtain ⟨ρ, hρ⟩ : ∃ ρ, ρ = sA (sI σ' 61 ((rs.length + 1 : Nat) : Int)) 64 ((rs.length + 1 : Nat) : Int) ((t0 + (tsR τ R way).length : Nat) : Int) := ⟨_, rfl⟩
      rw [← hρ]
      have len1 : (rs ++ [(R, way)]).length = rs.length + 1 := by simp
      have ol := off_last (τ := τ) rs (R, way)
      rw [← ht0] at ol
      have Fρ : FT [61, 64] σ' ρ := by rw [hρ]; exact ((FT.refl _ _).ssI (by decide)).ssA (by decide)
      have o64 : ∀ i : Nat, i ≤ rs.length → tA ρ 64 i = tA σ1 64 i := fun i hi => by
        rw [hρ]
        show (if 64 = 64 ∧ (i : Int) = ((rs.length + 1 : Nat) : Int) then _ else tA σ' 64 i) = _
        rw [if_neg (by omega)]
        exact k6 64 _ (by decide)
      have k17 : ∀ i, tA ρ 17 i = tA σ 17 i := fun i => by rw [(Fρ 17 (by decide)).2, (F 17 (by decide)).2]
      refine ⟨?_, ?_, ?_, fun i x hx => ?_⟩
      · rw [len1, hρ]; rfl
      · rw [ol, (Fρ 65 (by decide)).1]; exact x2
      · rw [ol, len1, hρ]
        show (if 64 = 64 ∧ ((rs.length + 1 : Nat) : Int) = ((rs.length + 1 : Nat) : Int) then _ else _) = _
        rw [if_pos ⟨rfl, rfl⟩]
      · rcases Nat.lt_or_ge i rs.length with u | u
        · rw [List.getElem?_append_left u] at hx
          obtain ⟨y1, y2, y3, y4⟩ := a4 i x hx
          have om := off_mono (τ := τ) rs hx
          rw [off_le rs _ (by omega), (Fρ 62 (by decide)).2, (Fρ 63 (by decide)).2, o64 i (by omega), k6 62 _ (by decide), k6 63 _ (by decide), o62 62 i (by decide) u, o62 63 i (by decide) u, o62 64 i (by decide) u]
          refine ⟨y1, y2, y3, y4.keep (fun f j hf hj => ?_) k17⟩
          rw [(Fρ f (by simp; omega)).2, x3 f j hf (by omega), (F14 f (by simp; omega)).2, (F1 f (by simp; omega)).2]
        · have hi : i = rs.length := by
            have := (List.getElem?_eq_some_iff.mp hx).1
            rw [len1] at this
            omega
          subst hi
          have ex : x = (R, way) := by
            rw [List.getElem?_append_right (Nat.le_refl _)] at hx
            simpa using hx.symm
          subst ex
          rw [off_le rs _ (Nat.le_refl _), ← ht0, (Fρ 62 (by decide)).2, (Fρ 63 (by decide)).2, o64 rs.length (Nat.le_refl _), k6 62 _ (by decide), k6 63 _ (by decide)]
          exact ⟨n62.1, n62.2.1, n62.2.2, x4.keep (fun f j hf hj => (Fρ f (by simp; omega)).2 j) (fun j => (Fρ 17 (by decide)).2 j)⟩
/-- the rows of the first k rules -/
def rwsR (R n : Nat) : List (Nat × Nat) := (List.range n).map (fun x => (R, x))
def rowsK (τ : TW) (f : Nat) (bare : Int) : Nat → List (Nat × Nat)
  | 0 => []
  | k + 1 => rowsK τ f bare k ++ (if bare ≠ 0 ∧ tA τ 53 (16 * f + k : Nat) ≠ 0 then [] else rwsR (16 * f + k) (tA τ 49 (16 * f + k : Nat)).toNat)
theorem rwsR_succ (R n : Nat) : rwsR R (n + 1) = rwsR R n ++ [(R, n)] := by
  unfold rwsR
  rw [List.range_succ, List.map_append]
  rfl
theorem rwsR_len (R n : Nat) : (rwsR R n).length = n := by unfold rwsR; simp
theorem rowsK_mono (f : Nat) (bare : Int) : ∀ {j k : Nat}, j ≤ k → (rowsK τ f bare j).length ≤ (rowsK τ f bare k).length := by
  intro j k h
  induction k with
  | zero => have : j = 0 := by omega
            subst this; exact Nat.le_refl _
  | succ k ih =>
    rcases Nat.lt_or_ge j (k + 1) with u | u
    · have := ih (by omega)
      show _ ≤ (rowsK τ f bare k ++ _).length
      rw [List.length_append]
      omega
    · have : j = k + 1 := by omega
      subst this; exact Nat.le_refl _
/-- a function's rules are whole -/
def FP (τ : TW) (f n : Nat) : Prop := f < 12 ∧ tA τ 45 f = n ∧ n ≤ 16 ∧ (∃ m : Nat, tA τ 43 f = m ∧ 1 ≤ m ∧ m ≤ 3 ∧ ∀ i, i < n → RP τ (16 * f + i) m) ∧ np τ ≤ 800 ∧ (rowsK τ f 0 n).length ≤ 40
theorem rowsK_bare (f : Nat) (bare : Int) : ∀ k, (rowsK τ f bare k).length ≤ (rowsK τ f 0 k).length := by
  intro k
  induction k with
  | zero => exact Nat.le_refl _
  | succ k ih =>
    unfold rowsK
    rw [List.length_append, List.length_append]
    rw [if_neg (show ¬ ((0 : Int) ≠ 0 ∧ tA τ 53 (16 * f + k : Nat) ≠ 0) from fun h => h.1 rfl)]
    split
    · simp; omega
    · omega
theorem sT_layRows {f n : Nat} {bare : Int} (hF : FP τ f n) {Q : ZRes → TW → Prop} (hQ : ∀ σ', FT [61, 62, 63, 64, 65, 66, 67, 68, 71, 72, 73, 74, 75, 76] τ σ' → RLy τ σ' (rowsK τ f bare n) → Q (.inl none) σ') : wpT (d + 4) 46 [ai f, ai bare] τ Q := by
  obtain ⟨h1, h2, h3, ⟨m, h4, h5, h6, h7⟩, h8, h9⟩ := hF
  have h9 := Nat.le_trans (rowsK_bare (τ := τ) f bare n) h9
  refine wT_layRows (Nat.zero_le _) (bT_layRows_0 (fa (fa (fa (bT_layRows_19 ?_)))))
  intro I hI
  have offB : ∀ rs : List (Nat × Nat), (∀ x, x ∈ rs → ∃ i, i < n ∧ x.1 = 16 * f + i) → off τ rs rs.length ≤ 800 * rs.length := by
    intro rs
    unfold off
    rw [List.take_length]
    induction rs with
    | nil => intro _; exact Nat.le_refl 0
    | cons x rs ih =>
      intro h
      have a := ih (fun y hy => h y (List.mem_cons_of_mem _ hy))
      obtain ⟨i, i1, i2⟩ := h x (List.mem_cons_self ..)
      have b := tsR_len (way := x.2) (h7 i i1)
      rw [← i2] at b
      show (tsR τ x.1 x.2).length + (rs.map (fun x => (tsR τ x.1 x.2).length)).sum ≤ 800 * (rs.length + 1)
      omega
  have memK : ∀ k, k ≤ n → ∀ x, x ∈ rowsK τ f bare k → ∃ i, i < n ∧ x.1 = 16 * f + i := by
    intro k
    induction k with
    | zero => intro _ x hx; cases hx
    | succ k ih =>
      intro hk x hx
      rcases List.mem_append.mp hx with y | y
      · exact ih (by omega) x y
      · split at y
        · cases y
        · unfold rwsR at y
          obtain ⟨z, _, hz⟩ := List.mem_map.mp y
          exact ⟨k, by omega, by rw [← hz]⟩
  have key : ∀ r k : Nat, k + r = n → ∀ σ, FT [61, 62, 63, 64, 65, 66, 67, 68, 71, 72, 73, 74, 75, 76] τ σ → RLy τ σ (rowsK τ f bare k) → I (k : Int) σ := by
    intro r
    induction r with
    | zero =>
      intro k hk σ F hL
      have : k = n := by omega
      subst this
      refine hI _ _ ⟨⟨by omega, by omega⟩, br1 (by rw [(F 45 (by decide)).2, h2]; omega) (bT_layRows_86 (call := wpT (d + 3)) (hQ σ F hL))⟩
    | succ r ih =>
      intro k hk σ F hL
      have hR := h7 k (by omega)
      have e49 : tA τ 49 (16 * f + k : Nat) = ((tA τ 49 (16 * f + k : Nat)).toNat : Int) := by
        have := hR.2.2.2.2.1.1
        omega
      have l40 : (tA τ 49 (16 * f + k : Nat)).toNat ≤ 40 := by have := hR.2.2.2.2.1.2; omega
      obtain ⟨N, hN⟩ : ∃ N, N = (tA τ 49 (16 * f + k : Nat)).toNat := ⟨_, rfl⟩
      rw [← hN] at e49 l40
      have eK : rowsK τ f bare (k + 1) = rowsK τ f bare k ++ (if bare ≠ 0 ∧ tA τ 53 (16 * f + k : Nat) ≠ 0 then [] else rwsR (16 * f + k) N) := by rw [hN]; rfl
      have lenK := Nat.le_trans (rowsK_mono (τ := τ) f bare (show k + 1 ≤ n by omega)) h9
      rw [eK] at lenK
      refine hI _ _ ⟨⟨by omega, by omega⟩, br0 (by rw [(F 45 (by decide)).2, h2]; omega) (fa (bT_layRows_40 ?_))⟩
      rw [w32_s (a := 16 * (f : Int)) (by omega) (by omega), w32_s (a := 16 * (f : Int) + k) (by omega) (by omega), show 16 * (f : Int) + k = ((16 * f + k : Nat) : Int) by omega]
      intro J hJ
      have nxt : ∀ σ, FT [61, 62, 63, 64, 65, 66, 67, 68, 71, 72, 73, 74, 75, 76] τ σ → RLy τ σ (rowsK τ f bare (k + 1)) → pT_layRows_80 (wpT (d + 3)) (fun w => Q (.inl none) w) I f bare k σ := fun σ F hL => by
        refine bT_layRows_80 (call := wpT (d + 3)) (fa ?_)
        rw [w32_s (by omega) (by omega)]
        have := ih (k + 1) (by omega) σ F hL
        exact this
      have rng : 0 ≤ ((16 * f + k : Nat) : Int) ∧ ((16 * f + k : Nat) : Int) < 192 := by omega
      by_cases z : bare ≠ 0 ∧ tA τ 53 (16 * f + k : Nat) ≠ 0
      · rw [if_pos z, List.append_nil] at eK
        refine hJ _ _ ⟨rng, fun _ _ => rng, br0 (fun q => ?_) (nxt σ F (by rw [eK]; exact hL))⟩
        rw [(F 53 (by decide)).2] at q
        rcases q.2 with q | q
        · exact z.1 q
        · exact z.2 q
      · rw [if_neg z] at eK lenK
        have inner : ∀ r2 y : Nat, y + r2 = N → ∀ σ, FT [61, 62, 63, 64, 65, 66, 67, 68, 71, 72, 73, 74, 75, 76] τ σ → RLy τ σ (rowsK τ f bare k ++ rwsR (16 * f + k) y) → J (y : Int) σ := by
          intro r2
          induction r2 with
          | zero =>
            intro y hy σ F hL
            have : y = N := by omega
            subst this
            refine hJ _ _ ⟨rng, fun _ _ => rng, br0 (fun q => q.1 ?_) (nxt σ F (by rw [eK]; exact hL))⟩
            rw [(F 49 (by decide)).2, e49]
            exact Int.le_refl _
          | succ r2 ih2 =>
            intro y hy σ F hL
            refine hJ _ _ ⟨rng, fun _ _ => rng, br1 ⟨by rw [(F 49 (by decide)).2, e49]; omega, ?_⟩ (bT_layRows_66 ?_)⟩
            · rw [(F 53 (by decide)).2]
              by_cases b0 : bare = 0
              · exact Or.inl b0
              · exact Or.inr (Decidable.byContradiction (fun q => z ⟨b0, q⟩))
            · rw [List.length_append, rwsR_len] at lenK
              refine sT_layRow (d := d) (τ := τ) (σ := σ) (m := m) (rs := rowsK τ f bare k ++ rwsR (16 * f + k) y) (PE.ft F (by decide)) ((F 47 (by decide)).2 _) h8 hR (by omega) (by omega) hL (by rw [List.length_append, rwsR_len]; omega) (offB _ (fun x hx => ?_)) (fun σ' F' hL' => ?_)
              · rcases List.mem_append.mp hx with q | q
                · exact memK k (by omega) x q
                · unfold rwsR at q
                  obtain ⟨z, _, hz⟩ := List.mem_map.mp q
                  exact ⟨k, by omega, by rw [← hz]⟩
              · refine fa ?_
                rw [w32_s (by omega) (by omega)]
                have := ih2 (y + 1) (by omega) σ' (F.trans F') (by rw [rwsR_succ, ← List.append_assoc]; exact hL')
                exact this
        exact inner N 0 (by omega) σ F (by
          have : rwsR (16 * f + k) 0 = [] := rfl
          rw [this, List.append_nil]; exact hL)
  refine key n 0 (by omega) _ (((FT.refl _ _).ssI (by decide)).ssI (by decide) |>.ssA (by decide)) ⟨rfl, rfl, ?_, fun i x h => by simp [rowsK] at h⟩
  simp [tA_sA, rowsK, off]
end ZLayT3
