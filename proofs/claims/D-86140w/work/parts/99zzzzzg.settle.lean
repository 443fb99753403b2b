/-! the reference's trees: what a node is -/
section ZSettle
variable {p b e d f : Nat} {w : CW} {τ σ : TW} {rs : List (Nat × Nat)}
/-- what is ahead at s -/
def AHk (σ : TW) (s x : Nat) (b : Br) : Prop := tA σ 94 s = x ∧ tA σ 95 s = b.1 ∧ tA σ 96 s = b.2.1 ∧ tA σ 97 s = b.2.2.1 ∧ tA σ 98 s = b.2.2.2
def AHs (σ : TW) (s x : Nat) (L : List Br) : Prop := ∀ (i : Nat) (b : Br), L[i]? = some b → AHk σ (s + (L.length - 1 - i)) x b
theorem sT_layAhead {L : List Br} {s x : Nat} (h : BRs σ L) (h01 : ∀ b, b ∈ L → b.2.2.2 = 0 ∨ b.2.2.2 = 1) (hs : tI σ 93 = s) (hl : L.length ≤ 100) (hs2 : s + L.length ≤ 399) {Q : ZRes → TW → Prop} (hQ : ∀ σ', FT [93, 94, 95, 96, 97, 98] σ σ' → tI σ' 93 = (s + L.length : Nat) → AHs σ' s x L → (∀ g (i : Nat), i < s → tA σ' g i = tA σ g i) → Q (.inl none) σ') : wpT (d + 1) 63 [ai x] σ Q := by
  obtain ⟨h1, h2⟩ := h
  refine wT_layAhead (Nat.zero_le _) (bT_layAhead_0 ?_)
  rw [h1]
  refine fa (bT_layAhead_7 ?_)
  rw [w32_s (by omega) (by omega)]
  intro I hI
  have key : ∀ k : Nat, k ≤ L.length → ∀ σ1, FT [93, 94, 95, 96, 97, 98] σ σ1 → tI σ1 93 = (s + (L.length - k) : Nat) → (∀ (i : Nat) (b : Br), k ≤ i → L[i]? = some b → AHk σ1 (s + (L.length - 1 - i)) x b) → (∀ g (i : Nat), i < s → tA σ1 g i = tA σ g i) → I ((k : Int) - 1) σ1 := by
    intro k
    induction k with
    | zero =>
      intro _ σ1 F n1 hA lo
      refine hI _ _ (br0 (fun q => q.1 (by omega)) (bT_layAhead_107 (call := wpT d) (hQ σ1 F (by rw [n1, Nat.sub_zero]) (fun i b hb => hA i b (Nat.zero_le _) hb) lo)))
    | succ k ih =>
      intro hk σ1 F n1 hA lo
      have hkl : k < L.length := by omega
      obtain ⟨b, hb⟩ : ∃ b, L[k]? = some b := ⟨L[k], List.getElem?_eq_getElem hkl⟩
      obtain ⟨g1, g2, g3, g4⟩ := h2 k b hb
      have hz := h01 b (List.mem_of_getElem? hb)
      have zo : zb b.2.2.2 = b.2.2.2 := by rcases hz with q | q <;> rw [q] <;> rfl
      obtain ⟨t, ht⟩ : ∃ t, t = s + (L.length - (k + 1)) := ⟨_, rfl⟩
      rw [← ht] at n1
      have rt : 0 ≤ tI σ1 93 ∧ tI σ1 93 < 400 := by rw [n1]; omega
      have ek : ((k + 1 : Nat) : Int) - 1 = (k : Nat) := by omega
      rw [ek]
      have f100 : ∀ g, 99 ≤ g → g ≤ 104 → ∀ i, tA σ1 g i = tA σ g i := fun g a b i => (F g (by simp; omega)).2 i
      refine hI _ _ (br1 ⟨by omega, by omega⟩ ⟨rt, fa ⟨by omega, rt, fa ⟨by omega, rt, fa ⟨by omega, rt, fa ⟨by omega, rt, fa (fa (fa ?_))⟩⟩⟩⟩⟩)
      obtain ⟨ρ, hρ⟩ : ∃ ρ, ρ = sI (sA (sA (sA (sA (sA σ1 94 (t : Nat) (x : Nat)) 95 (t : Nat) b.1) 96 (t : Nat) b.2.1) 97 (t : Nat) b.2.2.1) 98 (t : Nat) b.2.2.2) 93 ((t + 1 : Nat) : Int) := ⟨_, rfl⟩
      have e0 : tA σ1 100 (k : Nat) = b.1 := by rw [f100 100 (by decide) (by decide)]; exact g1
      have e1 : tA σ1 101 (k : Nat) = b.2.1 := by rw [f100 101 (by decide) (by decide)]; exact g2
      have e2 : tA σ1 102 (k : Nat) = b.2.2.1 := by rw [f100 102 (by decide) (by decide)]; exact g3
      have e3 : tA σ1 103 (k : Nat) = b.2.2.2 := by rw [f100 103 (by decide) (by decide)]; exact g4
      show I (w32 ((k : Int) + (-1))) (sI (sA (sA (sA (sA (sA σ1 94 (tI σ1 93) (x : Nat)) 95 (tI σ1 93) (tA σ1 100 (k : Nat))) 96 (tI σ1 93) (tA σ1 101 (k : Nat))) 97 (tI σ1 93) (tA σ1 102 (k : Nat))) 98 (tI σ1 93) (zb (tA σ1 103 (k : Nat)))) 93 (w32 (tI σ1 93 + 1)))
      rw [e0, e1, e2, e3, zo, n1, w32_s (a := (t : Int) + 1) (by omega) (by omega), w32_s (by omega) (by omega)]
      have eρ : sI (sA (sA (sA (sA (sA σ1 94 (t : Nat) (x : Nat)) 95 (t : Nat) b.1) 96 (t : Nat) b.2.1) 97 (t : Nat) b.2.2.1) 98 (t : Nat) b.2.2.2) 93 ((t : Int) + 1) = ρ := by rw [hρ]; rfl
      rw [eρ]
      have F1 : FT [93, 94, 95, 96, 97, 98] σ1 ρ := by
        rw [hρ]
        exact ((((((FT.refl _ _).ssA (by decide)).ssA (by decide)).ssA (by decide)).ssA (by decide)).ssA (by decide)).ssI (by decide)
      have oth : ∀ g (i : Nat), i ≠ t → tA ρ g i = tA σ1 g i := fun g i hi => by
        rw [hρ, tA_sI, tA_sA, if_neg (by omega), tA_sA, if_neg (by omega), tA_sA, if_neg (by omega), tA_sA, if_neg (by omega), tA_sA, if_neg (by omega)]
      have := ih (by omega) ρ (F.trans F1) (by rw [hρ]; show ((t + 1 : Nat) : Int) = _; congr 1; omega) (fun i b' hi hb' => ?_) (fun g i hi => by rw [oth g i (by omega)]; exact lo g i hi)
      · rw [show (k : Int) + (-1) = (k : Int) - 1 by omega]
        exact this
      · rcases Nat.eq_or_lt_of_le hi with q | q
        · subst q
          rw [hb] at hb'
          injection hb' with hb'
          subst hb'
          have et : s + (L.length - 1 - k) = t := by omega
          rw [et]
          unfold AHk
          rw [hρ]
          refine ⟨?_, ?_, ?_, ?_, ?_⟩ <;> simp [tA_sA, tA_sI]
        · have hil := (List.getElem?_eq_some_iff.mp hb').1
          have := hA i b' (by omega) hb'
          unfold AHk at this ⊢
          rw [oth _ _ (by omega), oth _ _ (by omega), oth _ _ (by omega), oth _ _ (by omega), oth _ _ (by omega)]
          exact this
  exact key L.length (Nat.le_refl _) σ (FT.refl _ _) (by rw [hs, Nat.sub_self]; rfl) (fun i b hi hb => by have := (List.getElem?_eq_some_iff.mp hb).1; omega) (fun _ _ _ => rfl)
/-- a node's kind by a sort -/
def knd (s : Int) : Int := if s < 3 then (if s = 1 then 4 else if s = 2 then 5 else 6) else 3
/-- a node is as it is told -/
def NDR (τ σ : TW) (rs : List (Nat × Nat)) (wy : Nat) (P : Sp) (x : Nat) : Prop := tA σ 84 x = ((chd τ rs wy P).length : Nat) ∧ match ndE τ rs P with
  | none => tA σ 80 x = 0 ∧ tA σ 81 x = -4 ∧ tA σ 83 x = -4
  | some r => match chs τ wy P (rws τ rs P) (ask τ P r) with
    | none => (tA σ 80 x = if tA τ 53 (r.1 : Nat) = 0 then 1 else 2) ∧ tA σ 81 x = (r.1 : Nat) ∧ tA σ 82 x = (r.2 : Nat) ∧ tA σ 83 x = -4
    | some e => tA σ 80 x = knd (tA τ 18 e.2) ∧ tA σ 81 x = -4 ∧ tA σ 83 x = (cod e.1 : Nat)
theorem brs_o {P : Sp} {rows : List (Nat × Nat)} {π : Pa} {s : Int} : ∀ b, b ∈ brs τ P rows π s → b.2.2.2 = 0 ∨ b.2.2.2 = 1 := by
  intro b hb
  unfold brs at hb
  split at hb
  · rcases List.mem_cons.mp hb with q | q
    · rw [q]; exact Or.inl rfl
    · obtain ⟨k, _, rfl⟩ := List.mem_map.mp q
      exact Or.inl rfl
  · split at hb
    · rcases List.mem_cons.mp hb with q | q
      · rw [q]; exact Or.inl rfl
      · rw [List.mem_singleton.mp q]; exact Or.inl rfl
    · split at hb
      · rcases List.mem_append.mp hb with q | q
        · obtain ⟨t, _, rfl⟩ := List.mem_map.mp q
          exact Or.inl rfl
        · rw [List.mem_singleton.mp q]; exact Or.inr rfl
      · have : ∀ (l : List Int) (lo : Int), b ∈ rgs lo l → b.2.2.2 = 0 := by
          intro l
          induction l with
          | nil => intro lo h; rw [List.mem_singleton.mp h]
          | cons y l ih =>
            intro lo h
            rcases List.mem_cons.mp h with q | q
            · rw [q]
            · exact ih _ q
        exact Or.inl (this _ _ hb)
/-- the first of those alive -/
theorem frl_nd {P : Sp} {v : Int} (h : FRl τ P rs rs.length v) : (v = -4 ∧ ndE τ rs P = none) ∨ ∃ i x, v = (i : Nat) ∧ rs[i]? = some x ∧ liv τ P x ∧ ndE τ rs P = some x := by
  rcases h with ⟨v1, v2⟩ | ⟨i, x, v1, v2, v3, v4, v5⟩
  · refine Or.inl ⟨v1, ?_⟩
    unfold ndE rws
    have : fil (liv τ P) rs = [] := by
      apply List.eq_nil_iff_forall_not_mem.mpr
      intro x hx
      obtain ⟨h1, h2⟩ := mem_fil.mp hx
      obtain ⟨i, hi, hxi⟩ := List.mem_iff_getElem.mp h1
      exact v2 i x hi (by rw [List.getElem?_eq_getElem hi, hxi]) h2
    rw [this]
    rfl
  · refine Or.inr ⟨i, x, v1, v3, v4, ?_⟩
    have hx : rs[i] = x := (List.getElem?_eq_some_iff.mp v3).2
    have sp : rs = rs.take i ++ x :: rs.drop (i + 1) := by
      rw [← hx, ← List.drop_eq_getElem_cons v2, List.take_append_drop]
    have e0 : fil (liv τ P) (rs.take i) = [] := by
      apply List.eq_nil_iff_forall_not_mem.mpr
      intro y hy
      obtain ⟨h1, h2⟩ := mem_fil.mp hy
      obtain ⟨j, hj, hyj⟩ := List.mem_iff_getElem.mp h1
      rw [List.length_take] at hj
      rw [List.getElem_take] at hyj
      exact v5 j y (by omega) (by rw [List.getElem?_eq_getElem (by omega), hyj]) h2
    unfold ndE rws
    conv => lhs; rw [sp]
    rw [fil_append, e0, fil_cons_1 v4]
    rfl
end ZSettle
