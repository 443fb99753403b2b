/-! the reference's trees: branches, cuts, texts -/
section ZBranch
variable {p b e d f : Nat} {w : CW} {τ σ : TW}
abbrev SBr : List Nat := [99, 100, 101, 102, 103, 104]
/-- branches are laid -/
def BRs (σ : TW) (L : List Br) : Prop := tI σ 99 = (L.length : Nat) ∧ ∀ (j : Nat) (b : Br), L[j]? = some b → tA σ 100 (j : Nat) = b.1 ∧ tA σ 101 (j : Nat) = b.2.1 ∧ tA σ 102 (j : Nat) = b.2.2.1 ∧ tA σ 103 (j : Nat) = b.2.2.2
theorem get_app {α : Type} {L : List α} {y x : α} {j : Nat} (h : (L ++ [y])[j]? = some x) : (j < L.length ∧ L[j]? = some x) ∨ (j = L.length ∧ x = y) := by
  rcases Nat.lt_or_ge j L.length with u | u
  · rw [List.getElem?_append_left u] at h
    exact Or.inl ⟨u, h⟩
  · have hl := (List.getElem?_eq_some_iff.mp h).1
    rw [List.length_append] at hl
    have hj : j = L.length := by simp at hl; omega
    subst hj
    rw [List.getElem?_append_right (Nat.le_refl _)] at h
    exact Or.inr ⟨rfl, by simpa using h.symm⟩
theorem sT_oneBranch {L : List Br} (h : BRs σ L) (hl : L.length < 100) {a b t o : Int} (ho : o = 0 ∨ o = 1) {Q : ZRes → TW → Prop} (hQ : ∀ σ', FT [99, 100, 101, 102, 103] σ σ' → BRs σ' (L ++ [(a, b, t, o)]) → Q (.inl none) σ') : wpT (d + 1) 59 [ai a, ai b, al t, ai o] σ Q := by
  obtain ⟨h1, h2⟩ := h
  have r : 0 ≤ tI σ 99 ∧ tI σ 99 < 100 := by rw [h1]; omega
  refine wT_oneBranch (Nat.zero_le _) (bT_oneBranch_0 ⟨r, fa ⟨r, fa ⟨r, fa ⟨r, fa (fa ?_)⟩⟩⟩⟩)
  have zo : zb o = o := by rcases ho with q | q <;> rw [q] <;> rfl
  obtain ⟨ρ, hρ⟩ : ∃ ρ, ρ = sI (sA (sA (sA (sA σ 100 (L.length : Nat) a) 101 (L.length : Nat) b) 102 (L.length : Nat) t) 103 (L.length : Nat) o) 99 ((L.length + 1 : Nat) : Int) := ⟨_, rfl⟩
  have e : sI (sA (sA (sA (sA σ 100 (tI σ 99) a) 101 (tI σ 99) b) 102 (tI σ 99) t) 103 (tI σ 99) (zb o)) 99 (w32 (tI σ 99 + 1)) = ρ := by
    rw [hρ, h1, zo, w32_s (by omega) (by omega)]
    rfl
  show Q (.inl none) (sI (sA (sA (sA (sA σ 100 (tI σ 99) a) 101 (tI σ 99) b) 102 (tI σ 99) t) 103 (tI σ 99) (zb o)) 99 (w32 (tI σ 99 + 1)))
  rw [e]
  refine hQ ρ (by rw [hρ]; exact (((((FT.refl _ _).ssA (by decide)).ssA (by decide)).ssA (by decide)).ssA (by decide)).ssI (by decide)) ⟨by rw [hρ, List.length_append]; rfl, fun j y hj => ?_⟩
  rcases get_app hj with ⟨u, hj⟩ | ⟨u, hj⟩
  · have k : ∀ g, tA ρ g (j : Nat) = tA σ g (j : Nat) := fun g => by
      rw [hρ, tA_sI, tA_sA, if_neg (by omega), tA_sA, if_neg (by omega), tA_sA, if_neg (by omega), tA_sA, if_neg (by omega)]
    rw [k, k, k, k]
    exact h2 j y hj
  · rw [hj, u, hρ]
    refine ⟨?_, ?_, ?_, ?_⟩ <;> simp [tA_sA, tA_sI]
/-- texts that are asked, each once -/
theorem sT_wants {L : List Int} (h : BRs σ (L.map (fun t => (0, 0, t, 0)))) (hl : L.length < 100) {t : Int} {Q : ZRes → TW → Prop} (hQ : ∀ σ', FT [99, 100, 101, 102, 103] σ σ' → BRs σ' ((adT L t).map (fun t => (0, 0, t, 0))) → Q (.inl none) σ') : wpT (d + 2) 61 [al t] σ Q := by
  obtain ⟨h1, h2⟩ := id h
  rw [List.length_map] at h1
  refine wT_wants (Nat.zero_le _) (bT_wants_0 (bT_wants_5 ?_))
  intro I hI
  have key : ∀ n j : Nat, j + n = L.length → ∀ v : Int, (v = 0 ∨ v = 1) → (v = 1 ↔ t ∈ L.take j) → I v (j : Nat) σ := by
    intro n
    induction n with
    | zero =>
      intro j hj v h01 hv
      have hj : j = L.length := by omega
      subst hj
      rw [List.take_length] at hv
      refine hI _ _ _ (br1 (by omega) (bT_wants_42 ?_))
      by_cases z : t ∈ L
      · have ea : adT L t = L := by unfold adT; rw [if_pos z]
        refine br0 (by have := hv.mpr z; omega) (bT_wants_54 (call := wpT (d + 1)) (hQ σ (FT.refl _ _) (by rw [ea]; exact h)))
      · have ea : adT L t = L ++ [t] := by unfold adT; rw [if_neg z]
        have v0 : v = 0 := by
          rcases h01 with q | q
          · exact q
          · exact absurd (hv.mp q) z
        refine br1 v0 (sT_oneBranch (d := d) h (by rw [List.length_map]; exact hl) (Or.inl rfl) (fun σ' F B => bT_wants_54 (call := wpT (d + 1)) (hQ σ' F ?_)))
        rw [ea, List.map_append]
        exact B
    | succ n ih =>
      intro j hj v h01 hv
      have hjl : j < L.length := by omega
      have e102 : tA σ 102 (j : Nat) = L[j] := (h2 j (0, 0, L[j], 0) (by rw [List.getElem?_map, List.getElem?_eq_getElem hjl]; rfl)).2.2.1
      refine hI _ _ _ (br0 (by omega) ⟨fun _ => by omega, fa (fa ?_)⟩)
      rw [w32_s (by omega) (by omega), e102]
      have := ih (j + 1) (by omega) (if ¬ v = 0 ∨ L[j] = t then 1 else 0) (by split <;> simp) (by
        rw [List.take_succ_eq_append_getElem hjl, List.mem_append, List.mem_singleton, ← hv]
        by_cases z : ¬ v = 0 ∨ L[j] = t
        · rw [if_pos z]
          refine ⟨fun _ => ?_, fun _ => rfl⟩
          rcases z with z | z
          · left; omega
          · right; exact z.symm
        · rw [if_neg z]
          refine ⟨fun q => absurd q (by decide), fun q => ?_⟩
          exfalso
          rcases q with q | q
          · exact z (Or.inl (by omega))
          · exact z (Or.inr q.symm))
      exact this
  exact key L.length 0 (by omega) 0 (Or.inl rfl) ⟨fun q => absurd q (by decide), fun q => by simp at q⟩
/-- rising -/
def srtd : List Int → Prop
  | [] => True
  | x :: l => (∀ y, y ∈ l → x < y) ∧ srtd l
theorem ins_mem {l : List Int} {v x : Int} : x ∈ ins l v ↔ x = v ∨ x ∈ l := by
  induction l with
  | nil => simp [ins]
  | cons y l ih =>
    unfold ins
    split
    · rw [List.mem_cons, ih, List.mem_cons]
      constructor
      · rintro (q | q | q)
        · exact Or.inr (Or.inl q)
        · exact Or.inl q
        · exact Or.inr (Or.inr q)
      · rintro (q | q | q)
        · exact Or.inr (Or.inl q)
        · exact Or.inl q
        · exact Or.inr (Or.inr q)
    · split
      · rename_i h1 h2
        rw [List.mem_cons]
        constructor
        · intro q; exact Or.inr q
        · rintro (q | q)
          · exact Or.inl (by omega)
          · exact q
      · rw [List.mem_cons]
theorem ins_srt {l : List Int} {v : Int} (h : srtd l) : srtd (ins l v) := by
  induction l with
  | nil => exact ⟨fun y hy => absurd hy (by simp), trivial⟩
  | cons y l ih =>
    unfold ins
    split
    · rename_i h1
      refine ⟨fun z hz => ?_, ih h.2⟩
      rcases ins_mem.mp hz with q | q
      · rw [q]; exact h1
      · exact h.1 z q
    · split
      · exact h
      · rename_i h1 h2
        refine ⟨fun z hz => ?_, h⟩
        rcases List.mem_cons.mp hz with q | q
        · rw [q]; omega
        · have := h.1 z q; omega
theorem ins_in {l : List Int} {v : Int} (h : srtd l) (hv : v ∈ l) : ins l v = l := by
  induction l with
  | nil => cases hv
  | cons y l ih =>
    unfold ins
    rcases List.mem_cons.mp hv with q | q
    · rw [if_neg (by omega), if_pos q.symm]
    · have := h.1 v q
      rw [if_pos this, ih h.2 q]
theorem ins_len {l : List Int} {v : Int} : (ins l v).length ≤ l.length + 1 := by
  induction l with
  | nil => exact Nat.le_refl _
  | cons y l ih =>
    unfold ins
    split
    · simp only [List.length_cons]; omega
    · split
      · simp
      · simp
theorem ins_at {l : List Int} {v : Int} (hv : v ∉ l) : ∀ k, k ≤ l.length → (∀ i y, i < k → l[i]? = some y → y < v) → (∀ i y, k ≤ i → l[i]? = some y → v < y) → ins l v = l.take k ++ v :: l.drop k := by
  induction l with
  | nil =>
    intro k hk _ _
    have : k = 0 := by simpa using hk
    subst this
    rfl
  | cons y l ih =>
    intro k hk h1 h2
    unfold ins
    cases k with
    | zero =>
      have := h2 0 y (Nat.le_refl _) rfl
      rw [if_neg (by omega), if_neg (by omega)]
      rfl
    | succ k =>
      have := h1 0 y (by omega) rfl
      rw [if_pos this]
      have := ih (fun q => hv (List.mem_cons_of_mem _ q)) k (by simp at hk; exact hk) (fun i z hi hz => h1 (i + 1) z (by omega) (by simpa using hz)) (fun i z hi hz => h2 (i + 1) z (by omega) (by simpa using hz))
      rw [this]
      rfl
theorem ins_map {l : List Int} {v : Int} : (ins l v).map (fun x => x + 1) = ins (l.map (fun x => x + 1)) (v + 1) := by
  induction l with
  | nil => rfl
  | cons y l ih =>
    show (if y < v then y :: ins l v else if y = v then y :: l else v :: y :: l).map _ = (if y + 1 < v + 1 then (y + 1) :: ins (l.map (fun x => x + 1)) (v + 1) else if y + 1 = v + 1 then (y + 1) :: l.map (fun x => x + 1) else (v + 1) :: (y + 1) :: l.map (fun x => x + 1))
    by_cases h1 : y < v
    · rw [if_pos h1, if_pos (show y + 1 < v + 1 by omega), List.map_cons, ih]
    · rw [if_neg h1, if_neg (show ¬ y + 1 < v + 1 by omega)]
      by_cases h2 : y = v
      · rw [if_pos h2, if_pos (show y + 1 = v + 1 by omega)]
        rfl
      · rw [if_neg h2, if_neg (show ¬ y + 1 = v + 1 by omega)]
        rfl
theorem srt_map {l : List Int} (h : srtd l) : srtd (l.map (fun x => x + 1)) := by
  induction l with
  | nil => trivial
  | cons y l ih =>
    refine ⟨fun z hz => ?_, ih h.2⟩
    obtain ⟨u, hu, rfl⟩ := List.mem_map.mp hz
    have := h.1 u hu
    show y + 1 < u + 1
    omega
/-- cuts, as many as branches are told -/
def CUs (σ : TW) (L : List Int) : Prop := tI σ 99 = (L.length : Nat) ∧ ∀ (j : Nat) (c : Int), L[j]? = some c → tA σ 104 (j : Nat) = c
theorem srt_lt {l : List Int} (h : srtd l) : ∀ {i j : Nat} {x y : Int}, i < j → l[i]? = some x → l[j]? = some y → x < y := by
  induction l with
  | nil => intro i j x y _ hx; simp at hx
  | cons z l ih =>
    intro i j x y hij hx hy
    cases j with
    | zero => omega
    | succ j =>
      have hy : l[j]? = some y := by simpa using hy
      cases i with
      | zero =>
        have : z = x := by simpa using hx
        rw [← this]
        exact h.1 y (List.mem_of_getElem? hy)
      | succ i =>
        have hx : l[i]? = some x := by simpa using hx
        exact ih h.2 (by omega) hx hy
theorem sT_cut {L : List Int} (h : CUs σ L) (hs : srtd L) (hl : L.length < 99) {v : Int} (hv : -2147483648 < v) {Q : ZRes → TW → Prop} (hQ : ∀ σ', FT [99, 104] σ σ' → CUs σ' (ins L v) → Q (.inl none) σ') : wpT (d + 1) 60 [al v] σ Q := by
  obtain ⟨h1, h2⟩ := id h
  refine wT_cut (Nat.zero_le _) (bT_cut_0 (fa (fa ?_)))
  rw [h1, if_pos (by omega)]
  refine bT_cut_23 ?_
  intro I hI
  have key : ∀ n j : Nat, j + n = L.length → ∀ u : Int, (u = 0 ∨ u = 1) → (u = 1 ↔ v ∉ L.take j) → I u (j : Nat) σ := by
    intro n
    induction n with
    | zero =>
      intro j hj u h01 hu
      have hj : j = L.length := by omega
      subst hj
      rw [List.take_length] at hu
      refine hI _ _ _ (br1 (by omega) (bT_cut_59 ?_))
      by_cases z : v ∈ L
      · refine br1 (by rcases h01 with q | q; exact q; exact absurd z (hu.mp q)) (hQ σ (FT.refl _ _) (by rw [ins_in hs z]; exact h))
      · refine br0 (by have := hu.mpr z; omega) (bT_cut_65 ?_)
        intro J hJ
        have down : ∀ k : Nat, k ≤ L.length → ∀ σ1, FT [104] σ σ1 → (∀ j y, j < k → L[j]? = some y → tA σ1 104 (j : Nat) = y) → (∀ j y, k ≤ j → L[j]? = some y → tA σ1 104 ((j + 1 : Nat) : Int) = y ∧ v < y) → J (k : Nat) σ1 := by
          intro k
          induction k with
          | zero =>
            intro _ σ1 F lo hi
            refine hJ _ _ ⟨fun q => absurd (by decide) q, br0 (fun q => absurd (by decide) q.1) (bT_cut_102 (call := wpT d) ⟨by decide, fa (fa ?_)⟩)⟩
            have e9 : w32 (tI (sA σ1 104 ((0 : Nat) : Int) v) 99 + 1) = ((L.length + 1 : Nat) : Int) := by
              show w32 (tI σ1 99 + 1) = _
              rw [(F 99 (by decide)).1, h1, w32_s (by omega) (by omega)]; rfl
            rw [e9]
            refine hQ _ (((F.mono (by decide)).ssA (by decide)).ssI (by decide)) ?_
            have ei := ins_at z 0 (Nat.zero_le _) (fun i y hi => by omega) (fun i y _ hy => (hi i y (Nat.zero_le _) hy).2)
            rw [ei]
            refine ⟨by simp; rfl, fun j y hj => ?_⟩
            cases j with
            | zero =>
              have : v = y := by simpa using hj
              rw [← this]
              simp [tA_sA, tA_sI]
            | succ j =>
              have hj : L[j]? = some y := by simpa using hj
              rw [tA_sI, tA_sA, if_neg (by omega)]
              exact (hi j y (Nat.zero_le _) hj).1
          | succ k ih =>
            intro hk σ1 F lo hi
            have hkl : k < L.length := by omega
            have ek : w32 (((k + 1 : Nat) : Int) - 1) = (k : Nat) := by rw [w32_s (by omega) (by omega)]; omega
            have lk := lo k L[k] (by omega) (List.getElem?_eq_getElem hkl)
            refine hJ _ _ ?_
            rw [ek, lk]
            refine ⟨fun _ => by omega, ?_⟩
            by_cases c : L[k] ≤ v
            · have cl : L[k] < v := by
                rcases Int.lt_or_lt_of_ne (show L[k] ≠ v from fun q => z (by rw [← q]; exact List.getElem_mem _)) with q | q
                · exact q
                · omega
              refine br0 (fun q => q.2 c) (bT_cut_102 (call := wpT d) ⟨by omega, fa (fa ?_)⟩)
              have e9 : w32 (tI (sA σ1 104 ((k + 1 : Nat) : Int) v) 99 + 1) = ((L.length + 1 : Nat) : Int) := by
                show w32 (tI σ1 99 + 1) = _
                rw [(F 99 (by decide)).1, h1, w32_s (by omega) (by omega)]; rfl
              rw [e9]
              refine hQ _ (((F.mono (by decide)).ssA (by decide)).ssI (by decide)) ?_
              have ei := ins_at z (k + 1) hk (fun i y hi hy => by
                rcases Nat.lt_or_ge i k with u | u
                · have := srt_lt hs u hy (List.getElem?_eq_getElem hkl)
                  omega
                · have : i = k := by omega
                  subst this
                  rw [List.getElem?_eq_getElem hkl] at hy
                  injection hy with hy
                  omega) (fun i y hi' hy => (hi i y hi' hy).2)
              rw [ei]
              refine ⟨?_, fun j y hj => ?_⟩
              · rw [List.length_append, List.length_take, List.length_cons, List.length_drop]
                show ((L.length + 1 : Nat) : Int) = _
                congr 1
                omega
              · have lt : (L.take (k + 1)).length = k + 1 := by rw [List.length_take]; omega
                rcases Nat.lt_or_ge j (k + 1) with u | u
                · rw [List.getElem?_append_left (by omega), List.getElem?_take_of_lt u] at hj
                  rw [tA_sI, tA_sA, if_neg (by omega)]
                  exact lo j y u hj
                · rw [List.getElem?_append_right (by omega), lt] at hj
                  rcases Nat.eq_or_lt_of_le u with q | q
                  · subst q
                    rw [Nat.sub_self] at hj
                    have : v = y := by simpa using hj
                    rw [← this]
                    simp [tA_sA, tA_sI]
                  · obtain ⟨j', rfl⟩ : ∃ j', j = k + 1 + 1 + j' := ⟨j - (k + 2), by omega⟩
                    rw [show k + 1 + 1 + j' - (k + 1) = j' + 1 by omega] at hj
                    have hj : (L.drop (k + 1))[j']? = some y := by simpa using hj
                    rw [List.getElem?_drop] at hj
                    rw [tA_sI, tA_sA, if_neg (by omega)]
                    have := (hi (k + 1 + j') y (by omega) hj).1
                    rw [show k + 1 + j' + 1 = k + 1 + 1 + j' by omega] at this
                    exact this
            · refine br1 ⟨by omega, c⟩ ⟨by omega, by omega, fa (fa ?_)⟩
              rw [show w32 (((k + 1 : Nat) : Int) + (-1)) = (k : Nat) by rw [w32_s (by omega) (by omega)]; omega]
              refine ih (by omega) _ (F.ssA (by decide)) (fun j y hj hy => ?_) (fun j y hj hy => ?_)
              · rw [tA_sA, if_neg (by omega)]
                exact lo j y (by omega) hy
              · rcases Nat.eq_or_lt_of_le hj with q | q
                · subst q
                  rw [List.getElem?_eq_getElem hkl] at hy
                  injection hy with hy
                  rw [tA_sA, if_pos ⟨rfl, rfl⟩]
                  exact ⟨hy, by omega⟩
                · rw [tA_sA, if_neg (by omega)]
                  exact hi j y (by omega) hy
        exact down L.length (Nat.le_refl _) σ (FT.refl _ _) (fun j y _ hy => h2 j y hy) (fun j y hj hy => by have := (List.getElem?_eq_some_iff.mp hy).1; omega)
    | succ n ih =>
      intro j hj u h01 hu
      have hjl : j < L.length := by omega
      have ej := h2 j L[j] (List.getElem?_eq_getElem hjl)
      refine hI _ _ _ (br0 (by omega) ⟨fun _ => by omega, fa (fa ?_)⟩)
      rw [w32_s (by omega) (by omega), ej]
      have := ih (j + 1) (by omega) (if ¬ u = 0 ∧ ¬ L[j] = v then 1 else 0) (by split <;> simp) (by
        rw [List.take_succ_eq_append_getElem hjl, List.mem_append, List.mem_singleton]
        by_cases z : ¬ u = 0 ∧ ¬ L[j] = v
        · rw [if_pos z]
          refine ⟨fun _ q => ?_, fun _ => rfl⟩
          rcases q with q | q
          · exact hu.mp (by omega) q
          · exact z.2 q.symm
        · rw [if_neg z]
          refine ⟨fun q => absurd q (by decide), fun q => ?_⟩
          exfalso
          refine z ⟨fun q0 => ?_, fun q0 => q (Or.inr q0.symm)⟩
          have := hu.mpr (fun y => q (Or.inl y))
          omega)
      exact this
  exact key L.length 0 (by omega) 1 (Or.inr rfl) ⟨fun _ q => by simp at q, fun _ => rfl⟩
end ZBranch
