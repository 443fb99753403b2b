/-! the reference's trees: what is left in a row -/
section ZLeft
variable {p b e d f : Nat} {w : CW} {τ σ : TW}
theorem tsL_nodup {g : Nat → Nat → Pa → List (Pa × Nat)} {k : Nat} {π : Pa} (he : ∀ c x ρ y, y ∈ g c x ρ → ∃ s, y.1 = s ++ ρ) : ∀ (cs : List Nat) (j w : Nat), (∀ i c, cs[i]? = some c → (g c ((w / prN τ (cs.drop (i + 1))) % rw' τ c) ((k, j + i) :: π)).Nodup) → (tsL g τ k π j cs w).Nodup := by
  intro cs
  induction cs with
  | nil => intro j w _; exact List.nodup_nil
  | cons c cs ih =>
    intro j w h
    show (g c ((w / prN τ cs) % rw' τ c) ((k, j) :: π) ++ tsL g τ k π (j + 1) cs w).Nodup
    rw [List.nodup_append]
    refine ⟨h 0 c rfl, ih (j + 1) w (fun i c' hc => ?_), fun a ha b hb hab => ?_⟩
    · have := h (i + 1) c' hc
      rw [show j + (i + 1) = j + 1 + i by omega] at this
      exact this
    · obtain ⟨s, hs⟩ := he _ _ _ _ ha
      obtain ⟨i, c', h1, h2⟩ := tsL_mem _ _ _ _ hb
      obtain ⟨s', hs'⟩ := he _ _ _ _ h2
      rw [hab, hs'] at hs
      have hl := congrArg List.length hs
      simp at hl
      have hinj := List.append_inj hs (by omega)
      have := hinj.2
      injection this with q1 q2
      injection q1 with q3 q4
      omega
theorem tst_up : ∀ n q w π e, e ∈ tst τ n q w π → ∃ s, e.1 = s ++ π := by
  intro n
  induction n with
  | zero => intro q w π e h; cases h
  | succ n ih =>
    intro q w π e h
    unfold tst at h
    split at h
    · exact ih _ _ _ _ h
    · split at h
      · cases h
      · rcases List.mem_cons.mp h with h | h
        · exact ⟨[], by rw [h]; rfl⟩
        · obtain ⟨i, c, h1, h2⟩ := tsL_mem _ _ _ _ h
          obtain ⟨s, hs⟩ := ih _ _ _ _ h2
          exact ⟨s ++ [((tA τ 19 q).toNat, 0 + i)], by rw [hs]; simp⟩
theorem tst_nodup : ∀ n q w π, (tst τ n q w π).Nodup := by
  intro n
  induction n with
  | zero => intro q w π; exact List.nodup_nil
  | succ n ih =>
    intro q w π
    unfold tst
    split
    · exact ih _ _ _
    · split
      · exact List.nodup_nil
      · rw [List.nodup_cons]
        refine ⟨fun h => ?_, tsL_nodup (fun c x ρ y hy => tst_up n c x ρ y hy) _ _ _ (fun i c _ => ih _ _ _)⟩
        obtain ⟨i, c, h1, h2⟩ := tsL_mem _ _ _ _ h
        obtain ⟨s, hs⟩ := tst_up _ _ _ _ _ h2
        have := congrArg List.length hs
        simp at this
        omega
theorem tsR_nodup (R way : Nat) : (tsR τ R way).Nodup := tsL_nodup (fun c x ρ y hy => tst_up 7 c x ρ y hy) _ _ _ (fun i c _ => tst_nodup _ _ _ _)
/-- a test of a code is left in a row -/
def lfC (τ : TW) (P : Sp) (x : Nat × Nat) (c : Nat) : Prop := ∃ e, e ∈ tsR τ x.1 x.2 ∧ stn τ P e = 0 ∧ cod e.1 = c
noncomputable def lfI (τ : TW) (P : Sp) (x : Nat × Nat) (c : Nat) : Int := @ite _ (lfC τ P x c) (Classical.propDecidable _) 1 0
theorem lfI_1 {P : Sp} {x : Nat × Nat} {c : Nat} (h : lfC τ P x c) : lfI τ P x c = 1 := by unfold lfI; rw [if_pos h]
theorem lfI_0 {P : Sp} {x : Nat × Nat} {c : Nat} (h : ¬ lfC τ P x c) : lfI τ P x c = 0 := by unfold lfI; rw [if_neg h]
theorem sT_isLeft {P : Sp} {rs : List (Nat × Nat)} (hC : CX τ f rs) (hR : RLy τ σ rs) {i : Nat} {x : Nat × Nat} (hx : rs[i]? = some x) (hS : SF1 τ σ P rs i x) (hl : liv τ P x) {c : Nat} {Q : ZRes → TW → Prop} (hQ : Q (.inl (some (ai (lfI τ P x c)))) σ) : wpT (d + 1) 57 [ai i, ai c] σ Q := by
  obtain ⟨⟨c1, c2, c3, c4⟩, c5, c6, c7⟩ := hC
  have hil := (List.getElem?_eq_some_iff.mp hx).1
  have to1 := hR.to hx
  obtain ⟨y1, y2, y3, y4⟩ := hR.2.2.2 i x hx
  have offb := off_mono (τ := τ) rs hx
  refine wT_isLeft (Nat.zero_le _) (bT_isLeft_0 ⟨by omega, ?_⟩)
  rw [y3]
  refine fa (bT_isLeft_10 ?_)
  intro I hI
  have key : ∀ n j : Nat, j + n = (tsR τ x.1 x.2).length → ∀ v : Int, (v = 0 ∨ v = 1) → (v = 1 ↔ ∃ e, e ∈ (tsR τ x.1 x.2).take j ∧ stn τ P e = 0 ∧ cod e.1 = c) → I v ((off τ rs i + j : Nat) : Int) σ := by
    intro n
    induction n with
    | zero =>
      intro j hj v h01 hv
      have hj : j = (tsR τ x.1 x.2).length := by omega
      refine hI _ _ _ ?_
      rw [w32_s (by omega) (by omega), show ((i : Int) + 1) = ((i + 1 : Nat) : Int) by omega, to1]
      refine ⟨by omega, br1 (by omega) (bT_isLeft_60 (call := wpT d) ⟨h01, ?_⟩)⟩
      rw [hj, List.take_length] at hv
      by_cases z : lfC τ P x c
      · rw [lfI_1 z] at hQ
        rw [hv.mpr z]
        exact hQ
      · rw [lfI_0 z] at hQ
        have : v = 0 := by
          rcases h01 with q | q
          · exact q
          · exact absurd (hv.mp q) z
        rw [this]
        exact hQ
    | succ n ih =>
      intro j hj v h01 hv
      have hjl : j < (tsR τ x.1 x.2).length := by omega
      obtain ⟨e, he⟩ : ∃ e, (tsR τ x.1 x.2)[j]? = some e := ⟨(tsR τ x.1 x.2)[j], List.getElem?_eq_getElem hjl⟩
      have hee : (tsR τ x.1 x.2)[j] = e := (List.getElem?_eq_some_iff.mp he).2
      have hem : e ∈ tsR τ x.1 x.2 := List.mem_of_getElem? he
      obtain ⟨s1, s2⟩ := hS.2.2 hl j e he
      obtain ⟨t1, t2, t3⟩ := y4 j e he
      have n2 := hl.2 e hem
      have s012 := stn_le (τ := τ) (P := P) (e := e)
      refine hI _ _ _ ?_
      rw [w32_s (a := (i : Int) + 1) (by omega) (by omega), show ((i : Int) + 1) = ((i + 1 : Nat) : Int) by omega, to1]
      refine ⟨by omega, br0 (by omega) ⟨fun _ => ⟨by omega, fun _ => by omega⟩, fa (fa ?_)⟩⟩
      rw [w32_s (by omega) (by omega), t2]
      have tk : (tsR τ x.1 x.2).take (j + 1) = (tsR τ x.1 x.2).take j ++ [e] := by
        rw [List.take_succ_eq_append_getElem hjl, hee]
      have := ih (j + 1) (by omega) (if ¬ v = 0 ∨ (tA σ 69 ((off τ rs i + j : Nat) : Int) = 0 ∧ ((cod e.1 : Nat) : Int) = (c : Nat)) then 1 else 0) (by split <;> simp) (by
        rw [tk]
        constructor
        · intro q
          have q : ¬ v = 0 ∨ (tA σ 69 ((off τ rs i + j : Nat) : Int) = 0 ∧ ((cod e.1 : Nat) : Int) = (c : Nat)) := by
            refine Decidable.byContradiction (fun no => ?_)
            rw [if_neg no] at q
            exact absurd q (by decide)
          rcases q with q | q
          · obtain ⟨e', h1, h2⟩ := hv.mp (by omega)
            exact ⟨e', List.mem_append_left _ h1, h2⟩
          · refine ⟨e, List.mem_append_right _ (List.mem_singleton.mpr rfl), ?_, by omega⟩
            have : ¬ stn τ P e = 1 := fun y => by have := s2.mpr y; omega
            omega
        · rintro ⟨e', h1, h2, h3⟩
          rw [if_pos]
          rcases List.mem_append.mp h1 with g | g
          · left
            have := hv.mpr ⟨e', g, h2, h3⟩
            omega
          · right
            rw [List.mem_singleton.mp g] at h2 h3
            refine ⟨?_, by omega⟩
            rcases s1 with y | y
            · exact y
            · have := s2.mp y; omega)
      exact this
  exact key (tsR τ x.1 x.2).length 0 (by omega) 0 (Or.inl rfl) ⟨fun q => absurd q (by decide), fun ⟨e, h1, _⟩ => by simp at h1⟩
end ZLeft
