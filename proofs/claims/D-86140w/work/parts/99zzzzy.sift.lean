/-! the reference's trees: rows and tests that are left -/
section ZSift
variable {p b e d f : Nat} {w : CW} {τ σ : TW}
/-- the rows at hand are whole -/
def CX (τ : TW) (f : Nat) (rs : List (Nat × Nat)) : Prop := (UnT τ ∧ LfP τ ∧ nK τ ≤ 24 ∧ np τ ≤ 800) ∧ rs.length ≤ 40 ∧ off τ rs rs.length ≤ 32000 ∧ ∀ x, x ∈ rs → x.1 < 192 ∧ x.2 ≤ 40 ∧ ∃ m, RP τ x.1 m ∧ ∀ i c : Nat, (cks τ x.1)[i]? = some c → tA τ 18 c = tA τ 44 (3 * f + i : Nat)
/-- a row's flags: alive, which of its tests hold -/
def SF1 (τ σ : TW) (P : Sp) (rs : List (Nat × Nat)) (i : Nat) (x : Nat × Nat) : Prop := (tA σ 70 i = 0 ∨ tA σ 70 i = 1) ∧ (tA σ 70 i = 1 ↔ liv τ P x) ∧ (liv τ P x → ∀ j e, (tsR τ x.1 x.2)[j]? = some e → (tA σ 69 (off τ rs i + j : Nat) = 0 ∨ tA σ 69 (off τ rs i + j : Nat) = 1) ∧ (tA σ 69 (off τ rs i + j : Nat) = 1 ↔ stn τ P e = 1))
def SFS (τ σ : TW) (P : Sp) (rs : List (Nat × Nat)) : Prop := ∀ i x, rs[i]? = some x → SF1 τ σ P rs i x
/-- the first row alive -/
def FRl (τ : TW) (P : Sp) (rs : List (Nat × Nat)) (n : Nat) (v : Int) : Prop := (v = -4 ∧ ∀ i x, i < n → rs[i]? = some x → ¬ liv τ P x) ∨ ∃ i x, v = (i : Nat) ∧ i < n ∧ rs[i]? = some x ∧ liv τ P x ∧ ∀ i' x', i' < i → rs[i']? = some x' → ¬ liv τ P x'
theorem off_succ {rs : List (Nat × Nat)} {i : Nat} {x : Nat × Nat} (h : rs[i]? = some x) : off τ rs (i + 1) = off τ rs i + (tsR τ x.1 x.2).length := by
  have hl := (List.getElem?_eq_some_iff.mp h).1
  have hx : rs[i] = x := (List.getElem?_eq_some_iff.mp h).2
  unfold off
  rw [List.take_succ_eq_append_getElem hl, hx, List.map_append, List.sum_append]
  simp
theorem off_mn {rs : List (Nat × Nat)} {i j : Nat} (h : i ≤ j) : off τ rs i ≤ off τ rs j := by
  induction j with
  | zero => have : i = 0 := by omega
            subst this; exact Nat.le_refl _
  | succ j ih =>
    rcases Nat.lt_or_ge i (j + 1) with u | u
    · have := ih (by omega)
      cases hx : rs[j]? with
      | none =>
        have hj := List.getElem?_eq_none_iff.mp hx
        have : off τ rs (j + 1) = off τ rs j := by
          unfold off
          rw [List.take_of_length_le (by omega), List.take_of_length_le hj]
        omega
      | some x =>
        have := off_succ (τ := τ) hx
        omega
    · have : i = j + 1 := by omega
      subst this; exact Nat.le_refl _
theorem RLy.to {rs : List (Nat × Nat)} (h : RLy τ σ rs) {i : Nat} {x : Nat × Nat} (hx : rs[i]? = some x) : tA σ 64 ((i + 1 : Nat) : Int) = (off τ rs i + (tsR τ x.1 x.2).length : Nat) := by
  have hl := (List.getElem?_eq_some_iff.mp hx).1
  rw [← off_succ hx]
  rcases Nat.lt_or_ge (i + 1) rs.length with u | u
  · exact (h.2.2.2 (i + 1) rs[i + 1] (List.getElem?_eq_getElem u)).2.2.1
  · have : i + 1 = rs.length := by omega
    rw [this]
    exact h.2.2.1
theorem RLy.ft {S : List Nat} {ρ : TW} {rs : List (Nat × Nat)} (h : RLy τ σ rs) (F : FT S σ ρ) (hS : ∀ g, g ∈ S → (g < 61 ∨ 68 < g) ∧ g ≠ 17) : RLy τ ρ rs := by
  have n : ∀ g, (61 ≤ g ∧ g ≤ 68) ∨ g = 17 → tI ρ g = tI σ g ∧ ∀ i, tA ρ g i = tA σ g i := fun g hg => F g (fun hm => by have := hS g hm; omega)
  obtain ⟨h1, h2, h3, h4⟩ := h
  refine ⟨by rw [(n 61 (by decide)).1]; exact h1, by rw [(n 65 (by decide)).1]; exact h2, by rw [(n 64 (by decide)).2]; exact h3, fun i x hx => ?_⟩
  obtain ⟨a1, a2, a3, a4⟩ := h4 i x hx
  refine ⟨by rw [(n 62 (by decide)).2]; exact a1, by rw [(n 63 (by decide)).2]; exact a2, by rw [(n 64 (by decide)).2]; exact a3, fun j e he => ?_⟩
  rw [(n 66 (by decide)).2, (n 67 (by decide)).2, (n 68 (by decide)).2, (n 17 (by decide)).2]
  exact a4 j e he
/-- facts of a test of a row -/
theorem CX.t {rs : List (Nat × Nat)} (hC : CX τ f rs) {x : Nat × Nat} (hx : x ∈ rs) {e : Pa × Nat} (he : e ∈ tsR τ x.1 x.2) : e.2 < 800 ∧ (1 ≤ tA τ 17 e.2 ∧ tA τ 17 e.2 ≤ 5) ∧ (tA τ 17 e.2 = 5 → 3 ≤ srP τ f e.1 ∧ ∃ o : Nat, tA τ 19 e.2 = o ∧ o < nK τ) ∧ tA τ 18 e.2 = srP τ f e.1 ∧ okP e.1 ∧ e.1.length ≤ 7 ∧ e.1 ≠ [] := by
  obtain ⟨⟨c1, c2, c3, c4⟩, c5, c6, c7⟩ := hC
  obtain ⟨g1, g2, m, g3, g4⟩ := c7 x hx
  obtain ⟨⟨a1, a2, a3, a4, a5, n, a6⟩, k, i, s, b1, -⟩ := tsR_ext g3 he
  have so := tsR_sort g3 c3 g4 he
  have r0 := a6.1.2.1
  have r6 := a6.1.2.2.1
  refine ⟨by omega, ⟨by omega, by omega⟩, fun q => ?_, so, a1, a2, by rw [b1]; simp⟩
  have w5 := a6.2.2.2.2.2.2.2.1 q
  obtain ⟨w51, -, -, ⟨o, o1, o2, -⟩, -⟩ := w5
  exact ⟨by rw [← so]; exact w51, o, o1, o2⟩
theorem sT_sift {P : Sp} {rs : List (Nat × Nat)} (hC : CX τ f rs) (hE : PE τ σ) (hR : RLy τ σ rs) (hP : PSd τ f P) (hk : KNW σ P) {Q : Int → TW → Prop} (hQ : ∀ σ' v, FT [69, 70] σ σ' → SFS τ σ' P rs → FRl τ P rs rs.length v → Q v σ') : wpT (d + 4) 54 [] σ (zqI Q zno) := by
  obtain ⟨⟨c1, c2, c3, c4⟩, c5, c6, c7⟩ := id hC
  have zb01 : ∀ v : Int, v = 0 ∨ v = 1 → zb v = v := fun v h => by rcases h with h | h <;> rw [h] <;> rfl
  refine wT_sift (Nat.zero_le _) (bT_sift_0 (bT_sift_5 ?_))
  intro I hI
  have outer : ∀ n i : Nat, i + n = rs.length → ∀ (v : Int) (σ1 : TW), FT [69, 70] σ σ1 → (∀ i' x, i' < i → rs[i']? = some x → SF1 τ σ1 P rs i' x) → FRl τ P rs i v → I v (i : Int) σ1 := by
    intro n
    induction n with
    | zero =>
      intro i hi v σ1 F hS hv
      have hi : i = rs.length := by omega
      subst hi
      have hR1 := hR.ft F (by decide)
      refine hI _ _ _ (br1 (by rw [hR1.1]; exact Int.le_refl _) (bT_sift_140 (call := wpT (d + 3)) (hQ σ1 v F (fun i' x hx => hS i' x (List.getElem?_eq_some_iff.mp hx).1 hx) hv)))
    | succ n ih =>
      intro i hi v σ1 F hS hv
      have hil : i < rs.length := by omega
      obtain ⟨x, hx⟩ : ∃ x, rs[i]? = some x := ⟨rs[i], List.getElem?_eq_getElem hil⟩
      have hxm : x ∈ rs := List.mem_of_getElem? hx
      obtain ⟨x1, x2, m, hRP, hSo⟩ := c7 x hxm
      have hR1 := hR.ft F (by decide)
      obtain ⟨y1, y2, y3, y4⟩ := hR1.2.2.2 i x hx
      have lenT := tsR_len (way := x.2) hRP
      have offb := off_mono (τ := τ) rs hx
      have to1 := hR1.to hx
      have gd : tA σ1 108 (x.1 : Nat) = if x.1 ∈ gds P then 1 else 0 := by rw [(F 108 (by decide)).2]; exact hk.2.2.2 x.1 x1
      refine hI _ _ _ (br0 (by rw [hR1.1]; omega) ⟨by omega, by rw [y1]; omega, ?_⟩)
      rw [y1, gd]
      refine fa ⟨by omega, fa ⟨by omega, ?_⟩⟩
      have e64 : ∀ a, tA (sA σ1 70 i a) 64 i = (off τ rs i : Nat) := fun a => y3
      rw [e64]
      refine fa (bT_sift_45 ?_)
      intro J hJ
      -- what follows a row
      have done : ∀ (σ2 : TW) (t : Int), FT [69, 70] σ σ2 → (∀ i' x, i' < i → rs[i']? = some x → SF1 τ σ2 P rs i' x) → SF1 τ σ2 P rs i x → pT_sift_113 (wpT (d + 3)) (fun v w => zqI Q zno (.inl (some (ai v))) w) I v i σ2 := by
        intro σ2 t F2 hS2 hS3
        refine bT_sift_113 (call := wpT (d + 3)) ⟨fun _ => by omega, fa (fa ?_)⟩
        rw [w32_s (by omega) (by omega)]
        have := ih (i + 1) (by omega) (if v = -4 ∧ ¬ (tA σ2 70 i = 0) then (i : Int) else v) σ2 F2 (fun i' x' h1 h2 => by
          rcases Nat.lt_or_ge i' i with u | u
          · exact hS2 i' x' u h2
          · have : i' = i := by omega
            subst this
            rw [hx] at h2
            injection h2 with h2
            rw [← h2]; exact hS3) (by
          obtain ⟨a1, a2, a3⟩ := hS3
          rcases hv with ⟨v1, v2⟩ | ⟨i', x', v1, v2, v3, v4, v5⟩
          · by_cases hl : liv τ P x
            · have : tA σ2 70 i = 1 := a2.mpr hl
              rw [if_pos ⟨v1, by omega⟩]
              exact Or.inr ⟨i, x, rfl, by omega, hx, hl, fun i' x' h1 h2 => v2 i' x' h1 h2⟩
            · have : tA σ2 70 i = 0 := by
                rcases a1 with q | q
                · exact q
                · exact absurd (a2.mp q) hl
              rw [if_neg (fun q => q.2 this)]
              refine Or.inl ⟨v1, fun i' x' h1 h2 => ?_⟩
              rcases Nat.lt_or_ge i' i with u | u
              · exact v2 i' x' u h2
              · have : i' = i := by omega
                subst this
                rw [hx] at h2
                injection h2 with h2
                rw [← h2]; exact hl
          · rw [if_neg (fun q => by omega)]
            exact Or.inr ⟨i', x', v1, by omega, v3, v4, v5⟩)
        exact this
      have inner : ∀ n2 j : Nat, j + n2 = (tsR τ x.1 x.2).length → ∀ σ2, FT [69, 70] σ σ2 → (∀ i' x, i' < i → rs[i']? = some x → SF1 τ σ2 P rs i' x) → (tA σ2 70 i = 0 ∨ tA σ2 70 i = 1) → (tA σ2 70 i = 1 ↔ x.1 ∉ gds P ∧ ∀ e, e ∈ (tsR τ x.1 x.2).take j → stn τ P e ≠ 2) → (tA σ2 70 i = 1 → ∀ j' e, j' < j → (tsR τ x.1 x.2)[j']? = some e → (tA σ2 69 (off τ rs i + j' : Nat) = 0 ∨ tA σ2 69 (off τ rs i + j' : Nat) = 1) ∧ (tA σ2 69 (off τ rs i + j' : Nat) = 1 ↔ stn τ P e = 1)) → J ((off τ rs i + j : Nat) : Int) σ2 := by
        intro n2
        induction n2 with
        | zero =>
          intro j hj σ2 F2 hS2 h01 hal hfl
          have hj : j = (tsR τ x.1 x.2).length := by omega
          have to2 := (hR.ft F2 (by decide)).to hx
          refine hJ _ _ ?_
          rw [w32_s (by omega) (by omega), show ((i : Int) + 1) = ((i + 1 : Nat) : Int) by omega, to2]
          rw [hj, List.take_length] at hal
          refine ⟨by omega, fun q => by omega, br0 (fun q => q.1 (by omega)) (done σ2 0 F2 hS2 ⟨h01, hal, fun hl j' e he => hfl (hal.mpr hl) j' e ?_ he⟩)⟩
          rw [hj]
          exact (List.getElem?_eq_some_iff.mp he).1
        | succ n2 ih2 =>
          intro j hj σ2 F2 hS2 h01 hal hfl
          have hjl : j < (tsR τ x.1 x.2).length := by omega
          obtain ⟨e, he⟩ : ∃ e, (tsR τ x.1 x.2)[j]? = some e := ⟨(tsR τ x.1 x.2)[j], List.getElem?_eq_getElem hjl⟩
          have hem : e ∈ tsR τ x.1 x.2 := List.mem_of_getElem? he
          have hee : (tsR τ x.1 x.2)[j] = e := (List.getElem?_eq_some_iff.mp he).2
          have to2 := (hR.ft F2 (by decide)).to hx
          have rows2 := (hR.ft F2 (by decide)).2.2.2 i x hx
          refine hJ _ _ ?_
          rw [w32_s (a := (i : Int) + 1) (by omega) (by omega), show ((i : Int) + 1) = ((i + 1 : Nat) : Int) by omega, to2]
          by_cases a0 : tA σ2 70 i = 0
          · refine ⟨by omega, fun q => by omega, br0 (fun q => q.2 a0) (done σ2 0 F2 hS2 ⟨h01, ⟨fun q => by omega, fun hl => ?_⟩, fun hl => ?_⟩)⟩
            · refine hal.mpr ⟨hl.1, fun e' he' => hl.2 e' (List.mem_of_mem_take he')⟩
            · have := hal.mpr ⟨hl.1, fun e' he' => hl.2 e' (List.mem_of_mem_take he')⟩
              omega
          · have a1 : tA σ2 70 i = 1 := by rcases h01 with q | q; exact absurd q a0; exact q
            obtain ⟨al1, al2⟩ := hal.mp a1
            have spl : tsR τ x.1 x.2 = (tsR τ x.1 x.2).take j ++ e :: (tsR τ x.1 x.2).drop (j + 1) := by
              rw [← hee, ← List.drop_eq_getElem_cons hjl, List.take_append_drop]
            have hlk := lk2 c1 c2 hP hRP spl al2
            obtain ⟨t1, t2, t3, t4, t5, t6, t7⟩ := hC.t hxm hem
            refine ⟨by omega, fun q => by omega, br1 ⟨by omega, a0⟩ ?_⟩
            have tt := rows2.2.2.2 j e he
            have F70 : FT [69, 70] σ σ2 := F2
            have hk2 : KNW σ2 P := by
              obtain ⟨k1, k2, k3, k4⟩ := hk
              have n : ∀ g, g ≠ 69 → g ≠ 70 → tI σ2 g = tI σ g ∧ ∀ i, tA σ2 g i = tA σ g i := fun g h1 h2 => F2 g (by simp; omega)
              refine ⟨by rw [(n 105 (by decide) (by decide)).1]; exact k1, k2, fun j' x' hx' => ?_, fun R hR => by rw [(n 108 (by decide) (by decide)).2]; exact k4 R hR⟩
              obtain ⟨s1, y, s2, s3, s4⟩ := k3 j' x' hx'
              refine ⟨by rw [(n 106 (by decide) (by decide)).2]; exact s1, y, s2, by rw [(n 107 (by decide) (by decide)).2]; exact s3, ?_⟩
              rw [(n 89 (by decide) (by decide)).2, (n 90 (by decide) (by decide)).2, (n 91 (by decide) (by decide)).2, (n 92 (by decide) (by decide)).2]
              exact s4
            have hE2 : PE τ σ2 := hE.trans (PE.ft F2 (by decide))
            refine sT_stands (d := d) hE2 c1 hP hk2 (t := off τ rs i + j) (e := e) ⟨by rw [tt.1, hE2.a (by decide) (by decide)], tt.2.1, tt.2.2⟩ (by omega) (by omega) hlk t2 (fun q => ⟨(t3 q).1, by obtain ⟨o, o1, -⟩ := (t3 q).2; exact ⟨o, o1⟩⟩) ?_
            obtain ⟨s, hs⟩ : ∃ s, s = stn τ P e := ⟨_, rfl⟩
            rw [← hs]
            have s012 := stn_le (τ := τ) (P := P) (e := e)
            rw [← hs] at s012
            refine fa ⟨by omega, fa (fa ⟨by omega, fa (fa ?_)⟩)⟩
            rw [w32_s (by omega) (by omega)]
            obtain ⟨v13, h13⟩ : ∃ v : Int, v = (if ((s : Nat) : Int) = 1 then 1 else 0) := ⟨_, rfl⟩
            obtain ⟨v16, h16⟩ : ∃ v : Int, v = (if ¬ (((s : Nat) : Int) = 2) then 1 else 0) := ⟨_, rfl⟩
            have z13 : v13 = 0 ∨ v13 = 1 := by rw [h13]; split <;> simp
            have z16 : v16 = 0 ∨ v16 = 1 := by rw [h16]; split <;> simp
            have i13 : v13 = 1 ↔ s = 1 := by rw [h13]; split <;> omega
            have i16 : v16 = 1 ↔ s ≠ 2 := by rw [h16]; split <;> omega
            rw [← h13, ← h16, zb01 _ z13, zb01 _ z16]
            obtain ⟨σ3, hσ3⟩ : ∃ σ3, σ3 = sA (sA σ2 69 ((off τ rs i + j : Nat) : Int) v13) 70 (i : Nat) v16 := ⟨_, rfl⟩
            have F3 : FT [69, 70] σ2 σ3 := by rw [hσ3]; exact ((FT.refl _ _).ssA (by decide)).ssA (by decide)
            have o69 : ∀ t : Nat, tA σ3 69 t = if t = off τ rs i + j then v13 else tA σ2 69 t := fun t => by
              rw [hσ3, tA_sA, if_neg (by omega), tA_sA]
              by_cases q : t = off τ rs i + j
              · rw [if_pos ⟨rfl, by omega⟩, if_pos q]
              · rw [if_neg (by omega), if_neg q]
            have o70 : ∀ r : Nat, tA σ3 70 r = if r = i then v16 else tA σ2 70 r := fun r => by
              rw [hσ3, tA_sA]
              by_cases q : r = i
              · rw [if_pos ⟨rfl, by omega⟩, if_pos q]
              · rw [if_neg (by omega), if_neg q, tA_sA, if_neg (by omega)]
            have tk : (tsR τ x.1 x.2).take (j + 1) = (tsR τ x.1 x.2).take j ++ [e] := by
              rw [List.take_succ_eq_append_getElem hjl, hee]
            have := ih2 (j + 1) (by omega) σ3 (F2.trans F3) (fun i' x' h1 h2 => ?_) (by rw [o70, if_pos rfl]; exact z16) (by
              rw [o70, if_pos rfl, i16, tk]
              constructor
              · intro q
                refine ⟨al1, fun e' he' => ?_⟩
                rcases List.mem_append.mp he' with g | g
                · exact al2 e' g
                · rw [List.mem_singleton.mp g, ← hs]; exact q
              · intro q
                have := q.2 e (List.mem_append_right _ (List.mem_singleton.mpr rfl))
                rw [← hs] at this
                exact this) (fun _ j' e' hj' he' => ?_)
            · rw [hσ3] at this
              exact this
            · obtain ⟨g1, g2, g3⟩ := hS2 i' x' h1 h2
              have om := off_mono (τ := τ) rs h2
              have os := off_succ (τ := τ) h2
              have ol := off_mn (τ := τ) (rs := rs) (show i' + 1 ≤ i by omega)
              refine ⟨by rw [o70, if_neg (by omega)]; exact g1, by rw [o70, if_neg (by omega)]; exact g2, fun hl j' e' he' => ?_⟩
              have hj' := (List.getElem?_eq_some_iff.mp he').1
              rw [o69, if_neg (by omega)]
              exact g3 hl j' e' he'
            · rw [o69]
              by_cases q : j' = j
              · subst q
                rw [he] at he'
                injection he' with he'
                rw [if_pos rfl, ← he']
                exact ⟨z13, i13.trans (by rw [← hs])⟩
              · rw [if_neg (by omega)]
                exact hfl a1 j' e' (by omega) he'
      have z4 : (if (if x.1 ∈ gds P then (1 : Int) else 0) = 0 then (1 : Int) else 0) = if x.1 ∈ gds P then 0 else 1 := by
        by_cases q : x.1 ∈ gds P
        · rw [if_pos q, if_pos q]; rfl
        · rw [if_neg q, if_neg q]; rfl
      rw [z4]
      have zz : (if x.1 ∈ gds P then (0 : Int) else 1) = 0 ∨ (if x.1 ∈ gds P then (0 : Int) else 1) = 1 := by split <;> simp
      rw [zb01 _ zz]
      have F1 : FT [69, 70] σ1 (sA σ1 70 i (if x.1 ∈ gds P then 0 else 1)) := (FT.refl _ _).ssA (by decide)
      have e70 : tA (sA σ1 70 i (if x.1 ∈ gds P then 0 else 1)) 70 (i : Nat) = (if x.1 ∈ gds P then 0 else 1) := by
        rw [tA_sA, if_pos ⟨rfl, rfl⟩]
      have := inner (tsR τ x.1 x.2).length 0 (by omega) (sA σ1 70 i (if x.1 ∈ gds P then 0 else 1)) (F.trans F1) (fun i' x' h1 h2 => by
        obtain ⟨g1, g2, g3⟩ := hS i' x' h1 h2
        have e7 : tA (sA σ1 70 i (if x.1 ∈ gds P then 0 else 1)) 70 (i' : Nat) = tA σ1 70 i' := by
          rw [tA_sA, if_neg (by omega)]
        exact ⟨by rw [e7]; exact g1, by rw [e7]; exact g2, fun hl j' e' he' => g3 hl j' e' he'⟩) (by rw [e70]; exact zz) (by
        rw [e70]
        constructor
        · intro q
          refine ⟨fun h => by rw [if_pos h] at q; exact absurd q (by decide), fun e he => by simp at he⟩
        · intro q
          rw [if_neg q.1]) (fun _ j' e hj' => by omega)
      exact this
  exact outer rs.length 0 (by omega) (-4) σ (FT.refl _ _) (fun i' x h => by omega) (Or.inl ⟨rfl, fun i x h => by omega⟩)
end ZSift
