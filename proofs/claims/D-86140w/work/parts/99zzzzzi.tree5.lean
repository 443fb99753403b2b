/-! the reference's trees: the rows of nodes as a tree -/
section ZTree5
variable {p b e d f : Nat} {w : CW} {τ σ ρ : TW} {rs : List (Nat × Nat)}
/-- those behind a node, one behind the other -/
def TTl (T : Sp → Nat → Prop) (z : Sp → Nat) (σ : TW) (base u : Nat) : List (Br × Sp) → Nat → Prop
  | [], _ => True
  | y :: cs, c => tA σ 85 (base + c : Nat) = (u : Nat) ∧ (tA σ 89 (base + c : Nat) = y.1.1 ∧ tA σ 90 (base + c : Nat) = y.1.2.1 ∧ tA σ 91 (base + c : Nat) = y.1.2.2.1 ∧ tA σ 92 (base + c : Nat) = y.1.2.2.2) ∧ (tA σ 88 (base + c : Nat) = if cs = [] then -4 else ((base + (c + z y.2) : Nat) : Int)) ∧ T y.2 c ∧ TTl T z σ base u cs (c + z y.2)
/-- the tree behind some steps stands from the node n on -/
noncomputable def TT (τ σ : TW) (rs : List (Nat × Nat)) (wy base : Nat) : Nat → Sp → Nat → Prop
  | 0, _, _ => True
  | m + 1, P, n => (m = 0 → chd τ rs wy P = []) ∧ NDR τ σ rs wy P (base + n) ∧ (tA σ 86 (base + n : Nat) = if chd τ rs wy P = [] then -4 else ((base + (n + 1) : Nat) : Int)) ∧ TTl (TT τ σ rs wy base m) (tsz τ rs wy m) σ base (base + n) (chd τ rs wy P) (n + 1)
/-- nodes stay, but those from lo to hi -/
def NFr (σ ρ : TW) (base lo hi : Nat) : Prop := ∀ g (i : Nat), 80 ≤ g → g ≤ 92 → i < base + lo ∨ base + hi ≤ i → tA ρ g i = tA σ g i
/-- nodes from lo to hi stay -/
def NIn (σ ρ : TW) (base lo hi : Nat) : Prop := ∀ g (i : Nat), 80 ≤ g → g ≤ 92 → base + lo ≤ i → i < base + hi → tA ρ g i = tA σ g i
theorem NDR.in {wy : Nat} {P : Sp} {x : Nat} (h : NDR τ σ rs wy P x) (F : ∀ g, 80 ≤ g → g ≤ 84 → tA ρ g x = tA σ g x) : NDR τ ρ rs wy P x := by
  unfold NDR at h ⊢
  rw [F 80 (by decide) (by decide), F 81 (by decide) (by decide), F 82 (by decide) (by decide), F 83 (by decide) (by decide), F 84 (by decide) (by decide)]
  exact h
theorem TTl.in {T T' : Sp → Nat → Prop} {z : Sp → Nat} {base u : Nat} : ∀ (cs : List (Br × Sp)) (c : Nat), (∀ y, y ∈ cs → ∀ c', c ≤ c' → c' + z y.2 ≤ c + (cs.map (fun y => z y.2)).sum → T y.2 c' → T' y.2 c') → (∀ y, y ∈ cs → 1 ≤ z y.2) → NIn σ ρ base c (c + (cs.map (fun y => z y.2)).sum) → TTl T z σ base u cs c → TTl T' z ρ base u cs c := by
  intro cs
  induction cs with
  | nil => intro c _ _ _ _; trivial
  | cons y cs ih =>
    intro c hT h1 hN h
    have hz := h1 y (List.mem_cons_self ..)
    have es : ((y :: cs).map (fun y => z y.2)).sum = z y.2 + (cs.map (fun y => z y.2)).sum := rfl
    rw [es] at hN hT
    obtain ⟨a1, a2, a3, a4, a5⟩ := h
    have k : ∀ g, 80 ≤ g → g ≤ 92 → tA ρ g (base + c : Nat) = tA σ g (base + c : Nat) := fun g x1 x2 => hN g (base + c) x1 x2 (by omega) (by omega)
    refine ⟨by rw [k 85 (by decide) (by decide)]; exact a1, by rw [k 89 (by decide) (by decide), k 90 (by decide) (by decide), k 91 (by decide) (by decide), k 92 (by decide) (by decide)]; exact a2, by rw [k 88 (by decide) (by decide)]; exact a3, hT y (List.mem_cons_self ..) c (Nat.le_refl _) (by omega) a4, ih (c + z y.2) (fun y' hy' c' l1 l2 => hT y' (List.mem_cons_of_mem _ hy') c' (by omega) (by omega)) (fun y' hy' => h1 y' (List.mem_cons_of_mem _ hy')) (fun g i x1 x2 x3 x4 => hN g i x1 x2 (by omega) (by omega)) a5⟩
theorem tsz_pos {wy m : Nat} {P : Sp} : 1 ≤ tsz τ rs wy (m + 1) P := by unfold tsz; omega
theorem TT.in {wy base : Nat} : ∀ (m : Nat) (P : Sp) (n : Nat), (∀ g, 80 ≤ g → g ≤ 86 → tA ρ g (base + n : Nat) = tA σ g (base + n : Nat)) → NIn σ ρ base (n + 1) (n + tsz τ rs wy m P) → TT τ σ rs wy base m P n → TT τ ρ rs wy base m P n := by
  intro m
  induction m with
  | zero => intro P n _ _ _; trivial
  | succ m ih =>
    intro P n k hN h
    obtain ⟨h0, h1, h2, h3⟩ := h
    have es : tsz τ rs wy (m + 1) P = 1 + ((chd τ rs wy P).map (fun x => tsz τ rs wy m x.2)).sum := rfl
    rw [es] at hN
    refine ⟨h0, h1.in (fun g x1 x2 => k g x1 (by omega)), by rw [k 86 (by decide) (by decide)]; exact h2, ?_⟩
    cases m with
    | zero =>
      rw [h0 rfl]
      trivial
    | succ m =>
      exact TTl.in _ _ (fun y hy c' l1 l2 => ih y.2 c' (fun g x1 x2 => hN g (base + c') x1 (by omega) (by omega) (by have := tsz_pos (τ := τ) (rs := rs) (wy := wy) (m := m) (P := y.2); omega)) (fun g i x1 x2 x3 x4 => hN g i x1 x2 (by omega) (by omega))) (fun y hy => tsz_pos) (fun g i x1 x2 x3 x4 => hN g i x1 x2 (by omega) (by omega)) h3
/-- nodes above come before -/
def KO (σ : TW) : Sp → Nat → Prop
  | [], _ => True
  | _ :: P, x => ∃ u : Nat, tA σ 85 x = u ∧ u < x ∧ KO σ P u
theorem KC.fr2 : ∀ {P : Sp} {x : Nat}, KC σ P x → KO σ P x → (∀ g (i : Nat), g = 80 ∨ g = 81 ∨ g = 83 ∨ g = 85 ∨ (89 ≤ g ∧ g ≤ 92) → i ≤ x → tA ρ g i = tA σ g i) → KC ρ P x ∧ KO ρ P x := by
  intro P
  induction P with
  | nil =>
    intro x h o F
    exact ⟨⟨h.1, by rw [F 85 x (by decide) (Nat.le_refl _)]; exact h.2⟩, trivial⟩
  | cons y P ih =>
    intro x h o F
    obtain ⟨u', o1, o2, o3⟩ := o
    cases y with
    | inl g =>
      obtain ⟨h0, u, h1, h2, h3, h4, h5⟩ := h
      have eu : u' = u := by omega
      subst eu
      obtain ⟨i1, i2⟩ := ih h5 o3 (fun g i hg hi => F g i hg (by omega))
      exact ⟨⟨h0, u', by rw [F 85 x (by decide) (Nat.le_refl _)]; exact h1, by rw [F 80 u' (by decide) (by omega)]; exact h2, by rw [F 81 u' (by decide) (by omega)]; exact h3, h4, i1⟩, u', by rw [F 85 x (by decide) (Nat.le_refl _)]; exact o1, o2, i2⟩
    | inr z =>
      obtain ⟨π, b⟩ := z
      obtain ⟨h0, u, h1, h2, h3, h4, h5⟩ := h
      have eu : u' = u := by omega
      subst eu
      obtain ⟨i1, i2⟩ := ih h5 o3 (fun g i hg hi => F g i hg (by omega))
      exact ⟨⟨h0, u', by rw [F 85 x (by decide) (Nat.le_refl _)]; exact h1, by rw [F 80 u' (by decide) (by omega)]; exact h2, by rw [F 83 u' (by decide) (by omega)]; exact h3, by rw [F 89 x (by decide) (Nat.le_refl _), F 90 x (by decide) (Nat.le_refl _), F 91 x (by decide) (Nat.le_refl _), F 92 x (by decide) (Nat.le_refl _)]; exact h4, i1⟩, u', by rw [F 85 x (by decide) (Nat.le_refl _)]; exact o1, o2, i2⟩
/-- a step down from a node is as the node is told -/
theorem chd_step {wy : Nat} {P : Sp} {x : Nat} (h : NDR τ σ rs wy P x) (hC : CX τ f rs) {y : Br × Sp} (hy : y ∈ chd τ rs wy P) : (∃ g : Nat, y.2 = .inl g :: P ∧ tA σ 80 x = 2 ∧ tA σ 81 x = g ∧ g < 192 ∧ y.1 = (0, 0, 0, 0)) ∨ ∃ π, y.2 = .inr (π, y.1) :: P ∧ tA σ 80 x ≠ 2 ∧ tA σ 83 x = (cod π : Nat) := by
  obtain ⟨-, h⟩ := h
  unfold chd at hy
  cases hn : ndE τ rs P with
  | none => rw [hn] at hy; cases hy
  | some r =>
    rw [hn] at h hy
    simp only at h hy
    have hr : r ∈ rs := by
      unfold ndE rws at hn
      have := List.mem_of_mem_head? (by rw [hn]; rfl : r ∈ (fil (liv τ P) rs).head?)
      exact (mem_fil.mp this).1
    cases hc : chs τ wy P (rws τ rs P) (ask τ P r) with
    | none =>
      rw [hc] at h hy
      simp only at h hy
      by_cases g0 : tA τ 53 (r.1 : Nat) = 0
      · rw [if_pos g0] at hy; cases hy
      · rw [if_neg g0] at hy h
        have := List.mem_singleton.mp hy
        rw [this]
        exact Or.inl ⟨r.1, rfl, h.1, h.2.1, (hC.2.2.2 r hr).1, rfl⟩
    | some e =>
      rw [hc] at h hy
      simp only at h hy
      obtain ⟨b, hb, rfl⟩ := List.mem_map.mp hy
      refine Or.inr ⟨e.1, rfl, ?_, h.2.2⟩
      rw [h.1]
      unfold knd
      split
      · split
        · decide
        · split <;> decide
      · decide
/-- a step down is sound -/
theorem chd_sound {wy : Nat} {P : Sp} (hC : CX τ f rs) (hP : PSd τ f P) {y : Br × Sp} (hy : y ∈ chd τ rs wy P) : PSd τ f y.2 ∧ (y.1.2.2.2 = 0 ∨ y.1.2.2.2 = 1) ∧ y.2.length = P.length + 1 := by
  obtain ⟨⟨c1, c2, c3, c4⟩, c5, c6, c7⟩ := id hC
  unfold chd at hy
  cases hn : ndE τ rs P with
  | none => rw [hn] at hy; cases hy
  | some r =>
    rw [hn] at hy
    simp only at hy
    have hr : r ∈ rs ∧ liv τ P r := by
      unfold ndE rws at hn
      have := List.mem_of_mem_head? (by rw [hn]; rfl : r ∈ (fil (liv τ P) rs).head?)
      exact mem_fil.mp this
    cases hc : chs τ wy P (rws τ rs P) (ask τ P r) with
    | none =>
      rw [hc] at hy
      simp only at hy
      by_cases g0 : tA τ 53 (r.1 : Nat) = 0
      · rw [if_pos g0] at hy; cases hy
      · rw [if_neg g0] at hy
        have := List.mem_singleton.mp hy
        rw [this]
        exact ⟨hP, Or.inl rfl, rfl⟩
    | some e =>
      rw [hc] at hy
      simp only at hy
      obtain ⟨b, hb, rfl⟩ := List.mem_map.mp hy
      have hea : e ∈ ask τ P r := by
        have : ∀ (A : List (Pa × Nat)) (best : Pa × Nat), A.foldl (pck τ wy P (rws τ rs P)) best = best ∨ A.foldl (pck τ wy P (rws τ rs P)) best ∈ A := by
          intro A
          induction A with
          | nil => intro best; exact Or.inl rfl
          | cons a A ih =>
            intro best
            have hp : pck τ wy P (rws τ rs P) best a = a ∨ pck τ wy P (rws τ rs P) best a = best := by
              unfold pck
              split
              · exact Or.inl rfl
              · exact Or.inr rfl
            rw [List.foldl_cons]
            rcases ih (pck τ wy P (rws τ rs P) best a) with q | q
            · rcases hp with g | g
              · right; rw [q, g]; exact List.mem_cons_self ..
              · left; rw [q, g]
            · right; exact List.mem_cons_of_mem _ q
        cases hA : ask τ P r with
        | nil => rw [hA] at hc; cases hc
        | cons a A =>
          rw [hA] at hc
          injection hc with hc
          rcases this A a with q | q
          · rw [← hc, q]; exact List.mem_cons_self ..
          · rw [← hc]; exact List.mem_cons_of_mem _ q
      obtain ⟨m1, m2, m3⟩ := mem_fil.mp hea
      obtain ⟨-, -, m, hRP, hSo⟩ := c7 r hr.1
      obtain ⟨u1, u2, u3, u4, u5, u6, u7⟩ := hC.t hr.1 m1
      have ho : opn τ P e.1 := ask_opn c3 c1 c2 hP hRP hSo hr.2.2 e.1 e m1 rfl m3
      refine ⟨⟨hP, stn_0.mp m2, ho, u7, u6, ?_⟩, brs_o b hb, rfl⟩
      rw [← u4]
      unfold brs at hb
      split at hb
      · rcases List.mem_cons.mp hb with q | q
        · rw [q]; exact Or.inr (Or.inl rfl)
        · obtain ⟨k, hk, rfl⟩ := List.mem_map.mp q
          exact Or.inr (Or.inr ⟨k, rfl, List.mem_range.mp (mem_fil.mp hk).1⟩)
      · left; omega
end ZTree5
