/-! the reference's trees: how a test stands; what is left in a row -/
section ZStands
variable {p b e d f : Nat} {w : CW} {τ σ : TW}
theorem e_ofT (h : PE τ σ) (k o : Int) : ofT σ k o = ofT τ k o := by
  have : ∀ n k, upN σ n k = upN τ n k := by
    intro n
    induction n with
    | zero => intro k; rfl
    | succ n ih => intro k; unfold upN; rw [h.a (by decide) (by decide), ih]
  unfold ofT
  simp only [this]
theorem e_UnT (h : PE τ σ) (hU : UnT τ) : UnT σ := fun k hk => by
  rw [e_nK h] at hk
  have := hU k hk
  rw [h.a (by decide) (by decide)]
  exact this
theorem tss_lkp {P : Sp} (hP : PSd τ f P) : ∀ {x : Pa × Br}, x ∈ tss P → lkp P x.1 = some x.2 := by
  induction P with
  | nil => intro x h; cases h
  | cons y P ih =>
    intro x h
    cases y with
    | inl g => exact lkp_up hP (ih hP.tl h)
    | inr z =>
      obtain ⟨π, b⟩ := z
      rcases List.mem_cons.mp h with q | q
      · rw [q]; show (if π = π then some b else _) = _; rw [if_pos rfl]
      · exact lkp_up hP (ih hP.tl q)
theorem tss_none : ∀ {P : Sp} {c : Nat}, (∀ x, x ∈ tss P → cod x.1 ≠ c) → lkc P c = none := by
  intro P
  induction P with
  | nil => intro c _; rfl
  | cons y P ih =>
    intro c h
    cases y with
    | inl g => exact ih h
    | inr z =>
      obtain ⟨π, b⟩ := z
      show (if cod π = c then some b else lkc P c) = none
      rw [if_neg (h (π, b) (List.mem_cons_self ..))]
      exact ih (fun x hx => h x (List.mem_cons_of_mem _ hx))
theorem sT_stands {P : Sp} (hE : PE τ σ) (hU : UnT τ) (hP : PSd τ f P) (hk : KNW σ P) {t : Nat} {e : Pa × Nat} (ht : tA σ 66 t = tA τ 17 e.2 ∧ tA σ 67 t = (cod e.1 : Nat) ∧ tA σ 68 t = (e.2 : Nat)) (ht2 : t < 33000) (hq : e.2 < 1700) (hlk : lkc P (cod e.1) = lkp P e.1) (h17 : 1 ≤ tA τ 17 e.2 ∧ tA τ 17 e.2 ≤ 5) (h5 : tA τ 17 e.2 = 5 → 3 ≤ srP τ f e.1 ∧ ∃ o : Nat, tA τ 19 e.2 = o) {Q : Int → TW → Prop} (hQ : Q (stn τ P e : Nat) σ) : wpT (d + 3) 55 [ai t] σ (zqI Q zno) := by
  obtain ⟨k1, k2, k3, k4⟩ := hk
  obtain ⟨t1, t2, t3⟩ := ht
  have tt : 0 ≤ (t : Int) ∧ (t : Int) < 33000 := by omega
  have qq : 0 ≤ (e.2 : Int) ∧ (e.2 : Int) < 1700 := by omega
  refine wT_stands (Nat.zero_le _) (bT_stands_0 (bT_stands_5 ?_))
  intro I hI
  have key : ∀ n j : Nat, j + n = (tss P).length → ∀ x2 : Int, ((x2 = -4 ∧ ∀ i x, i < j → (tss P)[i]? = some x → cod x.1 ≠ cod e.1) ∨ ∃ (y : Nat) (b : Br), x2 = y ∧ y < 3900 ∧ lkc P (cod e.1) = some b ∧ tA σ 89 y = b.1 ∧ tA σ 90 y = b.2.1 ∧ tA σ 91 y = b.2.2.1 ∧ tA σ 92 y = b.2.2.2) → I x2 (j : Int) σ := by
    intro n
    induction n with
    | zero =>
      intro j hj x2 hx
      refine hI _ _ _ (br1 (by rw [k1]; omega) (bT_stands_45 ?_))
      rcases hx with ⟨x1, hno⟩ | ⟨y, b, x1, y1, y2, y3, y4, y5, y6⟩
      · refine br1 x1 ?_
        have : lkc P (cod e.1) = none := tss_none (fun x hx => by
          obtain ⟨i, hi, hx2⟩ := List.mem_iff_getElem.mp hx
          exact hno i x (by omega) (by rw [List.getElem?_eq_getElem hi, hx2]))
        rw [hlk] at this
        rw [stn_0.mpr this] at hQ
        exact hQ
      · have yy : 0 ≤ (y : Int) ∧ (y : Int) < 3900 := by omega
        rw [hlk] at y2
        refine br0 (by omega) ⟨tt, ?_⟩
        rw [t3, t1, x1]
        refine fa ⟨tt, ?_⟩
        rw [y3, y4, y5, y6, hE.a (by decide) (by decide), hE.a (by decide) (by decide), hE.a (by decide) (by decide)]
        have fin : ∀ v : Int, (v = 0 ∨ v = 1) → (v = 1 ↔ sat τ b e.2) → pT_stands_254 (wpT (d + 2)) Q v σ := fun v h01 hv => by
          refine bT_stands_254 (call := wpT (d + 2)) (fa ?_)
          by_cases hs : sat τ b e.2
          · rw [stn_1 y2 hs] at hQ
            rw [hv.mpr hs]
            exact hQ
          · rw [stn_2 y2 hs] at hQ
            have : v = 0 := by
              rcases h01 with q | q
              · exact q
              · exact absurd (hv.mp q) hs
            rw [this]
            exact hQ
        have it : ∀ (c : Prop) [Decidable c], ((if c then (1 : Int) else 0) = 0 ∨ (if c then (1 : Int) else 0) = 1) ∧ ((if c then (1 : Int) else 0) = 1 ↔ c) := fun c _ => by
          by_cases hc : c
          · rw [if_pos hc]; exact ⟨Or.inr rfl, fun _ => hc, fun _ => rfl⟩
          · rw [if_neg hc]; exact ⟨Or.inl rfl, fun q => absurd q (by decide), fun q => absurd q hc⟩
        refine ⟨fun q => ⟨yy, qq, fun _ => ⟨yy, qq⟩, fa (fin _ (it _).1 ((it _).2.trans ?_))⟩, fun q => ⟨yy, qq, fa (fin _ (it _).1 ((it _).2.trans ?_))⟩, fun q => ⟨yy, fun _ => ⟨yy, qq⟩, fa (fin _ (it _).1 ((it _).2.trans ?_))⟩, fun q => ⟨yy, fa (fin _ (it _).1 ((it _).2.trans ?_))⟩, fun n1 n2 n3 n4 => ⟨yy, ?_⟩⟩
        · constructor
          · intro g; exact Or.inl ⟨q, by omega, by omega⟩
          · rintro (g | g | g | g | g) <;> omega
        · constructor
          · intro g; exact Or.inr (Or.inl ⟨q, g⟩)
          · rintro (g | g | g | g | g) <;> omega
        · constructor
          · intro g; exact Or.inr (Or.inr (Or.inl ⟨q, g⟩))
          · rintro (g | g | g | g | g)
            · omega
            · omega
            · exact g.2
            · omega
            · omega
        · constructor
          · intro g; exact Or.inr (Or.inr (Or.inr (Or.inl ⟨q, g⟩)))
          · rintro (g | g | g | g | g) <;> omega
        · have q5 : tA τ 17 e.2 = 5 := by omega
          have sb := hP.br y2
          obtain ⟨h3, o, ho⟩ := h5 q5
          by_cases z : b.1 = -4
          · refine br1 z (bT_stands_251 (bT_stands_252 (fin 0 (Or.inl rfl) ⟨fun q => absurd q (by decide), fun hs => ?_⟩)))
            rcases hs with g | g | g | g | g
            · omega
            · omega
            · omega
            · omega
            · exact absurd z g.2.1
          · obtain ⟨k, z1, z2⟩ : ∃ k : Nat, b.1 = k ∧ k < nK τ := by
              rcases sb with g | g | g
              · omega
              · exact absurd g z
              · exact g
            refine br0 z ⟨yy, qq, ?_⟩
            rw [z1, ho]
            refine sT_isOf (e_UnT hE hU) (by rw [e_nK hE]; exact z2) ?_
            have e2 : ofB σ k o = ofB τ k o := by unfold ofB; rw [e_ofT hE]
            rw [e2]
            by_cases hs : ofT τ k o
            · rw [ofB_1 hs]
              refine br0 (by decide) (bT_stands_252 (fin 1 (Or.inr rfl) ⟨fun _ => ?_, fun _ => rfl⟩))
              exact Or.inr (Or.inr (Or.inr (Or.inr ⟨q5, z, by rw [z1, ho]; exact hs⟩)))
            · rw [ofB_0 hs]
              refine br1 rfl (bT_stands_251 (bT_stands_252 (fin 0 (Or.inl rfl) ⟨fun q => absurd q (by decide), fun hs2 => ?_⟩)))
              rcases hs2 with g | g | g | g | g
              · omega
              · omega
              · omega
              · omega
              · exact absurd (by rw [← z1, ← ho]; exact g.2.2) hs
    | succ n ih =>
      intro j hj x2 hx
      have hjl : j < (tss P).length := by omega
      obtain ⟨x, hxj⟩ : ∃ x, (tss P)[j]? = some x := ⟨(tss P)[j], List.getElem?_eq_getElem hjl⟩
      obtain ⟨s1, y, s2, s3, s4⟩ := k3 j x hxj
      rw [Nat.zero_add] at s1 s3
      have hmem : x ∈ tss P := List.mem_of_getElem? hxj
      refine hI _ _ _ (br0 (by rw [k1]; omega) ⟨by omega, tt, fun _ => by omega, fa (fa ?_)⟩)
      rw [w32_s (by omega) (by omega), s1, t2, s3]
      by_cases z : cod x.1 = cod e.1
      · rw [if_pos (by omega)]
        have := ih (j + 1) (by omega) (y : Int) (Or.inr ⟨y, x.2, rfl, s2, by rw [← z]; exact lkc_lkp hP (tss_lkp hP hmem), s4⟩)
        exact this
      · rw [if_neg (by omega)]
        have := ih (j + 1) (by omega) x2 (by
          rcases hx with ⟨x1, hno⟩ | hx
          · refine Or.inl ⟨x1, fun i x' hi hx' => ?_⟩
            rcases Nat.lt_or_ge i j with u | u
            · exact hno i x' u hx'
            · have : i = j := by omega
              rw [this, hxj] at hx'
              injection hx' with hx'
              rw [← hx']; exact z
          · exact Or.inr hx)
        exact this
  have := key (tss P).length 0 (by omega) (-4) (Or.inl ⟨rfl, fun i x hi => by omega⟩)
  exact this
end ZStands
