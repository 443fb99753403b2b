/-! the reference's trees: nodes are made -/
section ZTree7
variable {p b e d f : Nat} {w : CW} {τ σ ρ : TW} {rs : List (Nat × Nat)}
abbrev SMk : List Nat := [69, 70, 80, 81, 82, 83, 84, 85, 86, 87, 88, 89, 90, 91, 92, 93, 94, 95, 96, 97, 98, 99, 100, 101, 102, 103, 104, 105, 106, 107, 108]
/-- what is made lies at its place -/
def GF (base : Nat) (σ0 σ : TW) : Prop := FT SMk σ0 σ ∧ NFr σ0 σ base 0 121
theorem GF.tr {base : Nat} {σ0 σ' : TW} (h : GF base σ0 σ) (F : FT SMk σ σ') (N : NFr σ σ' base 0 121) : GF base σ0 σ' := ⟨h.1.trans F, fun g i h1 h2 h3 => (N g i h1 h2 h3).trans (h.2 g i h1 h2 h3)⟩
/-- a node and all behind it is made -/
def NOD (τ σ0 : TW) (f : Nat) (rs : List (Nat × Nat)) (wy base tot d : Nat) (I : Int → TW → Prop) (m : Nat) : Prop :=
  ∀ (P : Sp) (n s r : Nat) (σ : TW), GF base σ0 σ → KC σ P (base + n) → KO σ P (base + n) → PSd τ f P → P.length ≤ n → tA σ 86 (base + n : Nat) = -4 → tA σ 87 (base + n : Nat) = -4 → tI σ 93 = s → n + tsz τ rs wy m P + r = tot → s ≤ r → 121 ≤ n + m → n ≤ 119 → s ≤ 120 →
    (∀ σ', FT SMk σ σ' → TT τ σ' rs wy base m P n → NFr σ σ' base n (n + tsz τ rs wy m P) → (∀ g, g = 85 ∨ (88 ≤ g ∧ g ≤ 92) → tA σ' g (base + n : Nat) = tA σ g (base + n : Nat)) → (∀ g (i : Nat), 94 ≤ g → g ≤ 98 → i < s → tA σ' g i = tA σ g i) → tI σ' 93 = s → n + tsz τ rs wy m P ≤ 120 → I ((n + tsz τ rs wy m P : Nat) : Int) σ') →
    wpT (d + 5) 52 [ai ((base + n : Nat) : Int), ai (wy : Nat)] σ (zqV (fun u42 => I ((n + 1 : Nat) : Int) u42) zno)
theorem sum_ge {m wy : Nat} {cs : List (Br × Sp)} (hm : 1 ≤ m) : cs.length ≤ (cs.map (fun y => tsz τ rs wy m y.2)).sum := by
  obtain ⟨m', rfl⟩ : ∃ m', m = m' + 1 := ⟨m - 1, by omega⟩
  induction cs with
  | nil => exact Nat.le_refl 0
  | cons y cs ih =>
    have := tsz_pos (τ := τ) (rs := rs) (wy := wy) (m := m') (P := y.2)
    show cs.length + 1 ≤ tsz τ rs wy (m' + 1) y.2 + (cs.map (fun y => tsz τ rs wy (m' + 1) y.2)).sum
    omega
theorem mk_list {σ0 : TW} {wy base slot tot m : Nat} {Q : Int → TW → Prop} {I : Int → TW → Prop} (hC : CX τ f rs) (hI : MKL (d + 5) Q slot wy base I) (hF : 120 < tot → ∀ σ', GF base σ0 σ' → Q 0 σ') (hb : base ≤ 3600) (hm : 1 ≤ m) (hN : NOD τ σ0 f rs wy base tot d I m) : ∀ (cs : List (Br × Sp)) (n s r n0 : Nat) (P : Sp) (σ : TW), GF base σ0 σ → KC σ P (base + n0) → KO σ P (base + n0) → PSd τ f P → P.length ≤ n0 → n0 < n → (∀ y, y ∈ cs → y ∈ chd τ rs wy P) → NDR τ σ rs wy P (base + n0) → tI σ 93 = (s + cs.length : Nat) → (∀ i y, cs[i]? = some y → AHk σ (s + (cs.length - 1 - i)) (base + n0) y.1) → (tA σ 86 (base + n0 : Nat) = -4 ∨ ∃ l : Nat, tA σ 87 (base + n0 : Nat) = l ∧ base + n0 < l ∧ l < base + n) → n + (cs.map (fun y => tsz τ rs wy m y.2)).sum + r = tot → s ≤ r → 121 ≤ n + m → s ≤ 120 → n ≤ 120 → cs.length ≤ 100 →
    (∀ σ', FT SMk σ σ' → TTl (TT τ σ' rs wy base m) (tsz τ rs wy m) σ' base (base + n0) cs n → (∀ g (i : Nat), 80 ≤ g → g ≤ 92 → (i < base + n ∨ base + (n + (cs.map (fun y => tsz τ rs wy m y.2)).sum) ≤ i) → ¬ (g = 86 ∧ i = base + n0) → ¬ (g = 87 ∧ i = base + n0) → ¬ (g = 88 ∧ tA σ 86 (base + n0 : Nat) ≠ -4 ∧ (i : Int) = tA σ 87 (base + n0 : Nat)) → tA σ' g i = tA σ g i) → (tA σ' 86 (base + n0 : Nat) = if cs = [] then tA σ 86 (base + n0 : Nat) else if tA σ 86 (base + n0 : Nat) = -4 then ((base + n : Nat) : Int) else tA σ 86 (base + n0 : Nat)) → (cs ≠ [] → tA σ 86 (base + n0 : Nat) ≠ -4 → ∀ l : Nat, tA σ 87 (base + n0 : Nat) = l → tA σ' 88 l = ((base + n : Nat) : Int)) → (cs = [] → ∀ g (i : Nat), 80 ≤ g → g ≤ 92 → tA σ' g i = tA σ g i) → (∀ g (i : Nat), 94 ≤ g → g ≤ 98 → i < s → tA σ' g i = tA σ g i) → tI σ' 93 = s → n + (cs.map (fun y => tsz τ rs wy m y.2)).sum ≤ 120 → I ((n + (cs.map (fun y => tsz τ rs wy m y.2)).sum : Nat) : Int) σ') → I (n : Nat) σ := by
  intro cs
  induction cs with
  | nil =>
    intro n s r n0 P σ F hK hO hP hPl hn0 hch hD h93 hA hL htot hsr hm2 hs hn hcl hgo
    have := hgo σ (FT.refl _ _) trivial (fun _ _ _ _ _ _ _ _ => rfl) (by rw [if_pos rfl]) (fun q => absurd rfl q) (fun _ _ _ _ _ => rfl) (fun _ _ _ _ _ => rfl) h93 hn
    exact this
  | cons y cs ih =>
    intro n s r n0 P σ F hK hO hP hPl hn0 hch hD h93 hA hL htot hsr hm2 hs hn hcl hgo
    obtain ⟨u, hu⟩ : ∃ u, u = base + n0 := ⟨_, rfl⟩
    have es : ((y :: cs).map (fun y => tsz τ rs wy m y.2)).sum = tsz τ rs wy m y.2 + (cs.map (fun y => tsz τ rs wy m y.2)).sum := rfl
    have lc : (y :: cs).length = cs.length + 1 := rfl
    have ge := sum_ge (τ := τ) (rs := rs) (wy := wy) (cs := y :: cs) hm
    have ge2 := sum_ge (τ := τ) (rs := rs) (wy := wy) (cs := cs) hm
    rw [es, lc] at ge
    rw [es] at htot
    rw [es] at hgo
    rw [lc] at h93
    by_cases h120 : n + (s + (cs.length + 1)) ≤ 120
    · have hy := hch y (List.mem_cons_self ..)
      obtain ⟨ys, yo, yl⟩ := chd_sound hC hP hy
      have top := hA 0 y rfl
      rw [lc, show cs.length + 1 - 1 - 0 = cs.length by omega] at top
      refine mk_pop (d := d + 5) (s := s + cs.length) hI (by rw [h93]; rfl) (by omega) hb top yo (by omega) (by
        rcases hL with q | ⟨l, q1, q2, q3⟩
        · exact Or.inl q
        · exact Or.inr ⟨l, q1, q3⟩) (fun σ1 hpk => ?_)
      obtain ⟨F1, n1, ⟨x85, x89, x90, x91, x92, x86, x87, x88⟩, u86, u87, l88, oth⟩ := hpk
      rw [← hu] at hK hO hD hL hgo hA u86 u87 l88 oth x85
      have hux : u < base + n := by omega
      have o1 : ∀ g (i : Nat), i ≤ u → (g ≠ 86 ∧ g ≠ 87 ∧ g ≠ 88) → tA σ1 g i = tA σ g i := fun g i hi hg => oth g i (by omega) (fun q => hg.1 q.1) (fun q => hg.2.1 q.1) (fun q => hg.2.2 q.1)
      obtain ⟨K1, O1⟩ := hK.fr2 (ρ := σ1) hO (fun g i hg hi => o1 g i hi (by omega))
      have D1 : NDR τ σ1 rs wy P u := hD.in (fun g h1 h2 => o1 g u (Nat.le_refl _) (by omega))
      have hKy : KC σ1 y.2 (base + n) ∧ KO σ1 y.2 (base + n) := by
        rcases chd_step D1 hC hy with ⟨g, g1, g2, g3, g4, g5⟩ | ⟨π, g1, g2, g3⟩
        · rw [g1]
          exact ⟨⟨by omega, u, x85, g2, g3, g4, K1⟩, u, x85, hux, O1⟩
        · rw [g1]
          exact ⟨⟨by omega, u, x85, g2, g3, ⟨x89, x90, x91, x92⟩, K1⟩, u, x85, hux, O1⟩
      have FM1 : FT SMk σ σ1 := F1.mono (by decide)
      have G1 : GF base σ0 σ1 := F.tr FM1 (fun g i h1 h2 h3 => oth g i (by omega) (by omega) (by omega) (fun q => by
        rcases hL with q2 | ⟨l, q2, q3, q4⟩
        · exact q.2.1 q2
        · have := q.2.2
          omega))
      refine hN y.2 n (s + cs.length) ((cs.map (fun y => tsz τ rs wy m y.2)).sum + r) σ1 G1 hKy.1 hKy.2 ys (by omega) x86 x87 n1 (by omega) (by omega) hm2 (by omega) (by omega) (fun σ2 F2 T2 N2 R2 L2 n2 le2 => ?_)
      have zp : 1 ≤ tsz τ rs wy m y.2 := by
        obtain ⟨m', rfl⟩ : ∃ m', m = m' + 1 := ⟨m - 1, by omega⟩
        exact tsz_pos
      have k2 : ∀ g (i : Nat), 80 ≤ g → g ≤ 92 → i < base + n → tA σ2 g i = tA σ1 g i := fun g i h1 h2 h3 => N2 g i h1 h2 (Or.inl h3)
      obtain ⟨K2, O2⟩ := K1.fr2 (ρ := σ2) O1 (fun g i hg hi => k2 g i (by omega) (by omega) (by omega))
      have D2 : NDR τ σ2 rs wy P u := D1.in (fun g h1 h2 => k2 g u h1 (by omega) hux)
      have stk : ∀ g (i : Nat), 94 ≤ g → g ≤ 98 → i < s + cs.length → tA σ2 g i = tA σ g i := fun g i h1 h2 h3 => by
        rw [L2 g i h1 h2 h3]
        exact (F1 g (by simp; omega)).2 i
      have e86 : tA σ2 86 u = if tA σ 86 u = -4 then ((base + n : Nat) : Int) else tA σ 86 u := by rw [k2 86 u (by decide) (by decide) hux]; exact u86
      have ne86 : tA σ2 86 u ≠ -4 := by
        rw [e86]
        split
        · omega
        · assumption
      have e87 : tA σ2 87 u = ((base + n : Nat) : Int) := by rw [k2 87 u (by decide) (by decide) hux]; exact u87
      rw [hu] at K2 O2 D2 e87
      have := ih (n + tsz τ rs wy m y.2) s r n0 P σ2 (G1.tr F2 (fun g i h1 h2 h3 => N2 g i h1 h2 (by omega))) K2 O2 hP hPl (by omega) (fun y' hy' => hch y' (List.mem_cons_of_mem _ hy')) D2 n2 (fun i y' hy' => ?_) (Or.inr ⟨base + n, e87, by omega, by omega⟩) (by omega) hsr (by omega) hs le2 (by rw [lc] at hcl; omega) (fun σ3 F3 T3 N3 a86 a88 aN aS n3 le3 => ?_)
      · exact this
      · have := hA (i + 1) y' (by simpa using hy')
        have hil := (List.getElem?_eq_some_iff.mp hy').1
        rw [lc, show cs.length + 1 - 1 - (i + 1) = cs.length - 1 - i by omega] at this
        unfold AHk at this ⊢
        rw [stk 94 _ (by decide) (by decide) (by omega), stk 95 _ (by decide) (by decide) (by omega), stk 96 _ (by decide) (by decide) (by omega), stk 97 _ (by decide) (by decide) (by omega), stk 98 _ (by decide) (by decide) (by omega), ← hu]
        exact this
      · rw [← hu] at e87 T3 N3 a86 a88
        rw [Nat.add_assoc] at N3 ⊢
        -- what the rest leaves of the first child's subtree
        have k3 : ∀ g (i : Nat), 80 ≤ g → g ≤ 92 → i < base + (n + tsz τ rs wy m y.2) → ¬ (g = 86 ∧ i = u) → ¬ (g = 87 ∧ i = u) → ¬ (g = 88 ∧ i = base + n) → tA σ3 g i = tA σ2 g i := fun g i h1 h2 h3 h4 h5 h6 => N3 g i h1 h2 (Or.inl h3) h4 h5 (fun q => h6 ⟨q.1, by have := q.2.2; rw [e87] at this; omega⟩)
        have x3 : ∀ g, g = 85 ∨ (89 ≤ g ∧ g ≤ 92) → tA σ3 g (base + n : Nat) = tA σ1 g (base + n : Nat) := fun g hg => by
          rw [k3 g (base + n) (by omega) (by omega) (by omega) (by omega) (by omega) (by omega)]
          exact R2 g (by omega)
        refine hgo σ3 (FM1.trans (F2.trans F3)) ⟨?_, ?_, ?_, ?_, T3⟩ (fun g i h1 h2 h3 h4 h5 h6 => ?_) ?_ (fun _ hne l hl => ?_) (fun q => by cases q) (fun g i h1 h2 h3 => ?_) n3 (by omega)
        · rw [x3 85 (by decide)]; exact x85
        · rw [x3 89 (by decide), x3 90 (by decide), x3 91 (by decide), x3 92 (by decide)]
          exact ⟨x89, x90, x91, x92⟩
        · by_cases hcs : cs = []
          · rw [if_pos hcs, aN hcs 88 _ (by decide) (by decide), R2 88 (by decide)]
            exact x88
          · rw [if_neg hcs]
            exact a88 hcs ne86 (base + n) e87
        · refine TT.in m y.2 n (fun g h1 h2 => k3 g (base + n) h1 (by omega) (by omega) (by omega) (by omega) (by omega)) (fun g i h1 h2 h3 h4 => k3 g i h1 h2 (by omega) (by omega) (by omega) (by omega)) T2
        · have q1 : tA σ3 g i = tA σ2 g i := by
            rcases h3 with h3 | h3
            · exact k3 g i h1 h2 (by omega) h4 h5 (fun q => by omega)
            · exact N3 g i h1 h2 (Or.inr h3) h4 h5 (fun q => by have := q.2.2; rw [e87] at this; omega)
          have q2 : tA σ2 g i = tA σ1 g i := N2 g i h1 h2 (by omega)
          rw [q1, q2]
          exact oth g i (by omega) h4 h5 h6
        · rw [if_neg (by simp), a86, e86]
          by_cases hcs : cs = []
          · rw [if_pos hcs]
          · rw [if_neg hcs]
            by_cases z : tA σ 86 u = -4
            · rw [if_pos z, if_neg (by omega)]
            · rw [if_neg z, if_neg z]
        · have q0 : l < base + n ∧ u < l := by
            rcases hL with q | ⟨l', q1, q2, q3⟩
            · exact absurd q hne
            · omega
          rw [k3 88 l (by decide) (by decide) (by omega) (by omega) (by omega) (by omega), N2 88 l (by decide) (by decide) (Or.inl q0.1)]
          exact l88 l hne hl
        · rw [aS g i h1 h2 h3]
          exact stk g i h1 h2 (by omega)
    · have big : 120 < tot := by omega
      refine hI _ _ (br0 (by rw [h93]; omega) (br0 ?_ (bT_makes_66 (call := wpT (d + 5)) (hF big σ F))))
      rw [h93]
      have : w32 ((n : Int) + ((s + (cs.length + 1) : Nat) : Int)) = ((n + (s + (cs.length + 1)) : Nat) : Int) := by
        rw [lc] at hcl
        rw [w32_s (by omega) (by omega)]
        omega
      rw [this]
      omega
theorem mk_node {σ0 : TW} {wy base slot tot : Nat} {Q : Int → TW → Prop} {I : Int → TW → Prop} (hC : CX τ f rs) (hI : MKL (d + 5) Q slot wy base I) (hF : 120 < tot → ∀ σ', GF base σ0 σ' → Q 0 σ') (hb : base ≤ 3600) (hwy : wy ≤ 3) (h10 : 0 ≤ tI τ 10) (hsp : SPRs τ f rs) (hE : PE τ σ0) (h53 : ∀ i, tA σ0 53 i = tA τ 53 i) (hR : RLy τ σ0 rs) : ∀ m, NOD τ σ0 f rs wy base tot d I m := by
  intro m
  induction m with
  | zero => intro P n s r σ _ _ _ _ _ _ _ _ _ _ h1 h2; omega
  | succ m ih =>
    intro P n s r σ F hK hO hP hPl h86 h87 h93 htot hsr hm2 hn hs hgo
    have es : tsz τ rs wy (m + 1) P = 1 + ((chd τ rs wy P).map (fun x => tsz τ rs wy m x.2)).sum := rfl
    rw [es] at htot hgo
    have hE1 : PE τ σ := hE.trans (PE.ft F.1 (by decide))
    have h53' : ∀ i, tA σ 53 i = tA τ 53 i := fun i => by rw [(F.1 53 (by decide)).2]; exact h53 i
    have hR1 : RLy τ σ rs := hR.ft F.1 (by decide)
    refine sT_settle (d := d) hC hE1 h53' h10 hsp hP hR1 hK (by omega) h93 (by omega) hwy (fun σ1 F1 D1 n1 A1 o1 l1 c90 => ?_)
    have FM1 : FT SMk σ σ1 := F1.mono (by decide)
    have k1 : ∀ g (i : Nat), 85 ≤ g → g ≤ 92 → tA σ1 g i = tA σ g i := fun g i h1 h2 => (F1 g (by simp; omega)).2 i
    obtain ⟨K1, O1⟩ : KC σ1 P (base + n) ∧ KO σ1 P (base + n) := by
      have fr : ∀ g (i : Nat), g = 80 ∨ g = 81 ∨ g = 83 ∨ g = 85 ∨ (89 ≤ g ∧ g ≤ 92) → i < base + n → tA σ1 g i = tA σ g i := fun g i hg hi => by
        rcases (by omega : g ≤ 84 ∨ 85 ≤ g) with q | q
        · exact o1 g i (by omega) q (by omega)
        · exact k1 g i q (by omega)
      cases P with
      | nil => exact ⟨⟨hK.1, by rw [k1 85 _ (by decide) (by decide)]; exact hK.2⟩, trivial⟩
      | cons y P =>
        obtain ⟨u', p1, p2, p3⟩ := hO
        cases y with
        | inl g =>
          obtain ⟨h0, u, q1, q2, q3, q4, q5⟩ := hK
          have eu : u' = u := by omega
          subst eu
          obtain ⟨i1, i2⟩ := q5.fr2 (ρ := σ1) p3 (fun g i hg hi => fr g i hg (by omega))
          exact ⟨⟨h0, u', by rw [k1 85 _ (by decide) (by decide)]; exact q1, by rw [fr 80 u' (by decide) p2]; exact q2, by rw [fr 81 u' (by decide) p2]; exact q3, q4, i1⟩, u', by rw [k1 85 _ (by decide) (by decide)]; exact p1, p2, i2⟩
        | inr z =>
          obtain ⟨π, b⟩ := z
          obtain ⟨h0, u, q1, q2, q3, q4, q5⟩ := hK
          have eu : u' = u := by omega
          subst eu
          obtain ⟨i1, i2⟩ := q5.fr2 (ρ := σ1) p3 (fun g i hg hi => fr g i hg (by omega))
          exact ⟨⟨h0, u', by rw [k1 85 _ (by decide) (by decide)]; exact q1, by rw [fr 80 u' (by decide) p2]; exact q2, by rw [fr 83 u' (by decide) p2]; exact q3, by rw [k1 89 _ (by decide) (by decide), k1 90 _ (by decide) (by decide), k1 91 _ (by decide) (by decide), k1 92 _ (by decide) (by decide)]; exact q4, i1⟩, u', by rw [k1 85 _ (by decide) (by decide)]; exact p1, p2, i2⟩
    show I ((n + 1 : Nat) : Int) σ1
    refine mk_list (σ0 := σ0) (tot := tot) hC hI hF hb (by omega) ih (chd τ rs wy P) (n + 1) s r n P σ1 (F.tr FM1 (fun g i h1 h2 h3 => by
      rcases (by omega : g ≤ 84 ∨ 85 ≤ g) with q | q
      · exact o1 g i h1 q (by omega)
      · exact k1 g i q h2)) K1 O1 hP hPl (by omega) (fun y hy => hy) D1 n1 (fun i y hy => ?_) (Or.inl (by rw [k1 86 _ (by decide) (by decide)]; exact h86)) (by omega) hsr (by omega) hs (by omega) (by omega) (fun σ2 F2 T2 N2 a86 a88 aN aS n2 le2 => ?_)
    · have := A1 i y.1 (by rw [List.getElem?_map, hy]; rfl)
      rw [List.length_map] at this
      exact this
    · have e86 : tA σ1 86 (base + n : Nat) = -4 := by rw [k1 86 _ (by decide) (by decide)]; exact h86
      have en : n + 1 + ((chd τ rs wy P).map (fun y => tsz τ rs wy m y.2)).sum = n + (1 + ((chd τ rs wy P).map (fun x => tsz τ rs wy m x.2)).sum) := by omega
      rw [en] at le2 N2 ⊢
      have at1 : ∀ g, 80 ≤ g → g ≤ 92 → g ≠ 86 → g ≠ 87 → tA σ2 g (base + n : Nat) = tA σ1 g (base + n : Nat) := fun g h1 h2 h3 h4 => N2 g (base + n) h1 h2 (Or.inl (by omega)) (fun q => h3 q.1) (fun q => h4 q.1) (fun q => q.2.1 e86)
      refine hgo σ2 (FM1.trans F2) ⟨fun q => by omega, D1.in (fun g h1 h2 => at1 g h1 (by omega) (by omega) (by omega)), ?_, T2⟩ (fun g i h1 h2 h3 => ?_) (fun g hg => ?_) (fun g i h1 h2 h3 => ?_) n2 le2
      · rw [a86, e86]
        by_cases hc : chd τ rs wy P = []
        · rw [if_pos hc, if_pos hc]
        · rw [if_neg hc, if_neg hc, if_pos rfl]
      · rw [N2 g i h1 h2 (by omega) (by omega) (by omega) (fun q => q.2.1 e86)]
        rcases (by omega : g ≤ 84 ∨ 85 ≤ g) with q | q
        · exact o1 g i h1 q (by omega)
        · exact k1 g i q h2
      · rw [at1 g (by omega) (by omega) (by omega) (by omega)]
        exact k1 g _ (by omega) (by omega)
      · rw [aS g i h1 h2 h3]
        exact l1 g i h1 h2 h3
end ZTree7
