/-! the component's trees: what is known, above and below a node -/
section ZNodes
variable {p b e d f F M n wy : Nat} {wS w : CW} {τ : TW} {rs rows : List (Nat × Nat)} {ps : List Pa} {P : Sp} {O : List (Pa × Int)} {ro : Nat × Nat → Nat} {ru : Nat → Nat}
/-- what is known of all places but one -/
def KNx (p : Nat) (w : CW) (τ : TW) (f F M : Nat) (ps : List Pa) (P : Sp) (O : List (Pa × Int)) (π : Pa) : Prop := (∀ (i : Nat) ρ, ps[i]? = some ρ → ρ ≠ π → KN1 p w τ M (srP τ f ρ) i (lkp P ρ)) ∧ (fI w 105 (M + 3) = O.length ∧ O.length ≤ 120) ∧ ∀ (i : Nat) y, O[i]? = some y → y.1 ∈ ps ∧ aR w (M + 4) i = plo w F ps y.1 ∧ aI w (M + 5) i = y.2 ∧ ∃ b, lkp P y.1 = some b ∧ b.2.2.2 = 1
theorem KN.x {π : Pa} (h : KN p w τ f F M ps P O) : KNx p w τ f F M ps P O π := ⟨fun i ρ hi _ => h.1 i ρ hi, h.2⟩
theorem KNx.eq {w' : CW} {π : Pa} {i : Nat} (h : KNx p w τ f F M ps P O π) (hi : ps[i]? = some π) (hnd : ps.Nodup) (ea : (∀ k, aR w' (M + 4) k = aR w (M + 4) k) ∧ ∀ k, aI w' (M + 5) k = aI w (M + 5) k) (eb : ∀ r, M + 6 ≤ r → r ≤ M + 10 → ∀ k : Nat, k ≠ i → aI w' r k = aI w r k ∧ aR w' r k = aR w r k) (e5 : fI w' 105 (M + 3) = fI w 105 (M + 3)) (ep : ∀ π, π ∈ ps → plo w' F ps π = plo w F ps π) (ek : ∀ k, kd w' p k = kd w p k) : KNx p w' τ f F M ps P O π := by
  obtain ⟨h1, h2, h3⟩ := h
  refine ⟨fun j ρ hj hne => ?_, by rw [e5]; exact h2, fun j y hj => ?_⟩
  · have ji : j ≠ i := fun q => by rw [q, hi] at hj; exact hne (Option.some.inj hj).symm
    have := h1 j ρ hj hne
    unfold KN1 at this ⊢
    rw [(eb (M + 9) (by omega) (by omega) j ji).1, (eb (M + 10) (by omega) (by omega) j ji).1, (eb (M + 6) (by omega) (by omega) j ji).1, (eb (M + 7) (by omega) (by omega) j ji).2, (eb (M + 8) (by omega) (by omega) j ji).1]
    exact ⟨this.1, this.2.1, fun s b hb hn => by
      obtain ⟨k, k1, k2, k3⟩ := this.2.2.1 s b hb hn
      exact ⟨k, k1, k2, by rw [ek]; exact k3⟩, this.2.2.2⟩
  · have := h3 j y hj
    rw [ea.1, ea.2, ep _ this.1]
    exact this
theorem KNx.up {π : Pa} (h : KNx p w τ f F M ps P O π) (k : ∀ i : Nat, ps[i]? = some π → KN1 p w τ M (srP τ f π) i (lkp P π)) : KN p w τ f F M ps P O := by
  refine ⟨fun i ρ hi => ?_, h.2⟩
  by_cases q : ρ = π
  · rw [q] at hi ⊢; exact k i hi
  · exact h.1 i ρ hi q
theorem lkp_ne {π ρ : Pa} {b : Br} (h : ρ ≠ π) : lkp (.inr (π, b) :: P) ρ = lkp P ρ := by
  show (if π = ρ then some b else lkp P ρ) = _
  rw [if_neg (fun q => h q.symm)]
theorem lkp_eq {π : Pa} {b : Br} : lkp (.inr (π, b) :: P) π = some b := by
  show (if π = π then some b else lkp P π) = _
  rw [if_pos rfl]
theorem KNx.dn {π : Pa} {b : Br} (h : KNx p w τ f F M ps P O π) (h0 : lkp P π = none) (k : ∀ i : Nat, ps[i]? = some π → KN1 p w τ M (srP τ f π) i (some b)) : KN p w τ f F M ps (.inr (π, b) :: P) O := by
  refine ⟨fun i ρ hi => ?_, h.2.1, fun i y hi => ?_⟩
  · by_cases q : ρ = π
    · rw [q] at hi ⊢
      rw [lkp_eq]
      exact k i hi
    · rw [lkp_ne q]
      exact h.1 i ρ hi q
  · obtain ⟨a1, a2, a3, b', a4, a5⟩ := h.2.2 i y hi
    refine ⟨a1, a2, a3, b', ?_, a5⟩
    rw [lkp_ne (fun q => by rw [q, h0] at a4; cases a4)]
    exact a4
theorem KN.dx {π : Pa} {b : Br} (h : KN p w τ f F M ps (.inr (π, b) :: P) O) (hO : ∀ y, y ∈ O → ∃ b, lkp P y.1 = some b ∧ b.2.2.2 = 1) : KNx p w τ f F M ps P O π := by
  refine ⟨fun i ρ hi hne => ?_, h.2.1, fun i y hi => ?_⟩
  · have := h.1 i ρ hi
    rw [lkp_ne hne] at this
    exact this
  · obtain ⟨a1, a2, a3, -⟩ := h.2.2 i y hi
    exact ⟨a1, a2, a3, hO y (List.mem_of_getElem? hi)⟩
theorem KN.o (h : KN p w τ f F M ps P O) : ∀ y, y ∈ O → ∃ b, lkp P y.1 = some b ∧ b.2.2.2 = 1 := fun y hy => by
  obtain ⟨i, hi⟩ := List.getElem?_of_mem hy
  exact (h.2.2 i y hi).2.2.2
theorem chd_some {x : Nat × Nat} {e : Pa × Nat} (h1 : ndE τ rs P = some x) (h2 : chs τ wy P (rws τ rs P) (ask τ P x) = some e) : chd τ rs wy P = (brs τ P (rws τ rs P) e.1 (tA τ 18 e.2)).map (fun b => (b, .inr (e.1, b) :: P)) := by
  unfold chd
  simp only [h1, h2]
theorem chd_end {x : Nat × Nat} (h1 : ndE τ rs P = some x) (h2 : chs τ wy P (rws τ rs P) (ask τ P x) = none) : chd τ rs wy P = if tA τ 53 (x.1 : Nat) = 0 then [] else [((0, 0, 0, 0), .inl x.1 :: P)] := by
  unfold chd
  simp only [h1, h2]
theorem chd_none (h1 : ndE τ rs P = none) : chd τ rs wy P = [] := by
  unfold chd
  rw [h1]
theorem liv_tl {y : Nat ⊕ (Pa × Br)} (hP : PSd τ f (y :: P)) {x : Nat × Nat} (h : liv τ (y :: P) x) : liv τ P x := by
  refine ⟨fun q => h.1 ?_, fun e he q => h.2 e he ?_⟩
  · cases y with
    | inl g => exact List.mem_cons_of_mem _ q
    | inr z => exact q
  · cases hl : lkp P e.1 with
    | none => rw [stn_0.mpr hl] at q; cases q
    | some b =>
      have hu := lkp_up hP hl
      by_cases s : sat τ b e.2
      · rw [stn_1 hl s] at q; cases q
      · exact stn_2 hu s
/-- how a node is asked for -/
def NCX (p : Nat) (wS w : CW) (τ : TW) (f F : Nat) (ps : List Pa) (rs rows : List (Nat × Nat)) (ro : Nat × Nat → Nat) (ru : Nat → Nat) (M wy : Nat) (lim : Int) (m n A : Nat) (P : Sp) (O : List (Pa × Int)) : Prop := MW p wS w τ f F ps rs ro ru M ∧ KN p w τ f F M ps P O ∧ O.length ≤ n ∧ ARW w A rows ro ∧ (RWS τ rs rows P O ∧ (∀ x, x ∈ rows → x.1 ∉ gds P) ∧ rows = rws τ rs P ∧ PSd τ f P) ∧ (fI w 92 M = wy ∧ fI w 93 M = (n + 1 : Nat) ∧ n ≤ 119 ∧ 121 ≤ n + 1 + m) ∧ (lim ≤ mu w ∧ lim ≤ 5 * mz w) ∧ zm w + 187 + 232 * (120 - (n : Int)) ≤ lim
/-- a node, and all behind it, is made -/
def NCQ (p : Nat) (wS w : CW) (τ : TW) (f F : Nat) (ps : List Pa) (rs : List (Nat × Nat)) (ro : Nat × Nat → Nat) (ru : Nat → Nat) (M wy m n : Nat) (P : Sp) (O : List (Pa × Int)) (Q : Nat → CW → Prop) (X : Nat → CW → Prop) : Prop :=
  (∀ r w', n + tsz τ rs wy (m + 1) P ≤ 120 → MW p wS w' τ f F ps rs ro ru M → KN p w' τ f F M ps P O → Fr (MT M) w w' → (fI w' 92 M = wy ∧ fI w' 93 M = (n + tsz τ rs wy (m + 1) P : Nat)) → zm w' ≤ zm w + 187 + 232 * ((tsz τ rs wy (m + 1) P : Nat) - 1) → CTn p wS w' τ f F ps rs ro wy (cz w) (m + 1) P n r → Q r w') ∧ ∀ x w', 120 < n + tsz τ rs wy (m + 1) P → MKX p (MT M) w w' (187 + 232 * (120 - (n : Int))) x → X x w'
theorem tsz_s (m : Nat) : tsz τ rs wy (m + 1) P = 1 + ((chd τ rs wy P).map (fun y => tsz τ rs wy m y.2)).sum := rfl
/-- a child of a test: what its rows are -/
theorem NCX.kid {lim : Int} {m A : Nat} (h : NCX p wS w τ f F ps rs rows ro ru M wy lim m n A P O) {x : Nat × Nat} {e : Pa × Nat} (h1 : ndE τ rs P = some x) (h2 : chs τ wy P (rws τ rs P) (ask τ P x) = some e) (hs : tA τ 18 e.2 = srP τ f e.1) (h0 : lkp P e.1 = none) {j : Nat} {b : Br} (hb : (brs τ P rows e.1 (srP τ f e.1))[j]? = some b) {O' : List (Pa × Int)} (hO : ∀ y, y ∈ O → y ∈ O') (hO' : srP τ f e.1 = 2 → b.2.2.2 = 1 → ∀ t, t ∈ txs τ P rows e.1 → (e.1, t) ∈ O') : (chd τ rs wy P)[j]? = some (b, .inr (e.1, b) :: P) ∧ PSd τ f (.inr (e.1, b) :: P) ∧ RWS τ rs rows (.inr (e.1, b) :: P) O' ∧ (∀ x, x ∈ rows → x.1 ∉ gds (.inr (e.1, b) :: P)) ∧ fil (liv τ (.inr (e.1, b) :: P)) rows = rws τ rs (.inr (e.1, b) :: P) := by
  obtain ⟨hW, hK, hOl, hA, ⟨hR, hg, hr, hP⟩, -⟩ := h
  have hC := hW.1.2.2.1
  have ec := chd_some h1 h2
  rw [← hr, hs] at ec
  have hy : (chd τ rs wy P)[j]? = some (b, .inr (e.1, b) :: P) := by rw [ec, List.getElem?_map, hb]; rfl
  have hP' := (chd_sound hC hP (List.mem_of_getElem? hy)).1
  refine ⟨hy, hP', ⟨hR.1, fun z hz => ⟨(hR.2 z hz).1, ?_⟩⟩, hg, ?_⟩
  · rw [hr] at hz hb hO'
    exact DEC.step hC hz (hR.2 z (by rw [hr]; exact hz)).2 h0 (List.mem_of_getElem? hb) hO hO'
  · rw [hr]
    exact fil_fil (fun z hz => liv_tl hP' hz) rs
end ZNodes
