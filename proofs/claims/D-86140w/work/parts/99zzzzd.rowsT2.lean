/-! the reference's rows: the next pattern -/
section ZRowsT2
variable {p b e d : Nat} {w : CW} {τ : TW}
def no1 (τ : TW) (q : Nat) (v : Int) : TW := if tA τ 24 q = -4 then τ else sA τ 118 (tA τ 24 q) v
def noT (τ : TW) (q : Nat) (v : Int) : TW := if v < 0 then τ else if tA τ 25 q = -4 then no1 τ q v else sA (no1 τ q v) 118 (tA τ 25 q) v
theorem no1_ft (q : Nat) (v : Int) : FT [118] τ (no1 τ q v) := by
  unfold no1
  split
  · exact FT.refl _ _
  · exact (FT.refl _ _).ssA (by decide)
theorem noT_ft (q : Nat) (v : Int) : FT [118] τ (noT τ q v) := by
  unfold noT
  split
  · exact FT.refl _ _
  · split
    · exact no1_ft q v
    · exact (no1_ft q v).ssA (by decide)
theorem sT_notes {q : Nat} {v : Int} (hq : q < 1700) (h1 : tA τ 24 q = -4 ∨ (0 ≤ tA τ 24 q ∧ tA τ 24 q < 8)) (h2 : tA τ 25 q = -4 ∨ (0 ≤ tA τ 25 q ∧ tA τ 25 q < 8)) {Q : ZRes → TW → Prop} (hQ : Q (.inl none) (noT τ q v)) : wpT (d + 1) 51 [ai q, ai v] τ Q := by
  have second : ∀ σ, σ = no1 τ q v → ¬ (v < 0) → pT_notes_27 (wpT d) (fun w => Q (.inl none) w) q v σ := by
    intro σ hσ hv
    have e25 : tA σ 25 q = tA τ 25 q := by rw [hσ]; exact (no1_ft q v 25 (by decide)).2 _
    refine bT_notes_27 ?_
    rw [e25]
    unfold noT at hQ
    rw [if_neg hv] at hQ
    by_cases z : tA τ 25 q = -4
    · rw [if_pos z] at hQ
      refine ⟨fun _ => ⟨by omega, by omega⟩, br0 (fun y => y.2 z) (bT_notes_54 (call := wpT d) ?_)⟩
      rw [hσ]; exact hQ
    · rw [if_neg z] at hQ
      refine ⟨fun _ => ⟨by omega, by omega⟩, br1 ⟨hv, z⟩ ⟨⟨by omega, by omega⟩, by omega, fa (bT_notes_54 (call := wpT d) ?_)⟩⟩
      rw [hσ]; exact hQ
  refine wT_notes (Nat.zero_le _) (bT_notes_0 ⟨fun _ => ⟨by omega, by omega⟩, ?_⟩)
  by_cases hv : v < 0
  · refine br0 (fun y => y.1 hv) (bT_notes_27 ⟨fun _ => ⟨by omega, by omega⟩, br0 (fun y => y.1 hv) (bT_notes_54 (call := wpT d) ?_)⟩)
    unfold noT at hQ
    rw [if_pos hv] at hQ
    exact hQ
  · by_cases z : tA τ 24 q = -4
    · exact br0 (fun y => y.2 z) (second τ (by unfold no1; rw [if_pos z]) hv)
    · exact br1 ⟨hv, z⟩ ⟨⟨by omega, by omega⟩, by omega, fa (second _ (by unfold no1; rw [if_neg z]) hv)⟩
def selD (τ : TW) : Nat → Nat → Nat → Nat × Nat
  | 0, q, w => (q, w)
  | n + 1, q, w => if tA τ 17 q = 6 then selD τ n (selA τ (kids τ q) w).1 (selA τ (kids τ q) w).2 else (q, w)
def ndT (τ0 : TW) : Nat → TW → Nat → Nat → Int → TW
  | 0, τ, _, _, _ => τ
  | n + 1, τ, q, w, v => if tA τ0 17 q = 6 then ndT τ0 n (noT τ q v) (selA τ0 (kids τ0 q) w).1 (selA τ0 (kids τ0 q) w).2 v else τ
theorem ndT_ft {τ0 : TW} {v : Int} : ∀ n (τ : TW) q w, FT [118] τ (ndT τ0 n τ q w v) := by
  intro n
  induction n with
  | zero => intro τ q w; exact FT.refl _ _
  | succ n ih =>
    intro τ q w
    unfold ndT
    split
    · exact (noT_ft q v).trans (ih _ _ _)
    · exact FT.refl _ _
theorem ndT_neg {τ0 : TW} {v : Int} (hv : v < 0) : ∀ n (τ : TW) q w, ndT τ0 n τ q w v = τ := by
  intro n
  induction n with
  | zero => intro τ q w; rfl
  | succ n ih =>
    intro τ q w
    have e : noT τ q v = τ := by unfold noT; rw [if_pos hv]
    unfold ndT
    split
    · rw [e]; exact ih _ _ _
    · rfl
theorem selA_ok : ∀ (cs : List Nat) (x : Nat), x < suN τ cs → (selA τ cs x).1 ∈ cs ∧ (selA τ cs x).2 < rw' τ (selA τ cs x).1 := by
  intro cs
  induction cs with
  | nil => intro x h; exact absurd h (by simp [suN])
  | cons c cs ih =>
    intro x h
    unfold selA
    by_cases z : x < rw' τ c
    · rw [if_pos z]
      exact ⟨List.mem_cons_self .., z⟩
    · rw [if_neg z]
      have : x - rw' τ c < suN τ cs := by unfold suN at h; omega
      exact ⟨List.mem_cons_of_mem _ (ih _ this).1, (ih _ this).2⟩
theorem selA_wsz {n : Nat} : ∀ (cs : List Nat) (x : Nat), x < suN τ cs → wsz τ n (selA τ cs x).1 ≤ (cs.map (wsz τ n)).sum := by
  intro cs
  induction cs with
  | nil => intro x h; exact absurd h (by simp [suN])
  | cons c cs ih =>
    intro x h
    unfold selA
    show _ ≤ wsz τ n c + (cs.map (wsz τ n)).sum
    by_cases z : x < rw' τ c
    · rw [if_pos z]
      show wsz τ n c ≤ _
      omega
    · rw [if_neg z]
      have := ih (x - rw' τ c) (by unfold suN at h; omega)
      omega
theorem selD_ok : ∀ n q x, WP τ n q → x < rw' τ q → ∃ m, WP τ (m + 1) (selD τ n q x).1 ∧ m + 1 ≤ n ∧ (selD τ n q x).2 < rw' τ (selD τ n q x).1 ∧ tA τ 17 (selD τ n q x).1 ≠ 6 ∧ (∀ π, tst τ n q x π = tst τ (m + 1) (selD τ n q x).1 (selD τ n q x).2 π) ∧ wsz τ (m + 1) (selD τ n q x).1 ≤ wsz τ n q := by
  intro n
  induction n with
  | zero => intro q x h; exact h.elim
  | succ n ih =>
    intro q x h hx
    by_cases z : tA τ 17 q = 6
    · obtain ⟨-, -, -, -, -, -, -, -, h6⟩ := id h
      obtain ⟨a1, a2, a3, a4⟩ := h6 z
      have s := selA_ok (τ := τ) (kids τ q) x (by omega)
      have e : selD τ (n + 1) q x = selD τ n (selA τ (kids τ q) x).1 (selA τ (kids τ q) x).2 := by
        conv => lhs; unfold selD
        rw [if_pos z]
      obtain ⟨m, b1, b2, b3, b4, b5, b6⟩ := ih _ _ (a4 _ s.1).1 s.2
      have sw := selA_wsz (τ := τ) (n := n) (kids τ q) x (by omega)
      rw [e]
      refine ⟨m, b1, by omega, b3, b4, fun π => ?_, ?_⟩
      · rw [← b5 π]
        conv => lhs; unfold tst
        rw [if_pos z]
      · show _ ≤ 1 + ((kids τ q).map (wsz τ n)).sum
        omega
    · have e : selD τ (n + 1) q x = (q, x) := by
        unfold selD
        rw [if_neg z]
      rw [e]
      exact ⟨n, h, by omega, hx, z, fun π => rfl, Nat.le_refl _⟩
theorem sT_nextPattern {n q x s : Nat} {v : Int} (hn : np τ ≤ 1700) (h : WP τ n q) (hx : x < rw' τ q) (hs : tI τ 71 = (s + 1 : Nat)) (hs2 : s < 2000) (h72 : tA τ 72 s = q) (h73 : tA τ 73 s = x) (h75 : tA τ 75 s = v) {Q : Int → TW → Prop} (hQ : Q ((selD τ n q x).1 : Nat) (sA (ndT τ n (sI τ 71 s) q x v) 73 s ((selD τ n q x).2 : Nat))) : wpT (d + 2) 50 [] τ (zqI Q zno) := by
  have e71 : w32 (tI τ 71 - 1) = s := by rw [hs, w32_s (by omega) (by omega)]; omega
  refine wT_nextPattern (Nat.zero_le _) (bT_nextPattern_0 ?_)
  rw [e71]
  refine fa ⟨⟨by show 0 ≤ (s : Int); omega, by show (s : Int) < 2000; omega⟩, fa ⟨⟨by show 0 ≤ (s : Int); omega, by show (s : Int) < 2000; omega⟩, fa (bT_nextPattern_30 ?_)⟩⟩
  have e1 : tA (sI τ 71 s) 72 (tI (sI τ 71 s) 71) = q := h72
  have e2 : tA (sI τ 71 s) 73 (tI (sI τ 71 s) 71) = x := h73
  rw [e1, e2]
  intro I hI
  have key : ∀ n q x σ, WP τ n q → x < rw' τ q → FT [71, 118] τ σ → tI σ 71 = s → Q ((selD τ n q x).1 : Nat) (sA (ndT τ n σ q x v) 73 s ((selD τ n q x).2 : Nat)) → I (q : Nat) (x : Nat) σ := by
    intro n
    induction n with
    | zero => intro q x σ h; exact h.elim
    | succ n ih =>
      intro q x σ h hx F h71 hQ
      obtain ⟨⟨a1, a2, a3, a4, a5⟩, ⟨b1, b2⟩, -, -, -, -, -, -, h6⟩ := h
      have t : ∀ f i, f ≠ 71 → f ≠ 118 → tA σ f i = tA τ f i := fun f i h1 h2 => (F f (by simp; omega)).2 i
      refine hI _ _ _ ?_
      rw [t 17 _ (by decide) (by decide)]
      by_cases z : tA τ 17 q = 6
      · obtain ⟨c1, c2, c3, c4⟩ := h6 z
        have e : selD τ (n + 1) q x = selD τ n (selA τ (kids τ q) x).1 (selA τ (kids τ q) x).2 := by
          conv => lhs; unfold selD
          rw [if_pos z]
        have e' : ndT τ (n + 1) σ q x v = ndT τ n (noT σ q v) (selA τ (kids τ q) x).1 (selA τ (kids τ q) x).2 v := by
          conv => lhs; unfold ndT
          rw [if_pos z]
        rw [e, e'] at hQ
        have s1 := selA_ok (τ := τ) (kids τ q) x (by omega)
        have F2 : FT [71, 118] τ (noT σ q v) := F.trans ((noT_ft q v).mono (by decide))
        have t2 : ∀ f i, f ≠ 71 → f ≠ 118 → tA (noT σ q v) f i = tA τ f i := fun f i h1 h2 => (F2 f (by simp; omega)).2 i
        refine ⟨⟨by omega, by omega⟩, br1 z ⟨by rw [h71]; exact ⟨by omega, by omega⟩, ?_⟩⟩
        rw [h71, t 75 _ (by decide) (by decide), h75]
        refine sT_notes (d := d) (by omega) (by rw [t 24 _ (by decide) (by decide)]; exact b1) (by rw [t 25 _ (by decide) (by decide)]; exact b2) ⟨⟨by omega, by omega⟩, fa ?_⟩
        rw [t2 22 _ (by decide) (by decide)]
        refine bT_nextPattern_62 ?_
        intro J hJ
        have walk : ∀ (l : List Nat) (y : Nat) (z : Int), CHL τ z l → y < suN τ l → y ≤ 40 → (selA τ l y) = selA τ (kids τ q) x → (∀ c, c ∈ l → c ∈ kids τ q) → J (y : Nat) z (noT σ q v) := by
          intro l
          induction l with
          | nil => intro y z _ hy _; exact absurd hy (by simp [suN])
          | cons c l ihl =>
            intro y z hz hy hy4 hs' hmem
            obtain ⟨z1, z2, z3⟩ := hz
            have hc := (c4 c (hmem c (List.mem_cons_self ..))).1
            have rc : ((rw' τ c : Nat) : Int) = tA τ 26 c := rw_c (by
              cases n with
              | zero => exact hc.elim
              | succ n => exact hc.1.2.2.2.1)
            refine hJ _ _ _ ?_
            rw [t2 26 _ (by decide) (by decide), z1, ← rc]
            by_cases y1 : y < rw' τ c
            · have ea : selA τ (c :: l) y = (c, y) := by unfold selA; rw [if_pos y1]
              refine ⟨⟨by omega, by omega⟩, br1 (by omega) (bT_nextPattern_91 (call := wpT (d + 1)) ?_)⟩
              rw [← hs', ea] at hQ
              exact ih c y _ hc y1 F2 (((noT_ft q v) 71 (by decide)).1.trans h71) hQ
            · have ea : selA τ (c :: l) y = selA τ l (y - rw' τ c) := by
                conv => lhs; unfold selA
                rw [if_neg y1]
              refine ⟨⟨by omega, by omega⟩, br0 (by omega) ⟨⟨by omega, by omega⟩, fa ⟨⟨by omega, by omega⟩, fa ?_⟩⟩⟩
              rw [t2 23 _ (by decide) (by decide), w32_s (by omega) (by omega)]
              have := ihl (y - rw' τ c) (tA τ 23 c) (by rw [z1] at z3; exact z3) (by unfold suN at hy; omega) (by omega) (by rw [← ea]; exact hs') (fun c hc => hmem c (List.mem_cons_of_mem _ hc))
              rw [show ((y : Nat) : Int) - ((rw' τ c : Nat) : Int) = ((y - rw' τ c : Nat) : Int) by omega]
              exact this
        exact walk (kids τ q) x _ c1 (by omega) (by have := rw_c a4; omega) rfl (fun c hc => hc)
      · have e : selD τ (n + 1) q x = (q, x) := by
          unfold selD
          rw [if_neg z]
        have e' : ndT τ (n + 1) σ q x v = σ := by
          unfold ndT
          rw [if_neg z]
        rw [e, e'] at hQ
        refine ⟨⟨by omega, by omega⟩, br0 z (bT_nextPattern_96 (call := wpT (d + 1)) ⟨by rw [h71]; exact ⟨by omega, by omega⟩, fa ?_⟩)⟩
        rw [h71]
        exact hQ
  exact key n q x _ h hx ((FT.refl _ _).ssI (by decide)) rfl hQ
end ZRowsT2
