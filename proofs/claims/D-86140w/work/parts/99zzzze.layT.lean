/-! the reference's rows: a row is laid -/
section ZLayT
variable {p b e d : Nat} {w : CW} {τ σ : TW}
/-- patterns and kinds are the same -/
def PE (τ σ : TW) : Prop := tI σ 16 = tI τ 16 ∧ tI σ 10 = tI τ 10 ∧ ∀ f, 12 ≤ f → f ≤ 26 → tA σ f = tA τ f
theorem PE.refl (τ : TW) : PE τ τ := ⟨rfl, rfl, fun _ _ _ => rfl⟩
theorem PE.trans {ρ : TW} (h : PE τ σ) (k : PE σ ρ) : PE τ ρ := ⟨k.1.trans h.1, k.2.1.trans h.2.1, fun f a b => (k.2.2 f a b).trans (h.2.2 f a b)⟩
theorem PE.ft {S : List Nat} (F : FT S τ σ) (hS : ∀ f, f ∈ S → f < 10 ∨ 26 < f) : PE τ σ := by
  have n : ∀ f, 10 ≤ f → f ≤ 26 → f ∉ S := fun f a b h => by have := hS f h; omega
  exact ⟨(F 16 (n _ (by decide) (by decide))).1, (F 10 (n _ (by decide) (by decide))).1, fun f a b => funext (fun i => (F f (n f (by omega) b)).2 i)⟩
theorem PE.a (h : PE τ σ) {f : Nat} (h1 : 12 ≤ f) (h2 : f ≤ 26) (i : Int) : tA σ f i = tA τ f i := congrFun (h.2.2 f h1 h2) i
theorem e_np (h : PE τ σ) : np σ = np τ := by show (tI σ 16).toNat = (tI τ 16).toNat; rw [h.1]
theorem e_nK (h : PE τ σ) : nK σ = nK τ := by show (tI σ 10).toNat = (tI τ 10).toNat; rw [h.2.1]
theorem e_rw (h : PE τ σ) : rw' σ = rw' τ := funext (fun q => by show (tA σ 26 q).toNat = (tA τ 26 q).toNat; rw [h.a (by decide) (by decide)])
theorem e_chF (h : PE τ σ) : ∀ n x, chF σ n x = chF τ n x := by
  intro n
  induction n with
  | zero => intro x; rfl
  | succ n ih =>
    intro x
    show (if x < 0 then [] else x.toNat :: chF σ n (tA σ 23 x)) = (if x < 0 then [] else x.toNat :: chF τ n (tA τ 23 x))
    rw [ih, h.a (by decide) (by decide)]
theorem e_kids (h : PE τ σ) : kids σ = kids τ := funext (fun q => by
  show (if tA σ 17 q = 5 ∨ tA σ 17 q = 6 then chF σ 7 (tA σ 22 q) else []) = (if tA τ 17 q = 5 ∨ tA τ 17 q = 6 then chF τ 7 (tA τ 22 q) else [])
  rw [h.a (by decide) (by decide), h.a (by decide) (by decide), e_chF h])
theorem e_prN (h : PE τ σ) : prN σ = prN τ := funext (fun cs => by
  induction cs with
  | nil => rfl
  | cons c cs ih => show rw' σ c * prN σ cs = rw' τ c * prN τ cs; rw [ih, e_rw h])
theorem e_suN (h : PE τ σ) : suN σ = suN τ := funext (fun cs => by
  induction cs with
  | nil => rfl
  | cons c cs ih => show rw' σ c + suN σ cs = rw' τ c + suN τ cs; rw [ih, e_rw h])
theorem e_selA (h : PE τ σ) : ∀ cs w, selA σ cs w = selA τ cs w := by
  intro cs
  induction cs with
  | nil => intro w; rfl
  | cons c cs ih =>
    intro w
    show (if w < rw' σ c then (c, w) else selA σ cs (w - rw' σ c)) = (if w < rw' τ c then (c, w) else selA τ cs (w - rw' τ c))
    rw [ih, e_rw h]
theorem e_tsL (h : PE τ σ) (f : Nat → Nat → Pa → List (Pa × Nat)) (k : Nat) (π : Pa) : ∀ cs j w, tsL f σ k π j cs w = tsL f τ k π j cs w := by
  intro cs
  induction cs with
  | nil => intro j w; rfl
  | cons c cs ih =>
    intro j w
    show f c ((w / prN σ cs) % rw' σ c) ((k, j) :: π) ++ tsL f σ k π (j + 1) cs w = f c ((w / prN τ cs) % rw' τ c) ((k, j) :: π) ++ tsL f τ k π (j + 1) cs w
    rw [ih, e_rw h, e_prN h]
theorem e_tst (h : PE τ σ) : ∀ n, tst σ n = tst τ n := by
  intro n
  induction n with
  | zero => rfl
  | succ n ih =>
    funext q w π
    show (if tA σ 17 q = 6 then tst σ n (selA σ (kids σ q) w).1 (selA σ (kids σ q) w).2 π else if tA σ 17 q = 0 then [] else (π, q) :: tsL (tst σ n) σ (tA σ 19 q).toNat π 0 (kids σ q) w) = (if tA τ 17 q = 6 then tst τ n (selA τ (kids τ q) w).1 (selA τ (kids τ q) w).2 π else if tA τ 17 q = 0 then [] else (π, q) :: tsL (tst τ n) τ (tA τ 19 q).toNat π 0 (kids τ q) w)
    rw [ih, h.a (by decide) (by decide), h.a (by decide) (by decide), e_kids h, e_selA h, e_tsL h]
theorem e_wsz (h : PE τ σ) : ∀ n, wsz σ n = wsz τ n := by
  intro n
  induction n with
  | zero => rfl
  | succ n ih =>
    funext q
    show 1 + ((kids σ q).map (wsz σ n)).sum = 1 + ((kids τ q).map (wsz τ n)).sum
    rw [ih, e_kids h]
theorem e_CHL (h : PE τ σ) : ∀ cs x, CHL σ x cs = CHL τ x cs := by
  intro cs
  induction cs with
  | nil => intro x; rfl
  | cons c cs ih =>
    intro x
    show (x = c ∧ c < np σ ∧ CHL σ (tA σ 23 x) cs) = (x = c ∧ c < np τ ∧ CHL τ (tA τ 23 x) cs)
    rw [ih, e_np h, h.a (by decide) (by decide)]
theorem e_WP (h : PE τ σ) : ∀ n q, WP τ n q → WP σ n q := by
  intro n
  induction n with
  | zero => intro q a; exact a
  | succ n ih =>
    intro q a
    obtain ⟨a1, a2, a3, a4, a5, a6, a7, a8, a9⟩ := a
    have t : ∀ f, 12 ≤ f → f ≤ 26 → ∀ i, tA σ f i = tA τ f i := fun f x y i => h.a x y i
    refine ⟨?_, ?_, ?_, ?_, ?_, ?_, ?_, fun q5 => ?_, fun q6 => ?_⟩
    · rw [e_np h, t 17 (by decide) (by decide), t 26 (by decide) (by decide)]; exact a1
    · rw [t 24 (by decide) (by decide), t 25 (by decide) (by decide)]; exact a2
    · rw [t 17 (by decide) (by decide), t 26 (by decide) (by decide)]; exact a3
    · rw [t 17 (by decide) (by decide), t 18 (by decide) (by decide), t 19 (by decide) (by decide), t 20 (by decide) (by decide)]; exact a4
    · rw [t 17 (by decide) (by decide), t 18 (by decide) (by decide), t 19 (by decide) (by decide)]; exact a5
    · rw [t 17 (by decide) (by decide), t 18 (by decide) (by decide)]; exact a6
    · rw [t 17 (by decide) (by decide), t 18 (by decide) (by decide)]; exact a7
    · rw [t 17 (by decide) (by decide)] at q5
      obtain ⟨b1, b2, b3, ⟨k, b4, b5, b6, b7⟩, b8, b9⟩ := a8 q5
      rw [e_kids h, e_CHL h, e_rw h, e_prN h, t 18 (by decide) (by decide), t 22 (by decide) (by decide), t 19 (by decide) (by decide), e_nK h]
      refine ⟨b1, b2, b3, ⟨k, b4, b5, by rw [t 14 (by decide) (by decide)]; exact b6, fun i c hc => ?_⟩, b8, fun c hc => ih c (b9 c hc)⟩
      rw [t 18 (by decide) (by decide), t 15 (by decide) (by decide)]
      exact b7 i c hc
    · rw [t 17 (by decide) (by decide)] at q6
      obtain ⟨b1, b2, b3, b4⟩ := a9 q6
      rw [e_kids h, e_CHL h, e_rw h, e_suN h, t 22 (by decide) (by decide)]
      refine ⟨b1, b2, b3, fun c hc => ⟨ih c (b4 c hc).1, ?_⟩⟩
      rw [t 18 (by decide) (by decide), t 18 (by decide) (by decide)]
      exact (b4 c hc).2
theorem e_selD (h : PE τ σ) : ∀ n q w, selD σ n q w = selD τ n q w := by
  intro n
  induction n with
  | zero => intro q w; rfl
  | succ n ih =>
    intro q w
    show (if tA σ 17 q = 6 then selD σ n (selA σ (kids σ q) w).1 (selA σ (kids σ q) w).2 else (q, w)) = (if tA τ 17 q = 6 then selD τ n (selA τ (kids τ q) w).1 (selA τ (kids τ q) w).2 else (q, w))
    rw [h.a (by decide) (by decide), e_kids h, e_selA h, ih]
/-- tests from t0 on -/
def TSm (τ : TW) (t0 : Nat) (L : List (Pa × Nat)) : Prop := ∀ i e, L[i]? = some e → tA τ 66 (t0 + i : Nat) = tA τ 17 e.2 ∧ tA τ 67 (t0 + i : Nat) = (cod e.1 : Nat) ∧ tA τ 68 (t0 + i : Nat) = (e.2 : Nat)
/-- tests L are laid, what waits below s stays -/
def Rlx0 (τ τ' : TW) (t0 s : Nat) (L : List (Pa × Nat)) : Prop := FT [65, 66, 67, 68, 71, 72, 73, 74, 75, 76] τ τ' ∧ tI τ' 65 = (t0 + L.length : Nat) ∧ (∀ f (i : Nat), f = 66 ∨ f = 67 ∨ f = 68 → i < t0 → tA τ' f i = tA τ f i) ∧ TSm τ' t0 L ∧ ∀ f (i : Nat), 72 ≤ f → f ≤ 75 → i < s → tA τ' f i = tA τ f i
theorem Rlx0.trans {τ1 τ2 : TW} {t0 s s1 : Nat} {L1 L2 : List (Pa × Nat)} (h : Rlx0 τ τ1 t0 s1 L1) (k : Rlx0 τ1 τ2 (t0 + L1.length) s L2) (hs : s ≤ s1) : Rlx0 τ τ2 t0 s (L1 ++ L2) := by
  obtain ⟨a1, a3, a4, a5, a6⟩ := h
  obtain ⟨b1, b3, b4, b5, b6⟩ := k
  refine ⟨a1.trans b1, by rw [b3, List.length_append]; congr 1; omega, fun f i hf hi => (b4 f i hf (by omega)).trans (a4 f i hf hi), fun i e he => ?_, fun f i h1 h2 hi => (b6 f i h1 h2 hi).trans (a6 f i h1 h2 (by omega))⟩
  rcases Nat.lt_or_ge i L1.length with u | u
  · rw [List.getElem?_append_left u] at he
    obtain ⟨c1, c2, c3⟩ := a5 i e he
    rw [b4 66 _ (by decide) (by omega), b4 67 _ (by decide) (by omega), b4 68 _ (by decide) (by omega), (b1 17 (by decide)).2]
    exact ⟨c1, c2, c3⟩
  · rw [List.getElem?_append_right u] at he
    have := b5 _ e he
    rw [show t0 + L1.length + (i - L1.length) = t0 + i by omega] at this
    exact this
/-- .. and what waits from s on is done -/
def Rlx (τ τ' : TW) (t0 s : Nat) (L : List (Pa × Nat)) : Prop := Rlx0 τ τ' t0 s L ∧ tI τ' 71 = s
theorem Rlx.pe {τ' : TW} {t0 s : Nat} {L : List (Pa × Nat)} (h : Rlx τ τ' t0 s L) : PE τ τ' := PE.ft (S := [65, 66, 67, 68, 71, 72, 73, 74, 75, 76]) h.1.1 (by decide)
theorem WP.wsz_pos : ∀ {n q}, WP τ n q → 1 ≤ wsz τ n q := by
  intro n q h
  cases n with
  | zero => exact h.elim
  | succ n => show 1 ≤ 1 + _; omega
theorem tsL_len {n k : Nat} {π : Pa} (hf : ∀ c x π, WP τ n c → x < rw' τ c → (tst τ n c x π).length ≤ wsz τ n c) : ∀ (cs : List Nat) (j x : Nat), (∀ c, c ∈ cs → WP τ n c) → (tsL (tst τ n) τ k π j cs x).length ≤ (cs.map (wsz τ n)).sum := by
  intro cs
  induction cs with
  | nil => intro j x _; exact Nat.zero_le _
  | cons c cs ih =>
    intro j x h
    show (tst τ n c _ _ ++ tsL (tst τ n) τ k π (j + 1) cs x).length ≤ wsz τ n c + (cs.map (wsz τ n)).sum
    rw [List.length_append]
    have hc := h c (List.mem_cons_self ..)
    have h1 : 1 ≤ rw' τ c := by
      cases n with
      | zero => exact hc.elim
      | succ n => have := rw_c hc.1.2.2.2.1; have := hc.1.2.2.2.1; omega
    have a := hf c ((x / prN τ cs) % rw' τ c) ((k, j) :: π) hc (Nat.mod_lt _ (by omega))
    have b := ih (j + 1) x (fun y hy => h y (List.mem_cons_of_mem _ hy))
    omega
theorem tst_len : ∀ n q x π, WP τ n q → x < rw' τ q → (tst τ n q x π).length ≤ wsz τ n q := by
  intro n
  induction n with
  | zero => intro q x π h; exact h.elim
  | succ n ih =>
    intro q x π h hx
    unfold tst
    obtain ⟨-, -, -, -, -, -, -, h5, h6⟩ := h
    by_cases z : tA τ 17 q = 6
    · rw [if_pos z]
      obtain ⟨a1, a2, a3, a4⟩ := h6 z
      have s := selA_ok (τ := τ) (kids τ q) x (by omega)
      have l := ih _ _ π (a4 _ s.1).1 s.2
      have m := selA_wsz (τ := τ) (n := n) (kids τ q) x (by omega)
      show _ ≤ 1 + ((kids τ q).map (wsz τ n)).sum
      omega
    · rw [if_neg z]
      by_cases z0 : tA τ 17 q = 0
      · rw [if_pos z0]; exact Nat.zero_le _
      · rw [if_neg z0]
        show (tsL (tst τ n) τ _ π 0 (kids τ q) x).length + 1 ≤ 1 + ((kids τ q).map (wsz τ n)).sum
        by_cases z5 : tA τ 17 q = 5
        · have := tsL_len (k := (tA τ 19 q).toNat) (π := π) ih (kids τ q) 0 x (h5 z5).2.2.2.2.2
          omega
        · have : kids τ q = [] := by unfold kids; rw [if_neg (by omega)]
          rw [this]
          exact Nat.le_refl _
end ZLayT
