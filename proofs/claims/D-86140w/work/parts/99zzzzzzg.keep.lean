/-! a text stays, kinds may be more -/
section ZKeep
variable {p b e d f F n : Nat} {w w' : CW} {τ σ : TW} {rs : List (Nat × Nat)} {ps : List Pa} {ro : Nat × Nat → Nat} {ru : Nat → Nat}
/-- patterns are the same -/
def PQs (τ σ : TW) : Prop := tI σ 16 = tI τ 16 ∧ ∀ f, 17 ≤ f → f ≤ 26 → tA σ f = tA τ f
theorem PQs.a (h : PQs τ σ) {f : Nat} (h1 : 17 ≤ f) (h2 : f ≤ 26) (i : Int) : tA σ f i = tA τ f i := congrFun (h.2 f h1 h2) i
theorem x_np (h : PQs τ σ) : np σ = np τ := by show (tI σ 16).toNat = (tI τ 16).toNat; rw [h.1]
theorem x_rw (h : PQs τ σ) : rw' σ = rw' τ := funext (fun q => by show (tA σ 26 q).toNat = (tA τ 26 q).toNat; rw [h.a (by decide) (by decide)])
theorem x_chF (h : PQs τ σ) : ∀ n x, chF σ n x = chF τ n x := by
  intro n
  induction n with
  | zero => intro x; rfl
  | succ n ih =>
    intro x
    show (if x < 0 then [] else x.toNat :: chF σ n (tA σ 23 x)) = (if x < 0 then [] else x.toNat :: chF τ n (tA τ 23 x))
    rw [ih, h.a (by decide) (by decide)]
theorem x_kids (h : PQs τ σ) : kids σ = kids τ := funext (fun q => by
  show (if tA σ 17 q = 5 ∨ tA σ 17 q = 6 then chF σ 7 (tA σ 22 q) else []) = (if tA τ 17 q = 5 ∨ tA τ 17 q = 6 then chF τ 7 (tA τ 22 q) else [])
  rw [h.a (by decide) (by decide), h.a (by decide) (by decide), x_chF h])
theorem x_prN (h : PQs τ σ) : prN σ = prN τ := funext (fun cs => by
  induction cs with
  | nil => rfl
  | cons c cs ih => show rw' σ c * prN σ cs = rw' τ c * prN τ cs; rw [ih, x_rw h])
theorem x_suN (h : PQs τ σ) : suN σ = suN τ := funext (fun cs => by
  induction cs with
  | nil => rfl
  | cons c cs ih => show rw' σ c + suN σ cs = rw' τ c + suN τ cs; rw [ih, x_rw h])
theorem x_selA (h : PQs τ σ) : ∀ cs w, selA σ cs w = selA τ cs w := by
  intro cs
  induction cs with
  | nil => intro w; rfl
  | cons c cs ih =>
    intro w
    show (if w < rw' σ c then (c, w) else selA σ cs (w - rw' σ c)) = (if w < rw' τ c then (c, w) else selA τ cs (w - rw' τ c))
    rw [ih, x_rw h]
theorem x_tsL (h : PQs τ σ) (f : Nat → Nat → Pa → List (Pa × Nat)) (k : Nat) (π : Pa) : ∀ cs j w, tsL f σ k π j cs w = tsL f τ k π j cs w := by
  intro cs
  induction cs with
  | nil => intro j w; rfl
  | cons c cs ih =>
    intro j w
    show f c ((w / prN σ cs) % rw' σ c) ((k, j) :: π) ++ tsL f σ k π (j + 1) cs w = f c ((w / prN τ cs) % rw' τ c) ((k, j) :: π) ++ tsL f τ k π (j + 1) cs w
    rw [ih, x_rw h, x_prN h]
theorem x_tst (h : PQs τ σ) : ∀ n, tst σ n = tst τ n := by
  intro n
  induction n with
  | zero => rfl
  | succ n ih =>
    funext q w π
    show (if tA σ 17 q = 6 then tst σ n (selA σ (kids σ q) w).1 (selA σ (kids σ q) w).2 π else if tA σ 17 q = 0 then [] else (π, q) :: tsL (tst σ n) σ (tA σ 19 q).toNat π 0 (kids σ q) w) = (if tA τ 17 q = 6 then tst τ n (selA τ (kids τ q) w).1 (selA τ (kids τ q) w).2 π else if tA τ 17 q = 0 then [] else (π, q) :: tsL (tst τ n) τ (tA τ 19 q).toNat π 0 (kids τ q) w)
    rw [ih, h.a (by decide) (by decide), h.a (by decide) (by decide), x_kids h, x_selA h, x_tsL h]
theorem x_wsz (h : PQs τ σ) : ∀ n, wsz σ n = wsz τ n := by
  intro n
  induction n with
  | zero => rfl
  | succ n ih =>
    funext q
    show 1 + ((kids σ q).map (wsz σ n)).sum = 1 + ((kids τ q).map (wsz τ n)).sum
    rw [ih, x_kids h]
theorem x_CHL (h : PQs τ σ) : ∀ cs x, CHL σ x cs = CHL τ x cs := by
  intro cs
  induction cs with
  | nil => intro x; rfl
  | cons c cs ih =>
    intro x
    show (x = c ∧ c < np σ ∧ CHL σ (tA σ 23 x) cs) = (x = c ∧ c < np τ ∧ CHL τ (tA τ 23 x) cs)
    rw [ih, x_np h, h.a (by decide) (by decide)]
theorem x_selD (h : PQs τ σ) : ∀ n q w, selD σ n q w = selD τ n q w := by
  intro n
  induction n with
  | zero => intro q w; rfl
  | succ n ih =>
    intro q w
    show (if tA σ 17 q = 6 then selD σ n (selA σ (kids σ q) w).1 (selA σ (kids σ q) w).2 else (q, w)) = (if tA τ 17 q = 6 then selD τ n (selA τ (kids τ q) w).1 (selA τ (kids τ q) w).2 else (q, w))
    rw [h.a (by decide) (by decide), x_kids h, x_selA h, ih]
theorem x_nbL (h : PQs τ σ) (g : Nat → Nat → Pa → (Nat → Option Pa) → (Nat → Option Pa)) (k : Nat) (π : Pa) : ∀ cs j w nb, nbL g σ k π j cs w nb = nbL g τ k π j cs w nb := by
  intro cs
  induction cs with
  | nil => intro j w nb; rfl
  | cons c cs ih =>
    intro j w nb
    show nbL g σ k π (j + 1) cs w (g c ((w / prN σ cs) % rw' σ c) ((k, j) :: π) nb) = nbL g τ k π (j + 1) cs w (g c ((w / prN τ cs) % rw' τ c) ((k, j) :: π) nb)
    rw [ih, x_rw h, x_prN h]
theorem x_nbF (h : PQs τ σ) : ∀ n, nbF σ n = nbF τ n := by
  intro n
  induction n with
  | zero => rfl
  | succ n ih =>
    funext q w π nb
    have eu : upo σ q π nb = upo τ q π nb := by unfold upo; rw [h.a (by decide) (by decide), h.a (by decide) (by decide)]
    show (if tA σ 17 q = 6 then nbF σ n (selA σ (kids σ q) w).1 (selA σ (kids σ q) w).2 π (upo σ q π nb) else if tA σ 17 q = 0 then upo σ q π nb else nbL (nbF σ n) σ (tA σ 19 q).toNat π 0 (kids σ q) w (upo σ q π nb)) = (if tA τ 17 q = 6 then nbF τ n (selA τ (kids τ q) w).1 (selA τ (kids τ q) w).2 π (upo τ q π nb) else if tA τ 17 q = 0 then upo τ q π nb else nbL (nbF τ n) τ (tA τ 19 q).toNat π 0 (kids τ q) w (upo τ q π nb))
    rw [ih, eu, h.a (by decide) (by decide), h.a (by decide) (by decide), x_kids h, x_selA h, x_nbL h]
/-- a text stays, kinds may be more -/
def KX (τ σ : TW) : Prop := (∀ g, 16 ≤ g → g ≤ 60 → tI σ g = tI τ g ∧ tA σ g = tA τ g) ∧ nK τ ≤ nK σ ∧ ∀ k : Nat, k < nK τ → tA σ 13 k = tA τ 13 k ∧ tA σ 14 k = tA τ 14 k ∧ ∀ j : Nat, j < 4 → tA σ 15 (4 * k + j : Nat) = tA τ 15 (4 * k + j : Nat)
theorem KX.refl (τ : TW) : KX τ τ := ⟨fun _ _ _ => ⟨rfl, rfl⟩, Nat.le_refl _, fun _ _ => ⟨rfl, rfl, fun _ _ => rfl⟩⟩
theorem KX.trans {ρ : TW} (h : KX τ σ) (k : KX σ ρ) : KX τ ρ := ⟨fun g h1 h2 => ⟨(k.1 g h1 h2).1.trans (h.1 g h1 h2).1, (k.1 g h1 h2).2.trans (h.1 g h1 h2).2⟩, Nat.le_trans h.2.1 k.2.1, fun j hj => by
  obtain ⟨a1, a2, a3⟩ := h.2.2 j hj
  obtain ⟨b1, b2, b3⟩ := k.2.2 j (Nat.lt_of_lt_of_le hj h.2.1)
  exact ⟨b1.trans a1, b2.trans a2, fun i hi => (b3 i hi).trans (a3 i hi)⟩⟩
theorem KX.ft {S : List Nat} (h : FT S τ σ) (hS : ∀ g, g ∈ S → g < 10 ∨ g = 11 ∨ 60 < g) : KX τ σ := by
  have n : ∀ g, g = 10 ∨ (12 ≤ g ∧ g ≤ 60) → g ∉ S := fun g hg hm => by have := hS g hm; omega
  refine ⟨fun g h1 h2 => ⟨(h g (n g (by omega))).1, funext (h g (n g (by omega))).2⟩, ?_, fun k _ => ⟨(h 13 (n 13 (by decide))).2 _, (h 14 (n 14 (by decide))).2 _, fun j _ => (h 15 (n 15 (by decide))).2 _⟩⟩
  unfold nK
  rw [(h 10 (n _ (by decide))).1]
  exact Nat.le_refl _
theorem KX.pq (h : KX τ σ) : PQs τ σ := ⟨(h.1 16 (by decide) (by decide)).1, fun g h1 h2 => (h.1 g (by omega) (by omega)).2⟩
theorem KX.a (h : KX τ σ) {g : Nat} (h1 : 16 ≤ g) (h2 : g ≤ 60) (i : Int) : tA σ g i = tA τ g i := congrFun (h.1 g h1 h2).2 i
theorem KX.urk (h : KX τ σ) (f i : Nat) : URk τ σ f i := by
  have a : ∀ g, 16 ≤ g → g ≤ 60 → ∀ x, tA σ g x = tA τ g x := fun g h1 h2 x => h.a h1 h2 x
  refine ⟨?_, fun g h1 h2 x _ => a g (by omega) (by omega) _, fun g hg => a g (by omega) (by omega) _, fun _ _ => a 30 (by decide) (by decide) _, fun _ _ => ⟨a 50 (by decide) (by decide) _, a 51 (by decide) (by decide) _⟩, fun _ _ => a 52 (by decide) (by decide) _, fun _ _ => ⟨a 59 (by decide) (by decide) _, a 60 (by decide) (by decide) _⟩, a 43 (by decide) (by decide) _, fun _ _ => a 44 (by decide) (by decide) _⟩
  rw [x_np h.pq]
  exact Nat.le_refl _
theorem KX.kdk (h : KX τ σ) (hK : KR p w τ) (hk : ∀ k, k < nK τ → kd w' p k = kd w p k) : KdK p w w' τ σ := ⟨h.2.1, fun k hkk => ⟨hk k hkk, (h.2.2 k hkk).2.1, fun i hi => (h.2.2 k hkk).2.2 i (by
  have q := (hK.2.2.2.2.1 k hkk).2.2.2.2.2.2.2.1
  have q : tA τ 14 k ≤ 4 := q
  have hi : (i : Int) < tA τ 14 k := hi
  omega)⟩⟩
theorem x_cks (h : KX τ σ) : cks σ = cks τ := funext (fun R => by
  unfold cks
  rw [x_chF h.pq, h.a (by decide) (by decide)])
theorem x_tsR (h : KX τ σ) : tsR σ = tsR τ := by
  funext R way
  unfold tsR
  rw [x_tst h.pq, x_tsL h.pq, x_cks h]
theorem x_nbR (h : KX τ σ) : nbR σ = nbR τ := by
  funext R way
  unfold nbR
  rw [x_nbF h.pq, x_nbL h.pq, x_cks h]
theorem x_rowsK (h : KX τ σ) (f : Nat) (bare : Int) : ∀ n, rowsK σ f bare n = rowsK τ f bare n := by
  intro n
  induction n with
  | zero => rfl
  | succ n ih =>
    unfold rowsK
    rw [ih, h.a (by decide) (by decide), h.a (by decide) (by decide)]
theorem x_off (h : KX τ σ) (rs : List (Nat × Nat)) (i : Nat) : off σ rs i = off τ rs i := by
  unfold off
  rw [x_tsR h]
theorem x_WP (h : KX τ σ) : ∀ n q, WP τ n q → WP σ n q := by
  intro n
  induction n with
  | zero => intro q a; exact a
  | succ n ih =>
    intro q a
    obtain ⟨a1, a2, a3, a4, a5, a6, a7, a8, a9⟩ := a
    have t : ∀ f, 17 ≤ f → f ≤ 26 → ∀ i, tA σ f i = tA τ f i := fun f x y i => h.a (by omega) (by omega) i
    refine ⟨?_, ?_, ?_, ?_, ?_, ?_, ?_, fun q5 => ?_, fun q6 => ?_⟩
    · rw [x_np h.pq, t 17 (by decide) (by decide), t 26 (by decide) (by decide)]; exact a1
    · rw [t 24 (by decide) (by decide), t 25 (by decide) (by decide)]; exact a2
    · rw [t 17 (by decide) (by decide), t 26 (by decide) (by decide)]; exact a3
    · rw [t 17 (by decide) (by decide), t 18 (by decide) (by decide), t 19 (by decide) (by decide), t 20 (by decide) (by decide)]; exact a4
    · rw [t 17 (by decide) (by decide), t 18 (by decide) (by decide), t 19 (by decide) (by decide)]; exact a5
    · rw [t 17 (by decide) (by decide), t 18 (by decide) (by decide)]; exact a6
    · rw [t 17 (by decide) (by decide), t 18 (by decide) (by decide)]; exact a7
    · rw [t 17 (by decide) (by decide)] at q5
      obtain ⟨b1, b2, b3, ⟨k, b4, b5, b6, b7⟩, b8, b9⟩ := a8 q5
      obtain ⟨-, k14, k15⟩ := h.2.2 k b5
      rw [x_kids h.pq, x_CHL h.pq, x_rw h.pq, x_prN h.pq, t 18 (by decide) (by decide), t 22 (by decide) (by decide), t 19 (by decide) (by decide)]
      refine ⟨b1, b2, b3, ⟨k, b4, Nat.lt_of_lt_of_le b5 h.2.1, by rw [k14]; exact b6, fun i c hc => ?_⟩, b8, fun c hc => ih c (b9 c hc)⟩
      have hi := (List.getElem?_eq_some_iff.mp hc).1
      rw [t 18 (by decide) (by decide), k15 i (by omega)]
      exact b7 i c hc
    · rw [t 17 (by decide) (by decide)] at q6
      obtain ⟨b1, b2, b3, b4⟩ := a9 q6
      rw [x_kids h.pq, x_CHL h.pq, x_rw h.pq, x_suN h.pq, t 22 (by decide) (by decide)]
      refine ⟨b1, b2, b3, fun c hc => ⟨ih c (b4 c hc).1, ?_⟩⟩
      rw [t 18 (by decide) (by decide), t 18 (by decide) (by decide)]
      exact (b4 c hc).2
theorem x_RP (h : KX τ σ) {R m : Nat} (r : RP τ R m) : RP σ R m := by
  obtain ⟨a1, a2, a3, a4, a5, a6⟩ := r
  unfold RP
  rw [x_cks h, x_CHL h.pq, h.a (g := 47) (by decide) (by decide), h.a (g := 49) (by decide) (by decide), x_prN h.pq, x_wsz h.pq, x_np h.pq]
  exact ⟨a1, a2, a3, fun c hc => x_WP h 7 c (a4 c hc), a5, a6⟩
theorem x_CX (h : KX τ σ) (hK : KR p w' σ) (hC : CX τ f rs) : CX σ f rs := by
  obtain ⟨⟨-, -, -, a4⟩, b, c, d⟩ := hC
  refine ⟨⟨hK.un, hK.lfp, by have := hK.2.2.2.1; unfold nK; change (tI σ 10).toNat ≤ 24; have : tI σ 10 ≤ 24 := this; omega, by rw [x_np h.pq]; exact a4⟩, b, by rw [x_off h]; exact c, fun x hx => ?_⟩
  obtain ⟨d1, d2, m, d3, d4⟩ := d x hx
  refine ⟨d1, d2, m, x_RP h d3, fun i c hc => ?_⟩
  rw [x_cks h] at hc
  rw [h.a (g := 18) (by decide) (by decide), h.a (g := 44) (by decide) (by decide)]
  exact d4 i c hc
theorem x_ofT (h : KX τ σ) (hU : UnT τ) : ∀ k, k < nK τ → ∀ o, ofT σ k o ↔ ofT τ k o := by
  intro k
  induction k using Nat.strongRecOn with
  | ind k ih =>
    intro hk o
    obtain ⟨k24, hu⟩ := hU k hk
    have e := (h.2.2 k hk).1
    rw [ofT_step (τ := σ) (k := (k : Int)) (Int.natCast_nonneg k), ofT_step (τ := τ) (k := (k : Int)) (Int.natCast_nonneg k)]
    have e : tA σ 13 k = tA τ 13 k := e
    rw [e]
    rcases hu with q | ⟨u, u1, u2⟩
    · rw [q, ofT_neg (by decide), ofT_neg (by decide)]
    · rw [u2, ih u u1 (by omega)]
end ZKeep
