/-! what a pattern says of a value, plainly -/
section ZSem
variable {p b e d f : Nat} {w : CW} {τ σ : TW} {hd : Nat → Nat}
/-- a test holds of a value -/
def sem (τ : TW) (v q : Nat) : Prop := (tA τ 17 q = 1 ∧ tA τ 19 q ≤ tA τ 111 v ∧ tA τ 111 v ≤ tA τ 20 q) ∨ (tA τ 17 q = 2 ∧ tA τ 111 v = tA τ 19 q) ∨ (tA τ 17 q = 3 ∧ tA τ 112 v = tA τ 21 q) ∨ (tA τ 17 q = 4 ∧ tA τ 110 v = 3) ∨ (tA τ 17 q = 5 ∧ tA τ 110 v = 4 ∧ ofT τ (tA τ 111 v) (tA τ 19 q))
/-- a value's part -/
def ptv (τ : TW) (v j : Nat) : Nat := (tA τ 114 (4 * v + j : Nat)).toNat
/-- those side by side hold -/
def hoL (H : Nat → Nat → Nat → Prop) (τ : TW) : Nat → List Nat → Nat → (Nat → Nat) → Prop
  | _, [], _, _ => True
  | j, c :: cs, x, g => H c ((x / prN τ cs) % rw' τ c) (g j) ∧ hoL H τ (j + 1) cs x g
/-- a pattern holds, in one of its ways -/
def hol (τ : TW) : Nat → Nat → Nat → Nat → Prop
  | 0, _, _, _ => False
  | n + 1, q, x, v => (tA τ 17 q = 6 ∧ hol τ n (selA τ (kids τ q) x).1 (selA τ (kids τ q) x).2 v) ∨ tA τ 17 q = 0 ∨ (tA τ 17 q ≠ 6 ∧ tA τ 17 q ≠ 0 ∧ sem τ v q ∧ hoL (hol τ n) τ 0 (kids τ q) x (ptv τ v))
/-- names, by values -/
def upv (τ : TW) (q v : Nat) (nb : Nat → Option Nat) : Nat → Option Nat := fun k => if (k : Int) = tA τ 24 q ∨ (k : Int) = tA τ 25 q then some v else nb k
def nmL (f : Nat → Nat → Nat → (Nat → Option Nat) → (Nat → Option Nat)) (τ : TW) : Nat → List Nat → Nat → (Nat → Nat) → (Nat → Option Nat) → (Nat → Option Nat)
  | _, [], _, _, nb => nb
  | j, c :: cs, x, g, nb => nmL f τ (j + 1) cs x g (f c ((x / prN τ cs) % rw' τ c) (g j) nb)
def nmF (τ : TW) : Nat → Nat → Nat → Nat → (Nat → Option Nat) → (Nat → Option Nat)
  | 0, _, _, _, nb => nb
  | n + 1, q, x, v, nb => if tA τ 17 q = 6 then nmF τ n (selA τ (kids τ q) x).1 (selA τ (kids τ q) x).2 v (upv τ q v nb)
      else if tA τ 17 q = 0 then upv τ q v nb
      else nmL (nmF τ n) τ 0 (kids τ q) x (ptv τ v) (upv τ q v nb)
/-- the value at a place -/
def va (τ : TW) (hd : Nat → Nat) : Pa → Nat
  | [] => 0
  | (_, j) :: π => if π = [] then hd j else ptv τ (va τ hd π) j
theorem hol_6 {n q x v : Nat} (h : tA τ 17 q = 6) : hol τ (n + 1) q x v ↔ hol τ n (selA τ (kids τ q) x).1 (selA τ (kids τ q) x).2 v := by
  constructor
  · rintro (⟨_, q⟩ | q | ⟨q, _⟩)
    · exact q
    · omega
    · exact absurd h q
  · exact fun k => Or.inl ⟨h, k⟩
theorem hol_0 {n q x v : Nat} (h : tA τ 17 q = 0) : hol τ (n + 1) q x v := Or.inr (Or.inl h)
theorem hol_t {n q x v : Nat} (h : tA τ 17 q ≠ 6) (h0 : tA τ 17 q ≠ 0) : hol τ (n + 1) q x v ↔ sem τ v q ∧ hoL (hol τ n) τ 0 (kids τ q) x (ptv τ v) := by
  constructor
  · rintro (⟨k, _⟩ | k | ⟨_, _, k⟩)
    · exact absurd k h
    · exact absurd k h0
    · exact k
  · exact fun k => Or.inr (Or.inr ⟨h, h0, k⟩)
/-- by places -/
theorem hoL_tsL {n k : Nat} {π : Pa} (ih : ∀ c x π v, WP τ n c → x < rw' τ c → va τ hd π = v → π ≠ [] → (hol τ n c x v ↔ ∀ e, e ∈ tst τ n c x π → sem τ (va τ hd e.1) e.2)) : ∀ (cs : List Nat) (j x : Nat) (g : Nat → Nat), (∀ c, c ∈ cs → WP τ n c) → (∀ i, i < cs.length → va τ hd ((k, j + i) :: π) = g (j + i)) → (hoL (hol τ n) τ j cs x g ↔ ∀ e, e ∈ tsL (tst τ n) τ k π j cs x → sem τ (va τ hd e.1) e.2) := by
  intro cs
  induction cs with
  | nil => intro j x g _ _; exact ⟨fun _ e he => by simp [tsL] at he, fun _ => trivial⟩
  | cons c cs ihc =>
    intro j x g hW hg
    have hc := hW c (List.mem_cons_self ..)
    have h1 : 1 ≤ rw' τ c := by
      cases n with
      | zero => exact hc.elim
      | succ n => have := rw_c hc.1.2.2.2.1; have := hc.1.2.2.2.1; omega
    have g0 := hg 0 (by simp)
    have a := ih c ((x / prN τ cs) % rw' τ c) ((k, j) :: π) (g j) hc (Nat.mod_lt _ (by omega)) g0 (by simp)
    have b := ihc (j + 1) x g (fun y hy => hW y (List.mem_cons_of_mem _ hy)) (fun i hi => by
      have := hg (i + 1) (by simp only [List.length_cons]; omega)
      rw [show j + 1 + i = j + (i + 1) by omega]
      exact this)
    show (_ ∧ _) ↔ ∀ e, e ∈ tst τ n c _ ((k, j) :: π) ++ tsL (tst τ n) τ k π (j + 1) cs x → _
    rw [a, b]
    constructor
    · rintro ⟨p1, p2⟩ e he
      rcases List.mem_append.mp he with q | q
      · exact p1 e q
      · exact p2 e q
    · exact fun h => ⟨fun e he => h e (List.mem_append_left _ he), fun e he => h e (List.mem_append_right _ he)⟩
theorem hol_tst : ∀ n q x π v, WP τ n q → x < rw' τ q → va τ hd π = v → π ≠ [] → (hol τ n q x v ↔ ∀ e, e ∈ tst τ n q x π → sem τ (va τ hd e.1) e.2) := by
  intro n
  induction n with
  | zero => intro q x π v h; exact h.elim
  | succ n ih =>
    intro q x π v h hx hv hπ
    obtain ⟨⟨w1, w2, w3, w4, w5⟩, -, -, -, -, -, -, h5, h6⟩ := h
    by_cases z : tA τ 17 q = 6
    · obtain ⟨a1, a2, a3, a4⟩ := h6 z
      have s := selA_ok (τ := τ) (kids τ q) x (by omega)
      have et : tst τ (n + 1) q x π = tst τ n (selA τ (kids τ q) x).1 (selA τ (kids τ q) x).2 π := by
        conv => lhs; unfold tst
        rw [if_pos z]
      rw [hol_6 z, et]
      exact ih _ _ π v (a4 _ s.1).1 s.2 hv hπ
    · by_cases z0 : tA τ 17 q = 0
      · have et : tst τ (n + 1) q x π = [] := by unfold tst; rw [if_neg z, if_pos z0]
        rw [et]
        exact ⟨fun _ e he => (by cases he), fun _ => hol_0 z0⟩
      · have et : tst τ (n + 1) q x π = (π, q) :: tsL (tst τ n) τ (tA τ 19 q).toNat π 0 (kids τ q) x := by
          conv => lhs; unfold tst
          rw [if_neg z, if_neg z0]
        rw [hol_t z z0, et]
        have hk : ∀ c, c ∈ kids τ q → WP τ n c := by
          intro c hc
          by_cases y5 : tA τ 17 q = 5
          · exact (h5 y5).2.2.2.2.2 c hc
          · unfold kids at hc
            rw [if_neg (fun h => h.elim y5 z)] at hc
            cases hc
        have b := hoL_tsL (hd := hd) (k := (tA τ 19 q).toNat) (π := π) (fun c x π v h1 h2 h3 h4 => ih c x π v h1 h2 h3 h4) (kids τ q) 0 x (ptv τ v) hk (fun i _ => by
          show (if π = [] then hd (0 + i) else ptv τ (va τ hd π) (0 + i)) = _
          rw [if_neg hπ, hv])
        rw [b]
        constructor
        · rintro ⟨p1, p2⟩ e he
          rcases List.mem_cons.mp he with r | r
          · rw [r]; show sem τ (va τ hd π) q; rw [hv]; exact p1
          · exact p2 e r
        · intro hh
          refine ⟨?_, fun e he => hh e (List.mem_cons_of_mem _ he)⟩
          have := hh (π, q) (List.mem_cons_self ..)
          have this : sem τ (va τ hd π) q := this
          rw [hv] at this
          exact this
/-- names by places -/
def omv (τ : TW) (hd : Nat → Nat) (nb : Nat → Option Pa) : Nat → Option Nat := fun k => (nb k).map (va τ hd)
theorem omv_up {q v : Nat} {π : Pa} {nb : Nat → Option Pa} (hv : va τ hd π = v) : omv τ hd (upo τ q π nb) = upv τ q v (omv τ hd nb) := by
  funext k
  unfold omv upo upv
  by_cases z : (k : Int) = tA τ 24 q ∨ (k : Int) = tA τ 25 q
  · rw [if_pos z, if_pos z, ← hv]; rfl
  · rw [if_neg z, if_neg z]
theorem nmL_nbL {n k : Nat} {π : Pa} (ih : ∀ c x π v nb, va τ hd π = v → π ≠ [] → nmF τ n c x v (omv τ hd nb) = omv τ hd (nbF τ n c x π nb)) : ∀ (cs : List Nat) (j x : Nat) (g : Nat → Nat) (nb : Nat → Option Pa), (∀ i, i < cs.length → va τ hd ((k, j + i) :: π) = g (j + i)) → nmL (nmF τ n) τ j cs x g (omv τ hd nb) = omv τ hd (nbL (nbF τ n) τ k π j cs x nb) := by
  intro cs
  induction cs with
  | nil => intro j x g nb _; rfl
  | cons c cs ihc =>
    intro j x g nb hg
    have g0 := hg 0 (by simp)
    show nmL (nmF τ n) τ (j + 1) cs x g (nmF τ n c _ (g j) (omv τ hd nb)) = omv τ hd (nbL (nbF τ n) τ k π (j + 1) cs x (nbF τ n c _ ((k, j) :: π) nb))
    rw [ih c _ ((k, j) :: π) (g j) nb g0 (by simp)]
    exact ihc (j + 1) x g _ (fun i hi => by
      have := hg (i + 1) (by simp only [List.length_cons]; omega)
      rw [show j + 1 + i = j + (i + 1) by omega]
      exact this)
theorem nmF_nbF : ∀ n q x π v nb, va τ hd π = v → π ≠ [] → nmF τ n q x v (omv τ hd nb) = omv τ hd (nbF τ n q x π nb) := by
  intro n
  induction n with
  | zero => intro q x π v nb _ _; rfl
  | succ n ih =>
    intro q x π v nb hv hπ
    unfold nmF nbF
    by_cases z : tA τ 17 q = 6
    · rw [if_pos z, if_pos z, ← omv_up hv]
      exact ih _ _ π v _ hv hπ
    · rw [if_neg z, if_neg z]
      by_cases z0 : tA τ 17 q = 0
      · rw [if_pos z0, if_pos z0, ← omv_up hv]
      · rw [if_neg z0, if_neg z0, ← omv_up hv]
        exact nmL_nbL (k := (tA τ 19 q).toNat) (π := π) (fun c x π v nb h1 h2 => ih c x π v nb h1 h2) (kids τ q) 0 x (ptv τ v) _ (fun i _ => by
          show (if π = [] then hd (0 + i) else ptv τ (va τ hd π) (0 + i)) = _
          rw [if_neg hπ, hv])
/-- a row holds -/
def hoR (τ : TW) (hd : Nat → Nat) (R way : Nat) : Prop := hoL (hol τ 7) τ 0 (cks τ R) way hd
def nmR (τ : TW) (hd : Nat → Nat) (R way : Nat) : Nat → Option Nat := nmL (nmF τ 7) τ 0 (cks τ R) way hd (fun _ => none)
theorem hoR_tsR {R m way : Nat} (h : RP τ R m) : hoR τ hd R way ↔ ∀ e, e ∈ tsR τ R way → sem τ (va τ hd e.1) e.2 :=
  hoL_tsL (hd := hd) (k := 24) (π := []) (fun c x π v h1 h2 h3 h4 => hol_tst 7 c x π v h1 h2 h3 h4) (cks τ R) 0 way hd h.2.2.2.1 (fun i _ => rfl)
theorem nmR_nbR {R way : Nat} : nmR τ hd R way = omv τ hd (nbR τ R way) :=
  nmL_nbL (hd := hd) (k := 24) (π := []) (fun c x π v nb h1 h2 => nmF_nbF 7 c x π v nb h1 h2) (cks τ R) 0 way hd (fun _ => none) (fun i _ => rfl)
end ZSem
