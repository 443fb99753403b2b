/-! rows, plainly: of a pattern, taken in one of its ways, its tests -/
section ZRows1
variable {p b e d : Nat} {w : CW} {τ : TW}
/-- where something stands: steps of a kind's parts, the last one ahead; a column is a step of the kind 24 -/
abbrev Pa : Type := List (Nat × Nat)
def cod : Pa → Nat
  | [] => 0
  | (_, i) :: π => 8 * cod π + i + 1
def rw' (τ : TW) (q : Nat) : Nat := (tA τ 26 q).toNat
/-- a chain of rows -/
def chF (τ : TW) : Nat → Int → List Nat
  | 0, _ => []
  | n + 1, x => if x < 0 then [] else x.toNat :: chF τ n (tA τ 23 x)
def CHL (τ : TW) : Int → List Nat → Prop
  | x, [] => x = -4
  | x, c :: cs => x = c ∧ c < np τ ∧ CHL τ (tA τ 23 x) cs
theorem CHL.ch : ∀ {n : Nat} {x : Int} {l : List Nat}, CHL τ x l → l.length ≤ n → chF τ n x = l := by
  intro n
  induction n with
  | zero =>
    intro x l h hl
    cases l with
    | nil => rfl
    | cons c cs => exact absurd hl (by simp)
  | succ n ih =>
    intro x l h hl
    cases l with
    | nil =>
      have : x = -4 := h
      unfold chF
      rw [if_pos (by omega)]
    | cons c cs =>
      obtain ⟨h1, h2, h3⟩ := h
      unfold chF
      rw [if_neg (by omega), ih h3 (by simp at hl; exact hl), h1, Int.toNat_natCast]
def kids (τ : TW) (q : Nat) : List Nat := if tA τ 17 q = 5 ∨ tA τ 17 q = 6 then chF τ 7 (tA τ 22 q) else []
/-- how many ways: side by side, one of them -/
def prN (τ : TW) : List Nat → Nat
  | [] => 1
  | c :: cs => rw' τ c * prN τ cs
def suN (τ : TW) : List Nat → Nat
  | [] => 0
  | c :: cs => rw' τ c + suN τ cs
/-- the alternative that is taken, in which of its ways -/
def selA (τ : TW) : List Nat → Nat → Nat × Nat
  | [], w => (0, w)
  | c :: cs, w => if w < rw' τ c then (c, w) else selA τ cs (w - rw' τ c)
/-- of those side by side, from the j-th on -/
def tsL (f : Nat → Nat → Pa → List (Pa × Nat)) (τ : TW) (k : Nat) (π : Pa) : Nat → List Nat → Nat → List (Pa × Nat)
  | _, [], _ => []
  | j, c :: cs, w => f c ((w / prN τ cs) % rw' τ c) ((k, j) :: π) ++ tsL f τ k π (j + 1) cs w
/-- tests of a pattern, in one way -/
def tst (τ : TW) : Nat → Nat → Nat → Pa → List (Pa × Nat)
  | 0, _, _, _ => []
  | n + 1, q, w, π => if tA τ 17 q = 6 then tst τ n (selA τ (kids τ q) w).1 (selA τ (kids τ q) w).2 π
      else if tA τ 17 q = 0 then []
      else (π, q) :: tsL (tst τ n) τ (tA τ 19 q).toNat π 0 (kids τ q) w
/-- rows of patterns below one, with it -/
def wsz (τ : TW) : Nat → Nat → Nat
  | 0, _ => 0
  | n + 1, q => 1 + ((kids τ q).map (wsz τ n)).sum
/-- a pattern is whole: all of it lies below N -/
def WP (τ : TW) : Nat → Nat → Prop
  | 0, _ => False
  | n + 1, q => (q < np τ ∧ 0 ≤ tA τ 17 q ∧ tA τ 17 q ≤ 6 ∧ 1 ≤ tA τ 26 q ∧ tA τ 26 q ≤ 40) ∧
      ((tA τ 24 q = -4 ∨ (0 ≤ tA τ 24 q ∧ tA τ 24 q < 8)) ∧ (tA τ 25 q = -4 ∨ (0 ≤ tA τ 25 q ∧ tA τ 25 q < 8))) ∧
      (tA τ 17 q ≠ 5 → tA τ 17 q ≠ 6 → tA τ 26 q = 1) ∧
      (tA τ 17 q = 1 → tA τ 18 q = 0 ∧ -999999999 ≤ tA τ 19 q ∧ tA τ 19 q ≤ tA τ 20 q ∧ tA τ 20 q ≤ 999999999) ∧ (tA τ 17 q = 2 → tA τ 18 q = 1 ∧ (tA τ 19 q = 0 ∨ tA τ 19 q = 1)) ∧ (tA τ 17 q = 3 → tA τ 18 q = 2) ∧ (tA τ 17 q = 4 → 3 ≤ tA τ 18 q) ∧
      (tA τ 17 q = 5 → 3 ≤ tA τ 18 q ∧ CHL τ (tA τ 22 q) (kids τ q) ∧ (kids τ q).length ≤ 4 ∧ (∃ k : Nat, tA τ 19 q = k ∧ k < nK τ ∧ (kids τ q = [] ∨ ((kids τ q).length : Int) = tA τ 14 k) ∧ ∀ i c : Nat, (kids τ q)[i]? = some c → tA τ 18 c = tA τ 15 (4 * k + i : Nat)) ∧ rw' τ q = prN τ (kids τ q) ∧ ∀ c, c ∈ kids τ q → WP τ n c) ∧
      (tA τ 17 q = 6 → CHL τ (tA τ 22 q) (kids τ q) ∧ (kids τ q).length ≤ 6 ∧ rw' τ q = suN τ (kids τ q) ∧ ∀ c, c ∈ kids τ q → WP τ n c ∧ tA τ 18 c = tA τ 18 q)
/-- a list of the first children -/
def lsN (c : Nat → Nat) : Nat → Nat → List Nat
  | _, 0 => []
  | i, m + 1 => c i :: lsN c (i + 1) m
theorem lsN_len (c : Nat → Nat) : ∀ m i, (lsN c i m).length = m := by
  intro m
  induction m with
  | zero => intro i; rfl
  | succ m ih => intro i; show (lsN c (i + 1) m).length + 1 = m + 1; rw [ih]
theorem lsN_mem {c : Nat → Nat} : ∀ {m i x}, x ∈ lsN c i m → ∃ j, i ≤ j ∧ j < i + m ∧ x = c j := by
  intro m
  induction m with
  | zero => intro i x h; cases h
  | succ m ih =>
    intro i x h
    rcases List.mem_cons.mp h with h | h
    · exact ⟨i, by omega, by omega, h⟩
    · obtain ⟨j, h1, h2, h3⟩ := ih h
      exact ⟨j, by omega, by omega, h3⟩
theorem lsN_get {c : Nat → Nat} : ∀ {m i j x}, (lsN c i m)[j]? = some x → j < m ∧ x = c (i + j) := by
  intro m
  induction m with
  | zero => intro i j x h; simp [lsN] at h
  | succ m ih =>
    intro i j x h
    cases j with
    | zero =>
      simp [lsN] at h
      exact ⟨by omega, h.symm⟩
    | succ j =>
      simp [lsN] at h
      obtain ⟨h1, h2⟩ := ih h
      exact ⟨by omega, by rw [h2]; congr 1; omega⟩
theorem lsN_at {c : Nat → Nat} : ∀ {m i j}, j < m → (lsN c i m)[j]? = some (c (i + j)) := by
  intro m
  induction m with
  | zero => intro i j h; omega
  | succ m ih =>
    intro i j h
    cases j with
    | zero => rfl
    | succ j =>
      show (lsN c (i + 1) m)[j]? = _
      rw [ih (by omega)]
      congr 2; omega
theorem CHL_ls {c : Nat → Nat} : ∀ m i, (∀ j, i ≤ j → j + 1 < i + m → tA τ 23 (c j) = c (j + 1)) → (0 < m → tA τ 23 (c (i + m - 1)) = -4) → (∀ j, i ≤ j → j < i + m → c j < np τ) → ∀ x : Int, (m = 0 → x = -4) → (0 < m → x = c i) → CHL τ x (lsN c i m) := by
  intro m
  induction m with
  | zero => intro i _ _ _ x h0 _; exact h0 rfl
  | succ m ih =>
    intro i h1 h2 h3 x _ hx
    have hx := hx (by omega)
    refine ⟨hx, h3 i (by omega) (by omega), ?_⟩
    rw [hx]
    refine ih (i + 1) (fun j q1 q2 => h1 j (by omega) (by omega)) (fun q => ?_) (fun j q1 q2 => h3 j (by omega) (by omega)) _ (fun q => ?_) (fun q => h1 i (by omega) (by omega))
    · have := h2 (by omega)
      rw [show i + 1 + m - 1 = i + (m + 1) - 1 by omega]
      exact this
    · have := h2 (by omega)
      rw [show i + (m + 1) - 1 = i by omega] at this
      exact this
theorem prN_ge {cs : List Nat} : (∀ c, c ∈ cs → 1 ≤ rw' τ c) → 1 ≤ prN τ cs := by
  induction cs with
  | nil => intro _; exact Nat.le_refl 1
  | cons c cs ih =>
    intro h
    have h1 := h c (List.mem_cons_self ..)
    have h2 := ih (fun x hx => h x (List.mem_cons_of_mem _ hx))
    unfold prN
    exact Nat.mul_le_mul h1 h2
theorem prN_mem {cs : List Nat} (h : ∀ c, c ∈ cs → 1 ≤ rw' τ c) {c : Nat} (hc : c ∈ cs) : rw' τ c ≤ prN τ cs := by
  induction cs with
  | nil => cases hc
  | cons x cs ih =>
    have h2 := prN_ge (cs := cs) (fun y hy => h y (List.mem_cons_of_mem _ hy))
    have h1 := h x (List.mem_cons_self ..)
    unfold prN
    rcases List.mem_cons.mp hc with z | z
    · rw [z]
      exact Nat.le_mul_of_pos_right _ h2
    · have := ih (fun y hy => h y (List.mem_cons_of_mem _ hy)) z
      exact Nat.le_trans this (Nat.le_mul_of_pos_left _ h1)
theorem suN_mem {cs : List Nat} {c : Nat} (hc : c ∈ cs) : rw' τ c ≤ suN τ cs := by
  induction cs with
  | nil => cases hc
  | cons x cs ih =>
    unfold suN
    rcases List.mem_cons.mp hc with z | z
    · rw [z]; omega
    · have := ih z; omega
theorem rw_c {q : Nat} (h : 1 ≤ tA τ 26 q) : ((rw' τ q : Nat) : Int) = tA τ 26 q := by unfold rw'; omega
theorem prF_pr {c : Nat → Nat} {m : Nat} (hm : ∀ j, j < m → 1 ≤ tA τ 26 (c j)) (h40 : prF τ c m ≤ 40) : ∀ k i : Nat, i + k = m → prF τ c i * (prN τ (lsN c i k) : Int) = prF τ c m := by
  intro k
  induction k with
  | zero =>
    intro i hi
    have : i = m := by omega
    subst this
    show prF τ c i * 1 = _
    omega
  | succ k ih =>
    intro i hi
    have a := ih (i + 1) (by omega)
    have g := (prF_rg (τ := τ) (c := c) (i + 1) (fun j hj => hm j (by omega))).1
    have hp : 1 ≤ prN τ (lsN c (i + 1) k) := prN_ge (fun x hx => by
      obtain ⟨j, j1, j2, j3⟩ := lsN_mem hx
      have := rw_c (hm j (by omega))
      have := hm j (by omega)
      rw [j3]
      omega)
    have l40 : prF τ c (i + 1) ≤ 40 := by
      have : prF τ c (i + 1) * 1 ≤ prF τ c (i + 1) * (prN τ (lsN c (i + 1) k) : Int) := Int.mul_le_mul_of_nonneg_left (by omega) (by omega)
      omega
    have e : prF τ c (i + 1) = prF τ c i * tA τ 26 (c i) := by
      have : prF τ c (i + 1) = min 1000 (prF τ c i * tA τ 26 (c i)) := rfl
      omega
    show prF τ c i * ((rw' τ (c i) * prN τ (lsN c (i + 1) k) : Nat) : Int) = _
    rw [← a, e, Int.natCast_mul, rw_c (hm i (by omega)), Int.mul_assoc]
theorem rwF_su {c : Nat → Nat} {m : Nat} (hm : ∀ j, j < m → 1 ≤ tA τ 26 (c j)) (h40 : rwF false τ c (m - 1) ≤ 40) : ∀ k i : Nat, i + 1 + k = m → rwF false τ c i + (suN τ (lsN c (i + 1) k) : Int) = rwF false τ c (m - 1) := by
  intro k
  induction k with
  | zero =>
    intro i hi
    have : i = m - 1 := by omega
    subst this
    show _ + 0 = _
    omega
  | succ k ih =>
    intro i hi
    have a := ih (i + 1) (by omega)
    have e : rwF false τ c (i + 1) = rwF false τ c i + tA τ 26 (c (i + 1)) := by
      have : rwF false τ c (i + 1) = min 1000 (rwF false τ c i + tA τ 26 (c (i + 1))) := rfl
      omega
    show rwF false τ c i + ((rw' τ (c (i + 1)) + suN τ (lsN c (i + 1 + 1) k) : Nat) : Int) = _
    have := rw_c (hm (i + 1) (by omega))
    omega
/-- a chain of children -/
theorem Chn.ls {N q m : Nat} {c : Nat → Nat} (h : Chn τ N q m c) (hN : N ≤ np τ) : CHL τ (tA τ 22 q) (lsN c 0 m) := by
  obtain ⟨h0, h1, h2, h3, h4⟩ := h
  exact CHL_ls m 0 (fun j _ hj => h2 j (by omega)) (fun hm => by rw [show 0 + m - 1 = m - 1 by omega]; exact h3 hm) (fun j _ hj => by have := h4 j (by omega); omega) _ h0 h1
theorem Chn_kids {N q m : Nat} {c : Nat → Nat} (h : Chn τ N q m c) (hN : N ≤ np τ) (hm : m ≤ 6) (h56 : tA τ 17 q = 5 ∨ tA τ 17 q = 6) : kids τ q = lsN c 0 m := by
  unfold kids
  rw [if_pos h56]
  exact CHL.ch (h.ls hN) (by rw [lsN_len]; omega)
theorem wsz_ls {c : Nat → Nat} {m N n : Nat} (h : ∀ j, j < m → c j + wsz τ n (c j) ≤ nxt c m N j) : ∀ k i : Nat, i + (k + 1) = m → c i + ((lsN c i (k + 1)).map (wsz τ n)).sum ≤ N := by
  intro k
  induction k with
  | zero =>
    intro i hi
    have := h i (by omega)
    unfold nxt at this
    rw [if_neg (by omega)] at this
    show c i + (wsz τ n (c i) + 0) ≤ N
    omega
  | succ k ih =>
    intro i hi
    have a := h i (by omega)
    have b := ih (i + 1) (by omega)
    unfold nxt at a
    rw [if_pos (by omega)] at a
    show c i + (wsz τ n (c i) + ((lsN c (i + 1) (k + 1)).map (wsz τ n)).sum) ≤ N
    omega
theorem nxt_leN {c : Nat → Nat} {m N i : Nat} (h : ∀ j, j < m → c j < N) (hi : i < m) : nxt c m N i ≤ N := by
  unfold nxt
  split
  · exact Nat.le_of_lt (h _ (by assumption))
  · exact Nat.le_refl _
theorem PRel.wp {Sn : Nat → Int} (hK : ∀ k, k < nK τ → tA τ 14 k ≤ 4) : ∀ n N r q D, PRel p b w τ Sn n N r q D → N ≤ np τ → tA τ 26 q ≤ 40 → WP τ n q ∧ q + wsz τ n q ≤ N := by
  intro n
  induction n with
  | zero => intro N r q D h; exact h.elim
  | succ n ih =>
    intro N r q D h hN h40
    have rg := PRel.rows _ _ _ _ _ h
    obtain ⟨h1, h2, h⟩ := h
    obtain ⟨r', D', nm', hc⟩ : ∃ r' D' nm', PCore (PRel p b w τ Sn n) p b w τ Sn N r' q D' nm' := by
      rcases h with ⟨_, h⟩ | ⟨_, _, _, _, _, _, _, h⟩
      · exact ⟨_, _, _, h⟩
      · exact ⟨_, _, _, h⟩
    have hk0 : ∀ x, tA τ 17 q = x → x ≠ 5 → x ≠ 6 → wsz τ (n + 1) q = 1 := fun x e1 e2 e3 => by
      have : kids τ q = [] := by unfold kids; rw [if_neg (by omega)]
      unfold wsz
      rw [this]
      rfl
    obtain ⟨c1, c2, c3, c4, h⟩ := hc
    have nm : (tA τ 24 q = -4 ∨ (0 ≤ tA τ 24 q ∧ tA τ 24 q < 8)) ∧ (tA τ 25 q = -4 ∨ (0 ≤ tA τ 25 q ∧ tA τ 25 q < 8)) := ⟨h1, h2⟩
    have hcs : ∀ {m : Nat} {c : Nat → Nat} {rr : Nat → Nat} {Di : Nat → Nat → Prop}, Chn τ N q m c → (∀ i, i < m → PRel p b w τ Sn n (nxt c m N i) (rr i) (c i) (Di i)) → (∀ i, i < m → tA τ 26 (c i) ≤ 40) → (∀ x, x ∈ lsN c 0 m → WP τ n x) ∧ q + (1 + ((lsN c 0 m).map (wsz τ n)).sum) ≤ N := by
      intro m c rr Di ch hp h4
      have lt : ∀ i, i < m → c i < N := fun i hi => (ch.2.2.2.2 i hi).2
      have each : ∀ i, i < m → WP τ n (c i) ∧ c i + wsz τ n (c i) ≤ nxt c m N i := fun i hi => ih _ _ _ _ (hp i hi) (Nat.le_trans (nxt_leN lt hi) hN) (h4 i hi)
      refine ⟨fun x hx => ?_, ?_⟩
      · obtain ⟨j, j1, j2, j3⟩ := lsN_mem hx
        rw [j3]
        exact (each j (by omega)).1
      · cases m with
        | zero => show q + (1 + 0) ≤ N; omega
        | succ m =>
          have := wsz_ls (fun j hj => (each j hj).2) m 0 (by omega)
          have := (ch.2.2.2.2 0 (by omega)).1
          omega
    rcases h with ⟨h1, h2, h3, -⟩ | ⟨h1, h2, h3, h4, -⟩ | ⟨h1, h2, h3, h4, -⟩ | ⟨h1, h2, h3, h4, -⟩ | ⟨h1, h2, h3, h4, -⟩ | ⟨h1, h2, h3, k, m, c, k1, k2, k3, k4, k5, k6, k7, k8, k9, Di, x1, x2⟩ | ⟨h1, h2, m, c, k1, k2, k3, k4, k5, k6, D0, x1, x2⟩
    · have h1 : tA τ 17 q = 0 := h1
      refine ⟨⟨⟨by omega, by omega, by omega, rg.1, h40⟩, nm, fun _ _ => h3, fun y => by omega, fun y => by omega, fun y => by omega, fun y => by omega, fun y => by omega, fun y => by omega⟩, by rw [hk0 _ h1 (by decide) (by decide)]; omega⟩
    · have h1 : tA τ 17 q = 1 := h1
      refine ⟨⟨⟨by omega, by omega, by omega, rg.1, h40⟩, nm, fun _ _ => h3, fun _ => ⟨h4.2.2.2.2.2, h4.2.2.1, h4.2.2.2.1, h4.2.2.2.2.1⟩, fun y => by omega, fun y => by omega, fun y => by omega, fun y => by omega, fun y => by omega⟩, by rw [hk0 _ h1 (by decide) (by decide)]; omega⟩
    · have h1 : tA τ 17 q = 2 := h1
      refine ⟨⟨⟨by omega, by omega, by omega, rg.1, h40⟩, nm, fun _ _ => h3, fun y => by omega, fun _ => ⟨h4.2.2, h4.2.1⟩, fun y => by omega, fun y => by omega, fun y => by omega, fun y => by omega⟩, by rw [hk0 _ h1 (by decide) (by decide)]; omega⟩
    · have h1 : tA τ 17 q = 3 := h1
      refine ⟨⟨⟨by omega, by omega, by omega, rg.1, h40⟩, nm, fun _ _ => h3, fun y => by omega, fun y => by omega, fun _ => h4.2, fun y => by omega, fun y => by omega, fun y => by omega⟩, by rw [hk0 _ h1 (by decide) (by decide)]; omega⟩
    · have h1 : tA τ 17 q = 4 := h1
      refine ⟨⟨⟨by omega, by omega, by omega, rg.1, h40⟩, nm, fun _ _ => h3, fun y => by omega, fun y => by omega, fun y => by omega, fun _ => h4, fun y => by omega, fun y => by omega⟩, by rw [hk0 _ h1 (by decide) (by decide)]; omega⟩
    · have h1 : tA τ 17 q = 5 := h1
      have m4 : m ≤ 4 := by
        rcases k5 with y | y
        · omega
        · have := hK k k2; have : (m : Int) = tA τ 14 k := y; omega
      have ek := Chn_kids k6 hN (by omega) (Or.inl h1)
      have r1 : ∀ j, j < m → 1 ≤ tA τ 26 (c j) := fun j hj => (PRel.rows _ _ _ _ _ (x1 j hj).2).1
      have e26 : tA τ 26 q = prF τ c m := by
        rcases Nat.eq_zero_or_pos m with e0 | e0
        · rw [e0]; exact k7 e0
        · have := rwF_prF m (fun j hj => (PRel.rows _ _ _ _ _ (x1 j hj).2).2) (m - 1) (by omega)
          rw [show m - 1 + 1 = m by omega] at this
          exact (k8 e0).trans this
      have epr := prF_pr r1 (by omega) m 0 (by omega)
      have er : rw' τ q = prN τ (lsN c 0 m) := by
        have : prF τ c 0 = 1 := rfl
        rw [this, Int.one_mul] at epr
        unfold rw'
        omega
      have each40 : ∀ i, i < m → tA τ 26 (c i) ≤ 40 := fun i hi => by
        have hmem : c i ∈ lsN c 0 m := List.mem_of_getElem? (by have := lsN_at (c := c) (i := 0) hi; rw [Nat.zero_add] at this; exact this)
        have := prN_mem (τ := τ) (cs := lsN c 0 m) (fun x hx => by
          obtain ⟨j, j1, j2, j3⟩ := lsN_mem hx
          have := rw_c (r1 j (by omega))
          have := r1 j (by omega)
          rw [j3]; omega) hmem
        have := rw_c (r1 i hi)
        have := rw_c rg.1
        omega
      obtain ⟨g1, g2⟩ := hcs k6 (fun i hi => (x1 i hi).2) each40
      have ew : wsz τ (n + 1) q = 1 + ((lsN c 0 m).map (wsz τ n)).sum := by
        show 1 + ((kids τ q).map (wsz τ n)).sum = _
        rw [ek]
      refine ⟨⟨⟨by omega, by omega, by omega, rg.1, h40⟩, nm, fun y => absurd h1 y, fun y => by omega, fun y => by omega, fun y => by omega, fun y => by omega, fun _ => ?_, fun y => by omega⟩, by rw [ew]; exact g2⟩
      rw [ek]
      refine ⟨h3, k6.ls hN, by rw [lsN_len]; exact m4, ⟨k, k1, k2, ?_, fun i x hx => ?_⟩, er, g1⟩
      · rcases k5 with y | y
        · left; rw [y]; rfl
        · right; rw [lsN_len]; exact y
      · obtain ⟨j1, j2⟩ := lsN_get hx
        rw [j2, Nat.zero_add]
        exact k9 i j1
    · have h1 : tA τ 17 q = 6 := h1
      have ek := Chn_kids k4 hN k2 (Or.inr h1)
      have r1 : ∀ j, j < m → 1 ≤ tA τ 26 (c j) := fun j hj => (PRel.rows _ _ _ _ _ (x1 j hj).2).1
      have k5 : tA τ 26 q = rwF false τ c (m - 1) := k5
      have esu := rwF_su (m := m) r1 (by omega) (m - 1) 0 (by omega)
      have e0 : rwF false τ c 0 = tA τ 26 (c 0) := rfl
      have els : lsN c 0 m = c 0 :: lsN c (0 + 1) (m - 1) := by
        obtain ⟨m', rfl⟩ : ∃ m', m = m' + 1 := ⟨m - 1, by omega⟩
        rfl
      have er : rw' τ q = suN τ (lsN c 0 m) := by
        rw [els]
        show _ = rw' τ (c 0) + suN τ (lsN c (0 + 1) (m - 1))
        have := rw_c (r1 0 (by omega))
        have := rw_c rg.1
        omega
      have each40 : ∀ i, i < m → tA τ 26 (c i) ≤ 40 := fun i hi => by
        have hmem : c i ∈ lsN c 0 m := List.mem_of_getElem? (by have := lsN_at (c := c) (i := 0) hi; rw [Nat.zero_add] at this; exact this)
        have := suN_mem (τ := τ) hmem
        have := rw_c (r1 i hi)
        have := rw_c rg.1
        omega
      obtain ⟨g1, g2⟩ := hcs k4 (fun i hi => (x1 i hi).2) each40
      have ew : wsz τ (n + 1) q = 1 + ((lsN c 0 m).map (wsz τ n)).sum := by
        show 1 + ((kids τ q).map (wsz τ n)).sum = _
        rw [ek]
      refine ⟨⟨⟨by omega, by omega, by omega, rg.1, h40⟩, nm, fun _ y => absurd h1 y, fun y => by omega, fun y => by omega, fun y => by omega, fun y => by omega, fun y => by omega, fun _ => ?_⟩, by rw [ew]; exact g2⟩
      rw [ek]
      refine ⟨k4.ls hN, by rw [lsN_len]; exact k2, er, fun x hx => ⟨g1 x hx, ?_⟩⟩
      obtain ⟨j, j1, j2, j3⟩ := lsN_mem hx
      rw [j3]
      exact k6 j (by omega)
end ZRows1
