/-! the component's rows: a pattern's row, whole -/
section ZRowC4
variable {p b e d rr : Nat} {w : CW} {τ : TW}
/-- names bound below: with one name of its own -/
def nbC (τ : TW) (n q : Nat) (nm : Int) (way : Nat) (π : Pa) (nb : Nat → Option Pa) : Nat → Option Pa :=
  if tA τ 17 q = 6 then upn nm π (nbF τ n (selA τ (kids τ q) way).1 (selA τ (kids τ q) way).2 π nb)
  else if tA τ 17 q = 0 then upn nm π nb
  else nbL (nbF τ n) τ (tA τ 19 q).toNat π 0 (kids τ q) way (upn nm π nb)
theorem PCore.to {P : Nat → Nat → Nat → (Nat → Prop) → Prop} {Sn : Nat → Int} {N r q : Nat} {D : Nat → Prop} {nm : Int} (h : PCore P p (p + 8) w τ Sn N r q D nm) (h0 : tA τ 17 q ≠ 0) (h6 : tA τ 17 q ≠ 6) : TO p w τ r q := by
  obtain ⟨c1, c2, c3, c4, h⟩ := h
  refine ⟨c2, ?_⟩
  rcases h with ⟨h1, h2, h3, -⟩ | ⟨h1, h2, h3, h4, -⟩ | ⟨h1, h2, h3, h4, -⟩ | ⟨h1, h2, h3, h4, -⟩ | ⟨h1, h2, h3, h4, -⟩ | ⟨h1, h2, h3, k, m, c, k1, k2, k3, k4, k5, k6, k7, k8, k9, Di, x1, x2⟩ | ⟨h1, h2, m, c, k1, k2, k3, k4, k5, k6, D0, x1, x2⟩
  · exact absurd h1 h0
  · exact Or.inl ⟨h1, h2, h4.1, h4.2.1⟩
  · exact Or.inr (Or.inl ⟨h1, h2, h4.1⟩)
  · exact Or.inr (Or.inr (Or.inl ⟨h1, h2, h4.1⟩))
  · exact Or.inr (Or.inr (Or.inr (Or.inl ⟨h1, h2⟩)))
  · exact Or.inr (Or.inr (Or.inr (Or.inr ⟨h1, h2, k, k1, k2, k3⟩)))
  · exact absurd h1 h6
theorem selA_ls {c : Nat → Nat} : ∀ m i way, way < suN τ (lsN c i m) → ∃ j, i ≤ j ∧ j < i + m ∧ selA τ (lsN c i m) way = (c j, way - suN τ (lsN c i (j - i))) ∧ suN τ (lsN c i (j - i)) ≤ way ∧ way - suN τ (lsN c i (j - i)) < rw' τ (c j) := by
  intro m
  induction m with
  | zero => intro i way h; exact absurd h (by simp [lsN, suN])
  | succ m ih =>
    intro i way h
    have e : lsN c i (m + 1) = c i :: lsN c (i + 1) m := rfl
    rw [e] at h ⊢
    unfold selA
    by_cases z : way < rw' τ (c i)
    · rw [if_pos z]
      have e0 : lsN c i (i - i) = [] := by rw [Nat.sub_self]; rfl
      refine ⟨i, Nat.le_refl _, by omega, ?_, ?_, ?_⟩ <;> rw [e0]
      · rfl
      · exact Nat.zero_le _
      · exact z
    · rw [if_neg z]
      obtain ⟨j, j1, j2, j3, j4, j5⟩ := ih (i + 1) (way - rw' τ (c i)) (by unfold suN at h; omega)
      have e1 : lsN c i (j - i) = c i :: lsN c (i + 1) (j - (i + 1)) := by
        rw [show j - i = (j - (i + 1)) + 1 by omega]
        rfl
      have e2 : suN τ (lsN c i (j - i)) = rw' τ (c i) + suN τ (lsN c (i + 1) (j - (i + 1))) := by rw [e1]; rfl
      refine ⟨j, by omega, by omega, ?_, by omega, by omega⟩
      rw [j3, e2]
      congr 1
      omega
theorem suN_ls {c : Nat → Nat} : ∀ m i, suN τ (lsN c i (m + 1)) = suN τ (lsN c i m) + rw' τ (c (i + m)) := by
  intro m
  induction m with
  | zero => intro i; simp [lsN, suN]
  | succ m ih =>
    intro i
    show rw' τ (c i) + suN τ (lsN c (i + 1) (m + 1)) = rw' τ (c i) + suN τ (lsN c (i + 1) m) + rw' τ (c (i + (m + 1)))
    rw [ih (i + 1), show i + 1 + m = i + (m + 1) by omega]
    omega
theorem suN_mono {c : Nat → Nat} {i j : Nat} (h : i ≤ j) : suN τ (lsN c 0 i) ≤ suN τ (lsN c 0 j) := by
  induction j with
  | zero => have : i = 0 := by omega
            subst this; exact Nat.le_refl _
  | succ j ih =>
    rcases Nat.lt_or_ge i (j + 1) with u | u
    · have := ih (by omega)
      rw [suN_ls]
      omega
    · have : i = j + 1 := by omega
      subst this; exact Nat.le_refl _
/-- alternatives: one is taken -/
theorem row6 {w0 : CW} {F x : Nat} {Sn : Nat → Int} (hB : BS p b w0 τ F) {n m r : Nat} {c : Nat → Nat} {D : Nat → Nat → Prop} {N : Nat → Nat} {way x2 : Nat} {way0 : Int} (hr : tg w0 r = 9 ∧ PArr (p + 8) w0 (fR w0 73 r) m ∧ m ≤ 6)
    (hch : ∀ i, i < m → PRel p (p + 8) w0 τ Sn n (N i) (aR w0 (fR w0 73 r) i) (c i) (D i)) (h40 : ∀ i, i < m → 1 ≤ tA τ 26 (c i) ∧ tA τ 26 (c i) ≤ 40) (hway : way < suN τ (lsN c 0 m)) (hsu : suN τ (lsN c 0 m) ≤ 40) (hd : 3 * n + 8 ≤ d) (f : Fr [F, fR w0 50 F] w0 w) (pf : PF [] p w0 w) {Q : CW → Prop}
    (hQ : ∀ j, j < m → selA τ (lsN c 0 m) way = (c j, way - suN τ (lsN c 0 j)) → way - suN τ (lsN c 0 j) < rw' τ (c j) → pC_X11_row_42 p (wpC p d) Q r way0 x2 F x ((way - suN τ (lsN c 0 j) : Nat) : Int) (j : Nat) w) : pC_X11_row_6 p (wpC p d) Q r way0 x2 F x (way : Nat) 0 w := by
  obtain ⟨r1, r3, r4⟩ := hr
  have o := hB.ob f (r := r) (by omega) (by omega) (by omega)
  have oa := hB.ob f (r := fR w0 73 r) (by rw [r3.1]; decide) (by rw [r3.1]; decide) (by rw [r3.1]; decide)
  obtain ⟨hK, ekd⟩ := hB.kr f pf
  refine bC_X11_row_6 ?_
  intro I hI
  have key : ∀ t i, i + t = m → suN τ (lsN c 0 i) ≤ way → I ((way - suN τ (lsN c 0 i) : Nat) : Int) (i : Nat) w := by
    intro t
    induction t with
    | zero =>
      intro i hi hs
      have : i = m := by omega
      subst this
      omega
    | succ t ih =>
      intro i hi hs
      have him : i < m := by omega
      have hway2 := PRel.way (d := d - 3 * n) (fun k hk => by
        have kl := hK.2.2.2.2.1 k hk
        exact kl.2.2.2.2.2.2.2.1) _ _ _ _ _ (hB.prel f pf (hch i him))
      have rg := h40 i him
      have rc := rw_c rg.1
      have e41 : min (41 : Int) (tA τ 26 (c i)) = (rw' τ (c i) : Nat) := by omega
      have su1 := suN_ls (τ := τ) (c := c) i 0
      rw [Nat.zero_add] at su1
      refine hI _ _ _ ?_
      rw [ob.etg o, ob.efR o, ob.etg oa, ob.eln oa, ob.eaR oa, r1, r3.1, r3.2.1]
      refine ⟨by decide, ⟨by decide, by omega, by omega⟩, hway2 d (by omega) _ ?_⟩
      rw [e41]
      by_cases z : way - suN τ (lsN c 0 i) < rw' τ (c i)
      · refine br1 (by omega) (hQ i him ?_ z)
        obtain ⟨j, j1, j2, j3, j4, j5⟩ := selA_ls (τ := τ) (c := c) m 0 way hway
        rw [Nat.sub_zero] at j3 j4 j5
        have su2 := suN_ls (τ := τ) (c := c) j 0
        rw [Nat.zero_add] at su2
        have ej : j = i := by
          rcases Nat.lt_trichotomy j i with y | y | y
          · have := suN_mono (τ := τ) (c := c) (show j + 1 ≤ i by omega)
            omega
          · exact y
          · have := suN_mono (τ := τ) (c := c) (show i + 1 ≤ j by omega)
            omega
        rw [ej] at j3
        exact j3
      · refine br0 (by omega) ⟨by rw [ob.etg o, r1]; decide, ⟨by rw [ob.efR o, ob.etg oa, r3.1]; decide, by omega, by rw [ob.efR o, ob.eln oa, r3.2.1]; omega⟩, ?_⟩
        rw [ob.efR o, ob.eaR oa]
        refine hway2 d (by omega) _ ?_
        rw [e41]
        refine fa (fa ?_)
        rw [w32_s (a := (i : Int) + 1) (by omega) (by omega), w32_s (by omega) (by omega)]
        have := ih (i + 1) (by omega) (by omega)
        rw [su1] at this
        rw [show (((way - suN τ (lsN c 0 i) : Nat) : Int) - (rw' τ (c i) : Nat)) = ((way - (suN τ (lsN c 0 i) + rw' τ (c i)) : Nat) : Int) by omega]
        exact this
  have := key m 0 (by omega) (by show 0 ≤ way; omega)
  have e0 : suN τ (lsN c 0 0) = 0 := rfl
  rw [e0, Nat.sub_zero] at this
  exact this
/-- a pattern's object, in its own row: a core -/
theorem row_core {w0 : CW} {F x : Nat} {S : Pa → Int} {zb lim : Int} {ALL : List Pa} {Sn : Nat → Int} (hB : BS p b w0 τ F) (hm : lim ≤ mu w0 ∧ lim ≤ 5 * mz w0) (hlim : zb + 22000 ≤ lim) (hAL : ALL.length ≤ 900) (hS : ∀ k j π, π ≠ [] → k < nK τ → S ((k, j) :: π) = tA τ 15 (4 * k + j : Nat)) {n N r q : Nat} {D : Nat → Prop} {nm : Int} (hN : N ≤ np τ) (hW : WP τ (n + 1) q)
    (hP : ∀ N r q D, PRel p (p + 8) w0 τ Sn n N r q D → N ≤ np τ → WP τ n q → RGO p b w0 τ F S x rr zb ALL (3 * n + 8) r (tst τ n q) (nbF τ n q) (sub τ n q) (wsz τ n q) (rw' τ q)) (hnm : nm < 0 ∨ nm < 8) (hc : PCore (PRel p (p + 8) w0 τ Sn n) p (p + 8) w0 τ Sn N r q D nm)
    (hwy : ∀ w, Fr [F, fR w0 50 F] w0 w → PF [] p w0 w → WAY p (3 * n + 4) w τ r q) : RGO p b w0 τ F S x rr zb ALL (3 * n + 10) r (tst τ (n + 1) q) (nbC τ n q nm) (sub τ (n + 1) q) (wsz τ (n + 1) q) (rw' τ q) := by
  intro e he way π w ps L nb Q hway h hπ hsb hps hL hdp hQ
  obtain ⟨g, rfl⟩ : ∃ g, e = g + 2 := ⟨e - 2, by omega⟩
  have t6 := hc.tg
  have o := hB.ob h.1.1 (r := r) (by omega) (by omega) (by omega)
  obtain ⟨hK0, -⟩ := hB.kr (Fr.refl _ _) (PF.refl _ _ _)
  have hK4 : ∀ k, k < nK τ → tA τ 14 k ≤ 4 := fun k hk => by
    have kl := hK0.2.2.2.2.1 k hk
    exact kl.2.2.2.2.2.2.2.1
  have h68 : fI w0 68 r = nm := hc.2.2.1
  have wpos := hW.wsz_pos
  obtain ⟨⟨w1, w2, w3, w4, w5⟩, -, -, -, -, -, -, w8, w9⟩ := id hW
  have rcq := rw_c w4
  obtain ⟨c1, c2, c3, c4, hcase⟩ := id hc
  by_cases z0 : tA τ 17 q = 0
  · have t : tg w0 r = 6 := by
      rcases hcase with y | y | y | y | y | y | y
      · exact y.2.1
      · have := y.1; omega
      · have := y.1; omega
      · have := y.1; omega
      · have := y.1; omega
      · have := y.1; omega
      · have := y.1; omega
    rw [show vm10 (tg w0 r) = 93 by rw [t]; rfl]
    refine sC_row93 (d := g + 1) hB h (by rw [ob.etg o]; exact t6) ((ob.efI o 68).trans h68) hnm hπ (fun w1 h1 e1 => hQ w1 ps ?_ (fun ρ hρ => ⟨hρ, e1 ρ⟩) hps ⟨[], (List.append_nil _).symm⟩)
    have et : tst τ (n + 1) q way π = [] := by unfold tst; rw [if_neg (by omega), if_pos z0]
    have en : nbC τ n q nm way π nb = upn nm π nb := by unfold nbC; rw [if_neg (by omega), if_pos z0]
    rw [et, en, List.append_nil]
    exact h1
  by_cases z6 : tA τ 17 q = 6
  · obtain ⟨h1, h2, m, c, k1, k2, k3, k4, k5, k6, D0, x1, x2⟩ : tA τ 17 q = 6 ∧ tg w0 r = 9 ∧ ∃ m c, 1 ≤ m ∧ m ≤ 6 ∧ PArr (p + 8) w0 (fR w0 73 r) m ∧ Chn τ N q m c ∧ tA τ 26 q = rwF false τ c (m - 1) ∧ (∀ i, i < m → tA τ 18 (c i) = tA τ 18 q) ∧ ∃ D0 : Nat → Prop, (∀ i, i < m → aR w0 (fR w0 73 r) i < r ∧ PRel p (p + 8) w0 τ Sn n (nxt c m N i) (aR w0 (fR w0 73 r) i) (c i) D0) ∧ (∀ n, D n ↔ own τ q n ∨ D0 n) ∧ ∀ n, own τ q n → ¬ D0 n := by
      rcases hcase with y | y | y | y | y | y | y
      · exact absurd (show tA τ 17 q = 0 from y.1) z0
      · have : tA τ 17 q = 1 := y.1
        omega
      · have : tA τ 17 q = 2 := y.1
        omega
      · have : tA τ 17 q = 3 := y.1
        omega
      · have : tA τ 17 q = 4 := y.1
        omega
      · have : tA τ 17 q = 5 := y.1
        omega
      · exact y
    have ek := Chn_kids k4 hN k2 (Or.inr z6)
    obtain ⟨v1, v2, v3, v4⟩ := w9 z6
    rw [ek] at v3 v4
    have hmem : ∀ j, j < m → c j ∈ lsN c 0 m := fun j hj => List.mem_of_getElem? (by have := lsN_at (c := c) (i := 0) hj; rw [Nat.zero_add] at this; exact this)
    have cW : ∀ j, j < m → WP τ n (c j) := fun j hj => (v4 _ (hmem j hj)).1
    have lt : ∀ i, i < m → c i < N := fun i hi => (k4.2.2.2.2 i hi).2
    have h40 : ∀ i, i < m → 1 ≤ tA τ 26 (c i) ∧ tA τ 26 (c i) ≤ 40 := fun i hi => by
      have := cW i hi
      cases n with
      | zero => exact this.elim
      | succ n => exact ⟨this.1.2.2.2.1, this.1.2.2.2.2⟩
    rw [show vm10 (tg w0 r) = 109 by rw [h2]; rfl]
    refine wC_X11_row (Nat.zero_le _) (bC_X11_row_0 (row6 (Sn := Sn) (n := n) (m := m) (c := c) (D := fun _ => D0) (N := fun i => nxt c m N i) hB ⟨h2, k3, k2⟩ (fun i hi => (x1 i hi).2) h40 (by omega) (by omega) (by omega) h.1.1 h.1.2.1 (fun j hj hsel hlt => ?_)))
    have oa := hB.ob h.1.1 (r := fR w0 73 r) (by rw [k3.1]; decide) (by rw [k3.1]; decide) (by rw [k3.1]; decide)
    have tj : 6 ≤ tg w0 (aR w0 (fR w0 73 r) j) ∧ tg w0 (aR w0 (fR w0 73 r) j) ≤ 12 := by
      have hp := (x1 j hj).2
      cases n with
      | zero => exact hp.elim
      | succ n =>
        rcases hp.2.2 with ⟨_, z⟩ | ⟨_, _, z, _⟩
        · exact z.tg
        · omega
    have oj := hB.ob h.1.1 (r := aR w0 (fR w0 73 r) j) (by omega) (by omega) (by omega)
    have et : tst τ (n + 1) q way π = tst τ n (c j) (way - suN τ (lsN c 0 j)) π := by
      conv => lhs; unfold tst
      rw [if_pos z6, ek, hsel]
    have en : nbC τ n q nm way π nb = upn nm π (nbF τ n (c j) (way - suN τ (lsN c 0 j)) π nb) := by
      unfold nbC
      rw [if_pos z6, ek, hsel]
    have ew : wsz τ (n + 1) q = 1 + ((lsN c 0 m).map (wsz τ n)).sum := by
      show 1 + ((kids τ q).map (wsz τ n)).sum = _
      rw [ek]
    have wj : wsz τ n (c j) ≤ ((lsN c 0 m).map (wsz τ n)).sum := by
      have : ∀ l : List Nat, c j ∈ l → wsz τ n (c j) ≤ (l.map (wsz τ n)).sum := by
        intro l
        induction l with
        | nil => intro hh; cases hh
        | cons y l ihl =>
          intro hh
          show _ ≤ wsz τ n y + (l.map (wsz τ n)).sum
          rcases List.mem_cons.mp hh with q1 | q1
          · rw [q1]; omega
          · have := ihl q1; omega
      exact this _ (hmem j hj)
    refine bC_X11_row_42 ⟨by rw [ob.etg o, h2]; decide, ⟨by rw [ob.efR o, ob.etg oa, k3.1]; decide, by omega, by rw [ob.efR o, ob.eln oa, k3.2.1]; omega⟩, ?_⟩
    rw [ob.efR o, ob.eaR oa, ob.etg oj]
    refine hP _ _ _ _ (x1 j hj).2 (Nat.le_trans (nxt_leN lt hj) hN) (cW j hj) (g + 1) (by omega) _ π w ps L nb _ hlt h hπ (fun ρ hρ => hsb ρ ?_) hps (by omega) (by omega) (fun w2 ps2 h2' ext2 all2 more2 => ?_)
    · unfold sub
      rw [if_pos z6, ek]
      exact List.mem_flatten.mpr ⟨_, List.mem_map.mpr ⟨c j, hmem j hj, rfl⟩, hρ⟩
    · have o2 := hB.ob h2'.1.1 (r := r) (by omega) (by omega) (by omega)
      refine ⟨by rw [ob.etg o2, h2]; decide, ?_⟩
      rw [← (ext2 π hπ).2]
      refine sC_row93 (d := g) hB h2' (by rw [ob.etg o2]; exact t6) ((ob.efI o2 68).trans h68) hnm (ext2 π hπ).1 (fun w3 h3 e3 => hQ w3 ps2 ?_ (fun ρ hρ => ⟨(ext2 ρ hρ).1, (e3 ρ).trans (ext2 ρ hρ).2⟩) all2 more2)
      rw [et, en]
      exact h3
  · have hTO := hc.to z0 z6
    have len := hW.wsz_pos
    by_cases z5 : tA τ 17 q = 5
    · obtain ⟨h1, h2, h3, k, m, c, k1, k2, k3, k4, k5, k6, k7, k8, k9, Di, x1, -⟩ : tA τ 17 q = 5 ∧ tg w0 r = 8 ∧ 3 ≤ tA τ 18 q ∧ ∃ k m c, tA τ 19 q = (k : Nat) ∧ k < nK τ ∧ fR w0 71 r = kd w0 p k ∧ PArr (p + 8) w0 (fR w0 72 r) m ∧ (m = 0 ∨ (m : Int) = tA τ 14 k) ∧ Chn τ N q m c ∧ (m = 0 → tA τ 26 q = 1) ∧ (0 < m → tA τ 26 q = rwF true τ c (m - 1)) ∧ (∀ i, i < m → tA τ 18 (c i) = tA τ 15 (4 * k + i : Nat)) ∧ ∃ Di : Nat → Nat → Prop, (∀ i, i < m → aR w0 (fR w0 72 r) i < r ∧ PRel p (p + 8) w0 τ Sn n (nxt c m N i) (aR w0 (fR w0 72 r) i) (c i) (Di i)) ∧ True := by
        rcases hcase with y | y | y | y | y | y | y
        · exact absurd (show tA τ 17 q = 0 from y.1) z0
        · have : tA τ 17 q = 1 := y.1
          omega
        · have : tA τ 17 q = 2 := y.1
          omega
        · have : tA τ 17 q = 3 := y.1
          omega
        · have : tA τ 17 q = 4 := y.1
          omega
        · obtain ⟨a1, a2, a3, k, m, c, k1, k2, k3, k4, k5, k6, k7, k8, k9, Di, x1, -⟩ := y
          exact ⟨a1, a2, a3, k, m, c, k1, k2, k3, k4, k5, k6, k7, k8, k9, Di, x1, trivial⟩
        · exact absurd (show tA τ 17 q = 6 from y.1) z6
      have m4 : m ≤ 4 := by
        rcases k5 with y | y
        · omega
        · have := hK4 k k2
          have : (m : Int) = tA τ 14 k := y
          omega
      have ek := Chn_kids k6 hN (by omega) (Or.inl z5)
      obtain ⟨-, v1, v2, -, v3, v4⟩ := w8 z5
      rw [ek] at v3 v4
      have hmem : ∀ j, j < m → c j ∈ lsN c 0 m := fun j hj => List.mem_of_getElem? (by have := lsN_at (c := c) (i := 0) hj; rw [Nat.zero_add] at this; exact this)
      have cW : ∀ j, j < m → WP τ n (c j) := fun j hj => v4 _ (hmem j hj)
      have lt : ∀ i, i < m → c i < N := fun i hi => (k6.2.2.2.2 i hi).2
      have h40 : ∀ i, i < m → 1 ≤ tA τ 26 (c i) ∧ tA τ 26 (c i) ≤ 40 := fun i hi => by
        have := cW i hi
        cases n with
        | zero => exact this.elim
        | succ n => exact ⟨this.1.2.2.2.1, this.1.2.2.2.2⟩
      have ekk : (tA τ 19 q).toNat = k := by rw [k1, Int.toNat_natCast]
      have et : tst τ (n + 1) q way π = (π, q) :: tsL (tst τ n) τ k π 0 (lsN c 0 m) way := by
        conv => lhs; unfold tst
        rw [if_neg z6, if_neg z0, ek, ekk]
      have en : nbC τ n q nm way π nb = nbL (nbF τ n) τ k π 0 (lsN c 0 m) way (upn nm π nb) := by
        unfold nbC
        rw [if_neg z6, if_neg z0, ek, ekk]
      have es : sub τ (n + 1) q π = (((lsN c 0 m).zipIdx).map (fun x => ((k, x.2) :: π) :: sub τ n x.1 ((k, x.2) :: π))).flatten := by
        conv => lhs; unfold sub
        rw [if_neg z6, if_pos z5, ek, ekk]
      have ew : wsz τ (n + 1) q = 1 + ((lsN c 0 m).map (wsz τ n)).sum := by
        show 1 + ((kids τ q).map (wsz τ n)).sum = _
        rw [ek]
      have hsub : ∀ i, i < m → (k, i) :: π ∈ ALL ∧ ∀ ρ, ρ ∈ sub τ n (c i) ((k, i) :: π) → ρ ∈ ALL := fun i hi => by
        have hz : (c i, i) ∈ (lsN c 0 m).zipIdx := by
          rw [List.mem_zipIdx_iff_getElem?]
          have := lsN_at (c := c) (i := 0) hi
          rw [Nat.zero_add] at this
          exact this
        have all : ∀ ρ, ρ ∈ ((k, i) :: π) :: sub τ n (c i) ((k, i) :: π) → ρ ∈ ALL := fun ρ hρ => hsb ρ (by
          rw [es]
          exact List.mem_flatten.mpr ⟨_, List.mem_map.mpr ⟨(c i, i), hz, rfl⟩, hρ⟩)
        exact ⟨all _ (List.mem_cons_self ..), fun ρ hρ => all ρ (List.mem_cons_of_mem _ hρ)⟩
      have πne : π ≠ [] := (h.2.1.at hπ).1
      have epr : prN τ (lsN c 0 m) ≤ 40 := by omega
      obtain ⟨g', rfl⟩ : ∃ g', g = g' + 1 := ⟨g - 1, by omega⟩
      rw [show vm10 (tg w0 r) = 104 by rw [h2]; rfl]
      refine wC_X10_row (Nat.zero_le _) (bC_X10_row_0 ⟨by rw [ob.etg o]; omega, sC_row98 (d := g') hB h hm hlim (by omega) hTO h68 hnm hπ (fun w1 h1' e1 => ?_)⟩)
      have o1 := hB.ob h1'.1.1 (r := r) (by omega) (by omega) (by omega)
      refine ⟨by rw [ob.etg o1]; exact h2, ?_⟩
      have hw1 := hwy w1 h1'.1.1 h1'.1.2.1 (g' + 1 + 1) (by omega)
      rw [ob.etg o1, show vm0 (tg w0 r) = 103 by rw [h2]; rfl] at hw1
      refine hw1 _ ?_
      have e41 : min (41 : Int) (tA τ 26 q) = (prN τ (lsN c 0 m) : Nat) := by omega
      rw [e41]
      refine bC_X10_row_21 (call := wpC p (g' + 1 + 1)) ?_
      intro I hI
      have := row5 (Sn := Sn) (D := Di) (N := fun i => nxt c m N i) (way := way) hB hm hlim hAL k2 ⟨h2, k3, k4, m4⟩ k5 (fun i hi => (x1 i hi).2) h40 epr cW (fun i hi => hP _ _ _ _ (x1 i hi).2 (Nat.le_trans (nxt_leN lt hi) hN) (cW i hi)) (fun j _ => hS k j π πne k2) (d := g' + 1 + 1) (by omega) (by omega) hI m 0 (by omega) w1 ps (L ++ [(π, q)]) (upn nm π nb) h1' hπ (e1 π).symm (fun i _ hi => hsub i hi) hps (by rw [List.length_append]; simp; omega) (fun w2 ps2 h2' ext2 all2 more2 => hQ w2 ps2 ?_ (fun ρ hρ => ⟨(ext2 ρ hρ).1, (ext2 ρ hρ).2.trans (e1 ρ)⟩) all2 more2)
      · rw [Nat.mod_eq_of_lt (by omega)] at this
        exact this
      · rw [et, en]
        rw [List.append_assoc] at h2'
        exact h2'
    · have t98 : vm10 (tg w0 r) = 98 := by
        rcases hTO.2 with y | y | y | y | y
        · rw [y.2.1]; rfl
        · rw [y.2.1]; rfl
        · rw [y.2.1]; rfl
        · rw [y.2]; rfl
        · exact absurd y.1 z5
      have ek : kids τ q = [] := by
        unfold kids
        rw [if_neg (fun y => y.elim z5 z6)]
      have et : tst τ (n + 1) q way π = [(π, q)] := by unfold tst; rw [if_neg z6, if_neg z0, ek]; rfl
      have en : nbC τ n q nm way π nb = upn nm π nb := by unfold nbC; rw [if_neg z6, if_neg z0, ek]; rfl
      rw [t98]
      refine sC_row98 (d := g) hB h hm hlim (by omega) hTO h68 hnm hπ (fun w1 h1 e1 => hQ w1 ps ?_ (fun ρ hρ => ⟨hρ, e1 ρ⟩) hps ⟨[], (List.append_nil _).symm⟩)
      rw [et, en]
      exact h1
end ZRowC4
