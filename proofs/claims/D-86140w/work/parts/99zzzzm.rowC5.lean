/-! the component's rows: any pattern's row -/
section ZRowC5
variable {p b e d rr : Nat} {w : CW} {τ : TW}
def bel (τ : TW) (n q way : Nat) (π : Pa) (X : Nat → Option Pa) : Nat → Option Pa :=
  if tA τ 17 q = 6 then nbF τ n (selA τ (kids τ q) way).1 (selA τ (kids τ q) way).2 π X
  else if tA τ 17 q = 0 then X else nbL (nbF τ n) τ (tA τ 19 q).toNat π 0 (kids τ q) way X
theorem bel_F (n q way : Nat) (π : Pa) (nb : Nat → Option Pa) : nbF τ (n + 1) q way π nb = bel τ n q way π (upo τ q π nb) := rfl
theorem bel_C (n q : Nat) (nm : Int) (way : Nat) (π : Pa) (nb : Nat → Option Pa) : nbC τ n q nm way π nb = if tA τ 17 q = 6 then upn nm π (bel τ n q way π nb) else bel τ n q way π (upn nm π nb) := by
  unfold nbC bel
  by_cases z : tA τ 17 q = 6
  · rw [if_pos z, if_pos z, if_pos z]
  · rw [if_neg z, if_neg z, if_neg z]
theorem bel_pt {n q way : Nat} {π : Pa} {X Y : Nat → Option Pa} {k : Nat} (h : X k = Y k) : bel τ n q way π X k = bel τ n q way π Y k := by
  unfold bel
  split
  · exact nbF_pt _ _ _ _ _ _ _ h
  · split
    · exact h
    · exact nbL_pt (nbF_pt n) _ _ _ _ _ _ h
theorem upo_1 {q k : Nat} {π : Pa} {nb : Nat → Option Pa} (h : own τ q k) : upo τ q π nb k = some π := if_pos h
theorem upo_0 {q k : Nat} {π : Pa} {nb : Nat → Option Pa} (h : ¬ own τ q k) : upo τ q π nb k = nb k := if_neg h
theorem upn_1 {k : Nat} {nm : Int} {π : Pa} {nb : Nat → Option Pa} (h : (k : Int) = nm) : upn nm π nb k = some π := if_pos h
theorem upn_0 {k : Nat} {nm : Int} {π : Pa} {nb : Nat → Option Pa} (h : ¬ (k : Int) = nm) : upn nm π nb k = nb k := if_neg h
/-- names of others stay, below a core -/
theorem core_no {Sn : Nat → Int} {w0 : CW} {n N r q : Nat} {D : Nat → Prop} {nm : Int} (hN : N ≤ np τ) (hK4 : ∀ k, k < nK τ → tA τ 14 k ≤ 4) (hW : WP τ (n + 1) q) (hc : PCore (PRel p (p + 8) w0 τ Sn n) p (p + 8) w0 τ Sn N r q D nm) (ih : ∀ N r q D, PRel p (p + 8) w0 τ Sn n N r q D → N ≤ np τ → WP τ n q → ∀ way π nb k, way < rw' τ q → ¬ D k → nbF τ n q way π nb k = nb k) {way : Nat} (hway : way < rw' τ q) (π : Pa) (X : Nat → Option Pa) (k : Nat) : (own τ q k ∨ ¬ D k) → bel τ n q way π X k = X k := by
  intro hk
  obtain ⟨⟨w1, w2, w3, w4, w5⟩, -, -, -, -, -, -, w8, w9⟩ := id hW
  have rcq := rw_c w4
  obtain ⟨c1, c2, c3, c4, hcase⟩ := hc
  unfold bel
  by_cases z6 : tA τ 17 q = 6
  · rw [if_pos z6]
    obtain ⟨h1, h2, m, c, k1, k2, k3, k4, k5, k6, D0, x1, x2, x3⟩ : tA τ 17 q = 6 ∧ tg w0 r = 9 ∧ ∃ m c, 1 ≤ m ∧ m ≤ 6 ∧ PArr (p + 8) w0 (fR w0 73 r) m ∧ Chn τ N q m c ∧ tA τ 26 q = rwF false τ c (m - 1) ∧ (∀ i, i < m → tA τ 18 (c i) = tA τ 18 q) ∧ ∃ D0 : Nat → Prop, (∀ i, i < m → aR w0 (fR w0 73 r) i < r ∧ PRel p (p + 8) w0 τ Sn n (nxt c m N i) (aR w0 (fR w0 73 r) i) (c i) D0) ∧ (∀ n, D n ↔ own τ q n ∨ D0 n) ∧ ∀ n, own τ q n → ¬ D0 n := by
      rcases hcase with y | y | y | y | y | y | y
      · have : tA τ 17 q = 0 := y.1
        omega
      · have : tA τ 17 q = 1 := y.1
        omega
      · have : tA τ 17 q = 2 := y.1
        omega
      · have : tA τ 17 q = 3 := y.1
        omega
      · have : tA τ 17 q = 4 := y.1
        omega
      · have : tA τ 17 q = 5 := y.1
        omega
      · exact y
    have ek := Chn_kids k4 hN k2 (Or.inr z6)
    obtain ⟨v1, v2, v3, v4⟩ := w9 z6
    rw [ek] at v3 v4 ⊢
    obtain ⟨j, j1, j2, j3, j4, j5⟩ := selA_ls (τ := τ) (c := c) m 0 way (by omega)
    have hmem : c j ∈ lsN c 0 m := List.mem_of_getElem? (by have := lsN_at (c := c) (i := 0) (show j < m by omega); rw [Nat.zero_add] at this; exact this)
    rw [j3]
    have lt : ∀ i, i < m → c i < N := fun i hi => (k4.2.2.2.2 i hi).2
    refine ih _ _ _ _ (x1 j (by omega)).2 (Nat.le_trans (nxt_leN lt (by omega)) hN) (v4 _ hmem).1 _ _ _ _ j5 (fun y => ?_)
    rcases hk with q1 | q1
    · exact x3 k q1 y
    · exact q1 ((x2 k).mpr (Or.inr y))
  · rw [if_neg z6]
    by_cases z0 : tA τ 17 q = 0
    · rw [if_pos z0]
    · rw [if_neg z0]
      by_cases z5 : tA τ 17 q = 5
      · obtain ⟨h1, h2, h3, k', m, c, k1, k2, k3, k4, k5, k6, k7, k8, k9, Di, x1, x2, x3⟩ : tA τ 17 q = 5 ∧ tg w0 r = 8 ∧ 3 ≤ tA τ 18 q ∧ ∃ k m c, tA τ 19 q = (k : Nat) ∧ k < nK τ ∧ fR w0 71 r = kd w0 p k ∧ PArr (p + 8) w0 (fR w0 72 r) m ∧ (m = 0 ∨ (m : Int) = tA τ 14 k) ∧ Chn τ N q m c ∧ (m = 0 → tA τ 26 q = 1) ∧ (0 < m → tA τ 26 q = rwF true τ c (m - 1)) ∧ (∀ i, i < m → tA τ 18 (c i) = tA τ 15 (4 * k + i : Nat)) ∧ ∃ Di : Nat → Nat → Prop, (∀ i, i < m → aR w0 (fR w0 72 r) i < r ∧ PRel p (p + 8) w0 τ Sn n (nxt c m N i) (aR w0 (fR w0 72 r) i) (c i) (Di i)) ∧ (∀ n, D n ↔ own τ q n ∨ ∃ i, i < m ∧ Di i n) ∧ ∀ n, own τ q n → ¬ ∃ i, i < m ∧ Di i n := by
          rcases hcase with y | y | y | y | y | y | y
          · have : tA τ 17 q = 0 := y.1
            omega
          · have : tA τ 17 q = 1 := y.1
            omega
          · have : tA τ 17 q = 2 := y.1
            omega
          · have : tA τ 17 q = 3 := y.1
            omega
          · have : tA τ 17 q = 4 := y.1
            omega
          · exact y
          · exact absurd (show tA τ 17 q = 6 from y.1) z6
        have m4 : m ≤ 4 := by
          rcases k5 with y | y
          · omega
          · have := hK4 k' k2
            have : (m : Int) = tA τ 14 k' := y
            omega
        have ek := Chn_kids k6 hN (by omega) (Or.inl z5)
        obtain ⟨-, v1, v2, -, v3, v4⟩ := w8 z5
        rw [ek] at v4 ⊢
        have lt : ∀ i, i < m → c i < N := fun i hi => (k6.2.2.2.2 i hi).2
        have no : ¬ ∃ i, i < m ∧ Di i k := by
          rcases hk with q1 | q1
          · exact x3 k q1
          · exact fun y => q1 ((x2 k).mpr (Or.inr y))
        refine nbL_no _ _ _ _ (fun y hy x π nb hx => ?_) (fun y hy => ?_)
        · obtain ⟨j, j1, j2, j3⟩ := lsN_mem hy
          have hWy := v4 y hy
          rw [j3] at hWy hx ⊢
          exact ih _ _ _ _ (x1 j (by omega)).2 (Nat.le_trans (nxt_leN lt (by omega)) hN) hWy _ _ _ _ hx (fun q => no ⟨j, by omega, q⟩)
        · have := v4 y hy
          cases n with
          | zero => exact this.elim
          | succ n => have := rw_c this.1.2.2.2.1; have := (v4 y hy).1.2.2.2.1; omega
      · have : kids τ q = [] := by
          unfold kids
          rw [if_neg (fun y => y.elim z5 z6)]
        rw [this]
        rfl
theorem PRel.core {Sn : Nat → Int} {w0 : CW} {n N r q : Nat} {D : Nat → Prop} (h : PRel p (p + 8) w0 τ Sn (n + 1) N r q D) : ∃ r' nm, PCore (PRel p (p + 8) w0 τ Sn n) p (p + 8) w0 τ Sn N r' q D nm := by
  rcases h.2.2 with ⟨_, h⟩ | ⟨_, _, _, _, _, _, _, h⟩
  · exact ⟨_, _, h⟩
  · exact ⟨_, _, h⟩
theorem own_D {P : Nat → Nat → Nat → (Nat → Prop) → Prop} {Sn : Nat → Int} {w0 : CW} {N r q : Nat} {D : Nat → Prop} {nm : Int} (hc : PCore P p (p + 8) w0 τ Sn N r q D nm) {k : Nat} (hk : own τ q k) : D k := by
  rcases hc.2.2.2.2 with z | z | z | z | z | z | z
  · exact (z.2.2.2 k).mpr hk
  · exact (z.2.2.2.2 k).mpr hk
  · exact (z.2.2.2.2 k).mpr hk
  · exact (z.2.2.2.2 k).mpr hk
  · exact (z.2.2.2.2 k).mpr hk
  · obtain ⟨_, _, _, _, _, _, _, _, _, _, _, _, _, _, _, _, _, x⟩ := z
    exact (x.1 k).mpr (Or.inl hk)
  · obtain ⟨_, _, _, _, _, _, _, _, _, _, _, _, x, _⟩ := z
    exact (x k).mpr (Or.inl hk)
theorem PRel.no {Sn : Nat → Int} {w0 : CW} (hK4 : ∀ k, k < nK τ → tA τ 14 k ≤ 4) : ∀ n N r q D, PRel p (p + 8) w0 τ Sn n N r q D → N ≤ np τ → WP τ n q → ∀ way π nb k, way < rw' τ q → ¬ D k → nbF τ n q way π nb k = nb k := by
  intro n
  induction n with
  | zero => intro N r q D h; exact h.elim
  | succ n ih =>
    intro N r q D h hN hW way π nb k hway hk
    obtain ⟨r', nm, hc⟩ := h.core
    rw [bel_F, core_no hN hK4 hW hc ih hway π _ k (Or.inr hk)]
    exact upo_0 (fun y => hk (own_D hc y))
theorem RGO.cg {w0 : CW} {F : Nat} {S : Pa → Int} {x : Nat} {zb : Int} {ALL : List Pa} {dm dm' r : Nat} {ts : Nat → Pa → List (Pa × Nat)} {ns ns' : Nat → Pa → (Nat → Option Pa) → (Nat → Option Pa)} {sb : Pa → List Pa} {sz ws : Nat} (h : RGO p b w0 τ F S x rr zb ALL dm r ts ns sb sz ws) (hd : dm ≤ dm') (he : ∀ way π nb, way < ws → ns way π nb = ns' way π nb) : RGO p b w0 τ F S x rr zb ALL dm' r ts ns' sb sz ws := by
  intro e he' way π w ps L nb Q h1 h2 h3 h4 h5 h6 h7 hQ
  exact h e (by omega) way π w ps L nb Q h1 h2 h3 h4 h5 h6 (by omega) (fun w' ps' g => hQ w' ps' (by rw [← he way π nb h1]; exact g))
theorem PRel.row {w0 : CW} {F x : Nat} {S : Pa → Int} {zb lim : Int} {ALL : List Pa} {Sn : Nat → Int} (hB : BS p b w0 τ F) (hm : lim ≤ mu w0 ∧ lim ≤ 5 * mz w0) (hlim : zb + 22000 ≤ lim) (hAL : ALL.length ≤ 900) (hS : ∀ k j π, π ≠ [] → k < nK τ → S ((k, j) :: π) = tA τ 15 (4 * k + j : Nat)) : ∀ n N r q D, PRel p (p + 8) w0 τ Sn n N r q D → N ≤ np τ → WP τ n q → RGO p b w0 τ F S x rr zb ALL (3 * n + 8) r (tst τ n q) (nbF τ n q) (sub τ n q) (wsz τ n q) (rw' τ q) := by
  intro n
  induction n with
  | zero => intro N r q D h; exact h.elim
  | succ n ih =>
    intro N r q D h hN hW
    obtain ⟨hK0, -⟩ := hB.kr (Fr.refl _ _) (PF.refl _ _ _)
    have hK4 : ∀ k, k < nK τ → tA τ 14 k ≤ 4 := fun k hk => by
      have kl := hK0.2.2.2.2.1 k hk
      exact kl.2.2.2.2.2.2.2.1
    obtain ⟨n1, n2, hcase⟩ := id h
    have n1 : tA τ 24 q = -4 ∨ (0 ≤ tA τ 24 q ∧ tA τ 24 q < 8) := n1
    have n2 : tA τ 25 q = -4 ∨ (0 ≤ tA τ 25 q ∧ tA τ 25 q < 8) := n2
    rcases hcase with ⟨h1, hc⟩ | ⟨h1, h2, g1, g2, g3, g4, g5, hc⟩
    · have h1 : tA τ 24 q = -4 ∨ tA τ 25 q = -4 := h1
      have co := row_core (x := x) (zb := zb) hB hm hlim hAL hS hN hW ih (by
        show (if tA τ 24 q = -4 then (if tA τ 25 q = -4 then -1 else tA τ 25 q) else tA τ 24 q) < 0 ∨ (if tA τ 24 q = -4 then (if tA τ 25 q = -4 then -1 else tA τ 25 q) else tA τ 24 q) < 8
        split
        · split <;> omega
        · omega) hc (fun w f pf e he => (PRel.way (d := 0) hK4 _ _ _ _ _ (hB.prel f pf h)) e (by omega))
      refine co.cg (by omega) (fun way π nb hway => ?_)
      have no := fun X k (hk : own τ q k) => core_no hN hK4 hW hc (PRel.no hK4 n) hway π X k (Or.inl hk)
      have ow : ∀ k : Nat, own τ q k ↔ (k : Int) = (if tA τ 24 q = -4 then (if tA τ 25 q = -4 then -1 else tA τ 25 q) else tA τ 24 q) := fun k => by
        show ((k : Int) = tA τ 24 q ∨ (k : Int) = tA τ 25 q) ↔ _
        split
        · split <;> omega
        · omega
      rw [bel_C, bel_F]
      funext k
      by_cases hk : own τ q k
      · rw [no _ k hk]
        have e1 : upo τ q π nb k = some π := upo_1 hk
        have e2 : ∀ X, upn (if tA τ 24 q = -4 then (if tA τ 25 q = -4 then -1 else tA τ 25 q) else tA τ 24 q) π X k = some π := fun X => by unfold upn; rw [if_pos ((ow k).mp hk)]
        rw [e1]
        split
        · exact e2 _
        · rw [no _ k hk]
          exact e2 _
      · have e1 : upo τ q π nb k = nb k := upo_0 hk
        have e2 : ∀ X, upn (if tA τ 24 q = -4 then (if tA τ 25 q = -4 then -1 else tA τ 25 q) else tA τ 24 q) π X k = X k := fun X => by unfold upn; rw [if_neg (fun y => hk ((ow k).mpr y))]
        rw [bel_pt e1]
        split
        · exact e2 _
        · exact bel_pt (e2 _)
    · have h1 : tA τ 24 q ≠ -4 := h1
      have h2 : tA τ 25 q ≠ -4 := h2
      have g3 : fI w0 68 r = tA τ 25 q := g3
      have rg := PRel.rows _ _ _ _ _ h
      have a41 : min (41 : Int) (tA τ 26 q) = (rw' τ q : Nat) := by
        have := rw_c rg.1
        have := hW.1.2.2.2.2
        omega
      have hwyc : ∀ w, Fr [F, fR w0 50 F] w0 w → PF [] p w0 w → WAY p (3 * n + 4) w τ (aR w0 (fR w0 73 r) 0) q := fun w f pf => by
        have pr := hB.prel f pf h
        have o := hB.ob f (r := r) (by omega) (by omega) (by omega)
        have oa := hB.ob f (r := fR w0 73 r) (by rw [g4.1]; decide) (by rw [g4.1]; decide) (by rw [g4.1]; decide)
        rcases pr.2.2 with ⟨y, _⟩ | ⟨_, _, _, _, _, _, _, hc2⟩
        · rcases y with y | y
          · exact absurd y h1
          · exact absurd y h2
        · rw [ob.efR o, ob.eaR oa] at hc2
          have hP : ∀ N r q D, PRel p (p + 8) w τ Sn n N r q D → WAY p (0 + 3 * n) w τ r q ∧ 1 ≤ tA τ 26 q ∧ tA τ 26 q ≤ 1000 := fun N r q D h => ⟨PRel.way (d := 0) hK4 _ _ _ _ _ h, PRel.rows _ _ _ _ _ h⟩
          have := pcore_way hK4 hc2 hP
          exact fun e he => this e (by omega)
      have co := row_core (x := x) (zb := zb) hB hm hlim hAL hS hN hW ih (by show tA τ 24 q < 0 ∨ tA τ 24 q < 8; omega) hc hwyc
      intro e he way π w ps L nb Q hway hR hπ hsb hps hL hdp hQ
      obtain ⟨g, rfl⟩ : ∃ g, e = g + 2 := ⟨e - 2, by omega⟩
      have o := hB.ob hR.1.1 (r := r) (by omega) (by omega) (by omega)
      have oa := hB.ob hR.1.1 (r := fR w0 73 r) (by rw [g4.1]; decide) (by rw [g4.1]; decide) (by rw [g4.1]; decide)
      have ti := hc.tg
      have oi := hB.ob hR.1.1 (r := aR w0 (fR w0 73 r) 0) (by omega) (by omega) (by omega)
      rw [show vm10 (tg w0 r) = 109 by rw [g1]; rfl]
      refine wC_X11_row (Nat.zero_le _) (bC_X11_row_0 (bC_X11_row_6 ?_))
      intro I hI
      refine hI _ _ _ ?_
      rw [ob.etg o, ob.efR o, ob.etg oa, ob.eln oa, ob.eaR oa, g1, g4.1, g4.2.1]
      refine ⟨by decide, ⟨by decide, by decide, by decide⟩, ?_⟩
      have hw1 := hwyc w hR.1.1 hR.1.2.1 (g + 1) (by omega)
      refine hw1 _ ?_
      rw [a41]
      refine br1 (by omega) (bC_X11_row_42 ⟨by rw [ob.etg o, g1]; decide, ⟨by rw [ob.efR o, ob.etg oa, g4.1]; decide, by decide, by rw [ob.efR o, ob.eln oa, g4.2.1]; decide⟩, ?_⟩)
      rw [ob.efR o, ob.eaR oa, ob.etg oi]
      refine co (g + 1) (by omega) way π w ps L nb _ hway hR hπ hsb hps hL (by omega) (fun w2 ps2 h2' ext2 all2 more2 => ?_)
      have o2 := hB.ob h2'.1.1 (r := r) (by omega) (by omega) (by omega)
      refine ⟨by rw [ob.etg o2, g1]; decide, ?_⟩
      rw [← (ext2 π hπ).2]
      refine sC_row93 (d := g) hB h2' (by rw [ob.etg o2, g1]; decide) ((ob.efI o2 68).trans g3) (by omega) (ext2 π hπ).1 (fun w3 h3 e3 => hQ w3 ps2 ?_ (fun ρ hρ => ⟨(ext2 ρ hρ).1, (e3 ρ).trans (ext2 ρ hρ).2⟩) all2 more2)
      have no := fun X k (hk : own τ q k) => core_no hN hK4 hW hc (PRel.no hK4 n) hway π X k (Or.inl hk)
      have en : upn (tA τ 25 q) π (nbC τ n q (tA τ 24 q) way π nb) = nbF τ (n + 1) q way π nb := by
        rw [bel_C, bel_F]
        funext k
        by_cases k2 : (k : Int) = tA τ 25 q
        · rw [upn_1 k2, no _ k (Or.inr k2)]
          exact (upo_1 (Or.inr k2)).symm
        · rw [upn_0 k2]
          by_cases k1 : (k : Int) = tA τ 24 q
          · rw [no _ k (Or.inl k1)]
            have e1 : upo τ q π nb k = some π := upo_1 (Or.inl k1)
            rw [e1]
            split
            · exact upn_1 k1
            · rw [no _ k (Or.inl k1)]
              exact upn_1 k1
          · have hk : ¬ own τ q k := fun y => y.elim k1 k2
            have e1 : upo τ q π nb k = nb k := upo_0 hk
            rw [bel_pt e1]
            split
            · exact upn_0 k1
            · exact bel_pt (upn_0 k1)
      rw [← en]
      exact h3
end ZRowC5
