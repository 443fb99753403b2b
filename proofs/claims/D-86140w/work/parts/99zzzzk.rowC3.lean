/-! the component's rows: a pattern's row -/
section ZRowC3
variable {p b e d rr : Nat} {w : CW} {τ : TW}
theorem BS.prel {w0 : CW} {F : Nat} (hB : BS p b w0 τ F) (f : Fr [F, fR w0 50 F] w0 w) (pf : PF [] p w0 w) {Sn : Nat → Int} {n N r q : Nat} {D : Nat → Prop} (h : PRel p (p + 8) w0 τ Sn n N r q D) : PRel p (p + 8) w τ Sn n N r q D := by
  obtain ⟨h1, h2, h3, h4, h5, h6⟩ := id hB
  refine PRel.fr h1 f (Nat.le_refl _) ⟨Nat.le_refl _, fun k _ => ⟨(hB.kr f pf).2 k, rfl, fun _ _ => rfl⟩⟩ n N r q D (fun x hx => ?_) (fun _ _ _ _ _ => rfl) (fun _ _ _ => rfl) (fun _ _ => rfl) h
  rcases List.mem_cons.mp hx with y | y
  · rw [y, h4.1]; exact Or.inr (Or.inr (Or.inl (by unfold ptg; omega)))
  · rw [List.mem_singleton.mp y, h5]; exact Or.inr (Or.inr (Or.inl (by unfold ptg; omega)))
theorem BS.ob {w0 : CW} {F : Nat} (hB : BS p b w0 τ F) (f : Fr [F, fR w0 50 F] w0 w) {r : Nat} (hr : tg w0 r ≠ 0) (h4 : tg w0 r ≠ 4) (h5 : tg w0 r ≠ 115) : ob w r = ob w0 r := by
  obtain ⟨g1, g2, g3, g4, g5, g6⟩ := hB
  refine f.2.2.2.2 r (g1.le hr) (fun y => ?_)
  rcases List.mem_cons.mp y with y | y
  · exact h4 (by rw [y]; exact g4.1)
  · exact h5 (by rw [List.mem_singleton.mp y]; exact g5)
/-- what a row of a pattern does -/
def RGO (p b : Nat) (w0 : CW) (τ : TW) (F : Nat) (S : Pa → Int) (x rr : Nat) (zb : Int) (ALL : List Pa) (dm r : Nat) (ts : Nat → Pa → List (Pa × Nat)) (ns : Nat → Pa → (Nat → Option Pa) → (Nat → Option Pa)) (sb : Pa → List Pa) (sz ws : Nat) : Prop :=
  ∀ e, dm ≤ e → ∀ (way : Nat) (π : Pa) (w : CW) (ps : List Pa) (L : List (Pa × Nat)) (nb : Nat → Option Pa) (Q : ZRes → CW → Prop), way < ws → RI p b w0 w τ F S ps x rr L nb zb → π ∈ ps → (∀ ρ, ρ ∈ sb π → ρ ∈ ALL) → (∀ ρ, ρ ∈ ps → ρ ∈ ALL) → L.length + sz ≤ 900 → π.length + dm ≤ 500 →
    (∀ w' ps', RI p b w0 w' τ F S ps' x rr (L ++ ts way π) (ns way π nb) zb → (∀ ρ, ρ ∈ ps → ρ ∈ ps' ∧ plo w' F ps' ρ = plo w F ps ρ) → (∀ ρ, ρ ∈ ps' → ρ ∈ ALL) → (∃ more, ps' = ps ++ more) → Q (.inl none) w') → wpC p e (vm10 (tg w0 r)) [ar r, ai way, ar (plo w F ps π), ar F, ar x] w Q
/-- a test, its name -/
theorem sC_row98 {w0 : CW} {F x : Nat} {S : Pa → Int} {ps : List Pa} {L : List (Pa × Nat)} {nb : Nat → Option Pa} {zb : Int} (hB : BS p b w0 τ F) (h : RI p b w0 w τ F S ps x rr L nb zb) {lim : Int} (hm : lim ≤ mu w0 ∧ lim ≤ 5 * mz w0) (hlim : zb + 22000 ≤ lim) (hL : L.length < 1000) {r q : Nat} {nm : Int} (hT : TO p w0 τ r q) (h68 : fI w0 68 r = nm) (hnm : nm < 0 ∨ nm < 8) {π : Pa} (hπ : π ∈ ps) {way : Int} {Q : ZRes → CW → Prop} (hQ : ∀ w', RI p b w0 w' τ F S ps x rr (L ++ [(π, q)]) (upn nm π nb) zb → (∀ π, plo w' F ps π = plo w F ps π) → Q (.inl none) w') : wpC p (d + 2) 98 [ar r, ai way, ar (plo w F ps π), ar F, ar x] w Q := by
  have t0 : 7 ≤ tg w0 r ∧ tg w0 r ≤ 12 := by
    rcases hT.2 with y | y | y | y | y <;> omega
  have rb : r ≤ b := by rw [← hB.2.1]; exact hB.1.le (by omega)
  have o := hB.ob h.1.1 (r := r) (by omega) (by omega) (by omega)
  obtain ⟨c, hc⟩ := h.2.2.2
  refine wC_X8_row (Nat.zero_le _) (bC_X8_row_0 ⟨hc.1.1, sC_add (d := d) hB h hL hm (Or.inr hlim) hπ hT rb (fun w1 h1 e1 => ?_)⟩)
  have o1 := hB.ob h1.1.1 (r := r) (by omega) (by omega) (by omega)
  have tw1 : tg w1 r = tg w0 r := ob.etg o1
  refine ⟨by omega, ?_⟩
  rw [← e1 π]
  exact sC_row93 hB h1 (by omega) ((ob.efI o1 68).trans h68) hnm hπ (fun w2 h2 e2 => hQ w2 h2 (fun π => (e2 π).trans (e1 π)))
theorem RI.room {w0 : CW} {F x : Nat} {S : Pa → Int} {ps : List Pa} {L : List (Pa × Nat)} {nb : Nat → Option Pa} {zb : Int} (h : RI p b w0 w τ F S ps x rr L nb zb) {lim : Int} (hm : lim ≤ mu w0 ∧ lim ≤ 5 * mz w0) (hlim : zb + 22000 ≤ lim) (hL : L.length ≤ 900) : cz w + 1 ≤ mz w ∧ cu w + 6 ≤ mu w := by
  obtain ⟨⟨a1, a2, a3⟩, b1, -, c, hc⟩ := h
  have h1 := hc.2.1
  have h2 := hc.2.2.2.2.2.2.2.1
  have h3 := b1.2.2.2.1
  rw [a1.emz, a1.emu]
  unfold zm at h2
  omega
/-- a kind's parts, one behind the other -/
theorem row5 {w0 : CW} {F x : Nat} {S : Pa → Int} {zb lim : Int} {ALL : List Pa} {Sn : Nat → Int} (hB : BS p b w0 τ F) (hm : lim ≤ mu w0 ∧ lim ≤ 5 * mz w0) (hlim : zb + 22000 ≤ lim) (hAL : ALL.length ≤ 900) {n m k r : Nat} {c : Nat → Nat} {D : Nat → Nat → Prop} {N : Nat → Nat} {π : Pa} {way x2 : Nat} (hk : k < nK τ) (hr : tg w0 r = 8 ∧ fR w0 71 r = kd w0 p k ∧ PArr (p + 8) w0 (fR w0 72 r) m ∧ m ≤ 4) (hmk : m = 0 ∨ (m : Int) = tA τ 14 k)
    (hch : ∀ i, i < m → PRel p (p + 8) w0 τ Sn n (N i) (aR w0 (fR w0 72 r) i) (c i) (D i)) (h40 : ∀ i, i < m → 1 ≤ tA τ 26 (c i) ∧ tA τ 26 (c i) ≤ 40) (h40' : prN τ (lsN c 0 m) ≤ 40)
    (hWP : ∀ i, i < m → WP τ n (c i)) (hgo : ∀ i, i < m → RGO p b w0 τ F S x rr zb ALL (3 * n + 8) (aR w0 (fR w0 72 r) i) (tst τ n (c i)) (nbF τ n (c i)) (sub τ n (c i)) (wsz τ n (c i)) (rw' τ (c i))) (hS : ∀ j, j < m → S ((k, j) :: π) = tA τ 15 (4 * k + j : Nat)) (hd : 3 * n + 8 ≤ d) (hπ : π.length + (3 * n + 8) ≤ 499) {Q : CW → Prop} {I : Int → Int → Int → CW → Prop}
    (hI : ∀ (x5 : Int) (x6 : Int) (x7 : Int) (w : CW), (
    (hF 72 (tg w r) = true) ∧
    (101 ≤ tg w (fR w 72 r) ∧ tg w (fR w 72 r) ≤ 119 ∧ (tg w (fR w 72 r) < 107 ∨ 111 ≤ tg w (fR w 72 r))) ∧
    (((ln w (fR w 72 r) : Nat) : Int) ≤ x7 →
      pC_X10_row_98 p (wpC p d) Q w) ∧
    (¬ (((ln w (fR w 72 r) : Nat) : Int) ≤ x7) →
      (hF 72 (tg w r) = true) ∧
      ((111 ≤ tg w (fR w 72 r) ∧ tg w (fR w 72 r) ≤ 119) ∧ 0 ≤ x7 ∧ x7 < ln w (fR w 72 r)) ∧
      wpC p d (vm0 (tg w (aR w (fR w 72 r) x7))) [ar (aR w (fR w 72 r) x7)] w (zqI (fun v11 u10 =>
        (¬ v11 = 0) ∧
        ∀ x5_13 : Int, x5_13 = i_div x5 v11 →
        (hF 72 (tg u10 r) = true) ∧
        ((111 ≤ tg u10 (fR u10 72 r) ∧ tg u10 (fR u10 72 r) ≤ 119) ∧ 0 ≤ x7 ∧ x7 < ln u10 (fR u10 72 r)) ∧
        (¬ x5_13 = 0) ∧
        (hF 71 (tg u10 r) = true) ∧
        (hF 71 (tg u10 r) = true) ∧
        (hF 41 (tg u10 (fR u10 71 r)) = true) ∧
        (tg u10 (fR u10 41 (fR u10 71 r)) = 102 ∧ 0 ≤ x7 ∧ x7 < ln u10 (fR u10 41 (fR u10 71 r))) ∧
        (tg u10 F = 4) ∧
        wpC p d 87 [ar F, ar x2, ar (fR u10 71 r), ai x7, ai (aN u10 (fR u10 41 (fR u10 71 r)) x7)] u10 (zqR (fun v22 u21 =>
          wpC p d (vm10 (tg u21 (aR u10 (fR u10 72 r) x7))) [ar (aR u10 (fR u10 72 r) x7), ai (i_div x6 x5_13), ar v22, ar F, ar x] u21 (zqV (fun u23 =>
            (¬ x5_13 = 0) ∧
            ∀ x6_26 : Int, x6_26 = i_rem x6 x5_13 →
            ∀ x7_27 : Int, x7_27 = w32 (x7 + 1) →
            I x5_13 x6_26 x7_27 u23) zno)) zno)) zno))) → I x5 x6 x7 w) :
    ∀ t j, j + t = m → ∀ (w : CW) (ps : List Pa) (L : List (Pa × Nat)) (nb : Nat → Option Pa), RI p b w0 w τ F S ps x rr L nb zb → π ∈ ps → x2 = plo w F ps π → (∀ i, j ≤ i → i < m → (k, i) :: π ∈ ALL ∧ ∀ ρ, ρ ∈ sub τ n (c i) ((k, i) :: π) → ρ ∈ ALL) → (∀ ρ, ρ ∈ ps → ρ ∈ ALL) → L.length + ((lsN c j t).map (wsz τ n)).sum ≤ 900 →
      (∀ w' ps', RI p b w0 w' τ F S ps' x rr (L ++ tsL (tst τ n) τ k π j (lsN c j t) way) (nbL (nbF τ n) τ k π j (lsN c j t) way nb) zb → (∀ ρ, ρ ∈ ps → ρ ∈ ps' ∧ plo w' F ps' ρ = plo w F ps ρ) → (∀ ρ, ρ ∈ ps' → ρ ∈ ALL) → (∃ more, ps' = ps ++ more) → Q w') → I (prN τ (lsN c j t) : Nat) ((way % prN τ (lsN c j t) : Nat) : Int) (j : Int) w := by
  obtain ⟨r1, r2, r3, r4⟩ := hr
  have hpr : ∀ j t, j + t = m → 1 ≤ prN τ (lsN c j t) ∧ prN τ (lsN c j t) ≤ 40 := by
    intro j
    induction j with
    | zero =>
      intro t ht
      have : t = m := by omega
      subst this
      exact ⟨prN_ge (fun y hy => by
        obtain ⟨i, i1, i2, i3⟩ := lsN_mem hy
        have := rw_c (h40 i (by omega)).1
        have := (h40 i (by omega)).1
        rw [i3]; omega), h40'⟩
    | succ j ih =>
      intro t ht
      have := ih (t + 1) (by omega)
      have e : prN τ (lsN c j (t + 1)) = rw' τ (c j) * prN τ (lsN c (j + 1) t) := rfl
      rw [e] at this
      have h1 : 1 ≤ rw' τ (c j) := by
        have := rw_c (h40 j (by omega)).1
        have := (h40 j (by omega)).1
        omega
      have h2 : 1 ≤ prN τ (lsN c (j + 1) t) := by
        rcases Nat.eq_zero_or_pos (prN τ (lsN c (j + 1) t)) with z | z
        · rw [z, Nat.mul_zero] at this; omega
        · exact z
      have h3 : 1 * prN τ (lsN c (j + 1) t) ≤ rw' τ (c j) * prN τ (lsN c (j + 1) t) := Nat.mul_le_mul_right _ h1
      omega
  intro t
  induction t with
  | zero =>
    intro j hj w ps L nb h hπ hx2 hA hpA hL hQ
    have hj : j = m := by omega
    have o := hB.ob h.1.1 (r := r) (by omega) (by omega) (by omega)
    have oa := hB.ob h.1.1 (r := fR w0 72 r) (by rw [r3.1]; decide) (by rw [r3.1]; decide) (by rw [r3.1]; decide)
    refine hI _ _ _ _ ?_
    rw [ob.etg o, ob.efR o, ob.etg oa, ob.eln oa, r1, r3.1, r3.2.1]
    refine ⟨by decide, by decide, br1 (by omega) (bC_X10_row_98 (call := wpC p d) ?_)⟩
    exact hQ w ps (by rw [show tsL (tst τ n) τ k π j (lsN c j 0) way = [] from rfl, List.append_nil]; exact h) (fun ρ hρ => ⟨hρ, rfl⟩) hpA ⟨[], (List.append_nil _).symm⟩
  | succ t ih =>
    intro j hj w ps L nb h hπ hx2 hA hpA hL hQ
    have hjm : j < m := by omega
    obtain ⟨⟨a1, a2, a3⟩, hPL, -, -⟩ := id h
    have o := hB.ob a1 (r := r) (by omega) (by omega) (by omega)
    have oa := hB.ob a1 (r := fR w0 72 r) (by rw [r3.1]; decide) (by rw [r3.1]; decide) (by rw [r3.1]; decide)
    obtain ⟨hK, ekd⟩ := hB.kr a1 a2
    have kl := hK.2.2.2.2.1 k hk
    have hF' := hB.F a1
    have pr := hB.prel a1 a2 (hch j hjm)
    have hway := PRel.way (d := d - 3 * n) (fun k hk => by
      have kl := hK.2.2.2.2.1 k hk
      exact kl.2.2.2.2.2.2.2.1) _ _ _ _ _ pr
    have rg := h40 j hjm
    have rc := rw_c rg.1
    have P1 := hpr j (t + 1) (by omega)
    have P2 := hpr (j + 1) t (by omega)
    have eP : prN τ (lsN c j (t + 1)) = rw' τ (c j) * prN τ (lsN c (j + 1) t) := rfl
    obtain ⟨Pn, hPn⟩ : ∃ P, P = prN τ (lsN c (j + 1) t) := ⟨_, rfl⟩
    rw [← hPn] at P2 eP
    have e41 : min (41 : Int) (tA τ 26 (c j)) = (rw' τ (c j) : Nat) := by omega
    have wl : way % prN τ (lsN c j (t + 1)) < prN τ (lsN c j (t + 1)) := Nat.mod_lt _ (by omega)
    obtain ⟨wj, hwj⟩ : ∃ wj, wj = way % prN τ (lsN c j (t + 1)) := ⟨_, rfl⟩
    rw [← hwj] at wl ⊢
    have edig : wj / Pn = (way / Pn) % rw' τ (c j) := by
      rw [hwj, eP, Nat.mul_comm]
      exact Nat.mod_mul_right_div_self ..
    have erest : wj % Pn = way % Pn := by
      rw [hwj, eP, Nat.mul_comm]
      exact Nat.mod_mul_right_mod ..
    have bl : ((lsN c j (t + 1)).map (wsz τ n)).sum = wsz τ n (c j) + ((lsN c (j + 1) t).map (wsz τ n)).sum := rfl
    rw [bl] at hL
    refine hI _ _ _ _ ?_
    rw [ob.etg o, ob.efR o, ob.etg oa, ob.eln oa, ob.eaR oa, r1, r3.1, r3.2.1]
    refine ⟨by decide, by decide, br0 (by omega) ⟨by decide, ⟨by decide, by omega, by omega⟩, ?_⟩⟩
    refine hway d (by omega) _ ?_
    rw [e41]
    refine ⟨by omega, ?_⟩
    have ediv : i_div ((prN τ (lsN c j (t + 1)) : Nat) : Int) (rw' τ (c j) : Nat) = (Pn : Nat) := by
      rw [i_div_n (by omega) (by omega), eP, Nat.mul_div_cancel_left _ (by omega)]
    rw [ediv]
    have e71 : fR w 71 r = kd w p k := by rw [ob.efR o, r2, ekd]
    refine fa ⟨by rw [ob.etg o, r1]; decide, ⟨by rw [ob.efR o, ob.etg oa, r3.1]; decide, by omega, by rw [ob.efR o, ob.eln oa, r3.2.1]; omega⟩, by omega, by rw [ob.etg o, r1]; decide, by rw [ob.etg o, r1]; decide, by rw [e71, kl.1]; decide, ⟨by rw [e71]; exact kl.2.2.2.2.2.2.2.2.1, by omega, by rw [e71, show ln w (fR w 41 (kd w p k)) = 4 from kl.2.2.2.2.2.2.2.2.2.1]; omega⟩, hF'.1, ?_⟩
    rw [e71, hx2]
    have hmk' : (m : Int) = tA τ 14 k := by
      rcases hmk with y | y
      · omega
      · exact y
    have es : aN w (fR w 41 (kd w p k)) j = S ((k, j) :: π) := by
      rw [hS j hjm]
      unfold aN
      rw [if_neg (by rw [show tg w (fR w 41 (kd w p k)) = 102 from kl.2.2.2.2.2.2.2.2.1]; decide)]
      have := (kl.2.2.2.2.2.2.2.2.2.2.2 j (by show (j : Int) < tA τ 14 k; omega)).1
      exact this
    have hAj := hA j (Nat.le_refl _) hjm
    obtain ⟨g, hg⟩ : ∃ g, d = g + 2 := ⟨d - 2, by omega⟩
    have room := h.room hm hlim (by omega)
    have plc := sC_place (d := g) (k := k) (j := j) (π' := π) (x3 := (j : Int)) (x4 := aN w (fR w 41 (kd w p k)) j) a3 hK rfl hF' hPL (Or.inr ⟨hπ, hk⟩) (by omega) (fun hnot => by
      have nd : (ps ++ [(k, j) :: π]).Nodup := by
        rw [List.nodup_append]
        exact ⟨hPL.2.2.1, by simp, fun a ha b hb => by
          have : b = (k, j) :: π := by simpa using hb
          rw [this]
          intro q
          exact hnot (by rw [← q]; exact ha)⟩
      have := List.Nodup.length_le_of_subset nd (l₂ := ALL) (fun y hy => by
        rcases List.mem_append.mp hy with y1 | y1
        · exact hpA y y1
        · rw [List.mem_singleton.mp y1]; exact hAj.1)
      rw [List.length_append] at this
      simp at this
      omega) room (by omega) (x1 := plo w F ps π) (x2 := kd w p k) rfl (by unfold kio; rw [if_neg (by have := hK.k24 hk; omega)]) rfl es (Q := zqR (fun v22 u21 =>
          wpC p d (vm10 (tg u21 (aR w (fR w 72 r) j))) [ar (aR w (fR w 72 r) j), ai (i_div (wj : Nat) (Pn : Nat)), ar v22, ar F, ar x] u21 (zqV (fun u23 =>
            (¬ (Pn : Int) = 0) ∧
            ∀ x6_26 : Int, x6_26 = i_rem (wj : Nat) (Pn : Nat) →
            ∀ x7_27 : Int, x7_27 = w32 ((j : Int) + 1) →
            I (Pn : Nat) x6_26 x7_27 u23) zno)) zno) (fun w1 ps1 pg pL1 hin => ?_)
    · rw [hg] at plc ⊢
      exact plc
    · obtain ⟨h1, ext1, more1⟩ := h.pl hB pg pL1
      have rb : ∀ i, i < m → tg w1 (aR w0 (fR w0 72 r) i) = tg w0 (aR w0 (fR w0 72 r) i) := fun i hi => by
        have hp := hch i hi
        have ht : 6 ≤ tg w0 (aR w0 (fR w0 72 r) i) ∧ tg w0 (aR w0 (fR w0 72 r) i) ≤ 12 := by
          cases n with
          | zero => exact hp.elim
          | succ n =>
            rcases hp.2.2 with ⟨_, z⟩ | ⟨_, _, z, _⟩
            · exact z.tg
            · omega
        exact ob.etg (hB.ob h1.1.1 (by omega) (by omega) (by omega))
      show wpC p d (vm10 (tg w1 (aR w (fR w 72 r) j))) [ar (aR w (fR w 72 r) j), ai (i_div (wj : Nat) (Pn : Nat)), ar (plo w1 F ps1 ((k, j) :: π)), ar F, ar x] w1 _
      have dl : wj / Pn ≤ wj := Nat.div_le_self _ _
      rw [ob.efR o, ob.eaR oa, rb j hjm, i_div_n (by omega) (by omega)]
      refine hgo j hjm d hd (wj / Pn) ((k, j) :: π) w1 ps1 L nb _ ?_ h1 hin hAj.2 ?_ (by omega) (by simp; omega) (fun w2 ps2 h2 ext2 all2 more2 => ?_)
      · rw [edig]; exact Nat.mod_lt _ (by omega)
      · intro ρ hρ
        rcases pg.2.2.2.2.2.2.1 with y | y
        · rw [y] at hρ; exact hpA ρ hρ
        · rw [y] at hρ
          rcases List.mem_append.mp hρ with q | q
          · exact hpA ρ q
          · rw [List.mem_singleton.mp q]
            exact hAj.1
      · refine ⟨by omega, ?_⟩
        have ml : wj % Pn ≤ wj := Nat.mod_le _ _
        rw [i_rem_n (by omega) (by omega), erest, w32_s (by omega) (by omega)]
        refine fa (fa ?_)
        have e1 := fun ρ (hρ : ρ ∈ ps) => ext2 ρ (ext1 ρ hρ).1
        have len := tst_len n (c j) (wj / Pn) ((k, j) :: π) (hWP j hjm) (by rw [edig]; exact Nat.mod_lt _ (by omega))
        have eT : tsL (tst τ n) τ k π j (lsN c j (t + 1)) way = tst τ n (c j) (wj / Pn) ((k, j) :: π) ++ tsL (tst τ n) τ k π (j + 1) (lsN c (j + 1) t) way := by rw [edig, hPn]; rfl
        have eN : nbL (nbF τ n) τ k π j (lsN c j (t + 1)) way nb = nbL (nbF τ n) τ k π (j + 1) (lsN c (j + 1) t) way (nbF τ n (c j) (wj / Pn) ((k, j) :: π) nb) := by rw [edig, hPn]; rfl
        have := ih (j + 1) (by omega) w2 ps2 _ _ h2 (e1 π hπ).1 ?_ (fun i i1 i2 => hA i (by omega) i2) all2 ?_ (fun w' ps' h' ext' all' more' => hQ w' ps' ?_ (fun ρ hρ => ?_) all' ?_)
        · rw [← hPn] at this
          exact this
        · rw [hx2, (e1 π hπ).2, (ext1 π hπ).2]
        · rw [List.length_append]; omega
        · rw [eT, eN, ← List.append_assoc]; exact h'
        · obtain ⟨x1, x2⟩ := ext' ρ (e1 ρ hρ).1
          exact ⟨x1, x2.trans ((e1 ρ hρ).2.trans (ext1 ρ hρ).2)⟩
        · obtain ⟨m1, hm1⟩ := more1
          obtain ⟨m2, hm2⟩ := more2
          obtain ⟨m3, hm3⟩ := more'
          exact ⟨m1 ++ m2 ++ m3, by rw [hm3, hm2, hm1]; simp [List.append_assoc]⟩
end ZRowC3
