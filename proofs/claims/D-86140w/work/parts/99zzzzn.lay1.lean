/-! the component's lay: a rule's columns in one way -/
section ZLay1
variable {p b e d rr : Nat} {w : CW} {τ : TW}
/-- a rule's columns, one behind the other -/
theorem rowK {w0 : CW} {F x : Nat} {S : Pa → Int} {zb lim : Int} {ALL : List Pa} {Sn : Nat → Int} (hB : BS p b w0 τ F) (hm : lim ≤ mu w0 ∧ lim ≤ 5 * mz w0) (hlim : zb + 22000 ≤ lim) (hAL : ALL.length ≤ 900) {n m a : Nat} {c : Nat → Nat} {D : Nat → Nat → Prop} {N : Nat → Nat} {way : Nat} (hr : PArr (p + 8) w0 a m ∧ m ≤ 3 ∧ fI w0 46 F = m) (hs : IArr p w0 (fR w0 45 F) 3 ∧ ∀ j : Nat, j < m → aI w0 (fR w0 45 F) j = S [(24, j)])
    (hch : ∀ i, i < m → PRel p (p + 8) w0 τ Sn n (N i) (aR w0 a i) (c i) (D i)) (h40 : ∀ i, i < m → 1 ≤ tA τ 26 (c i) ∧ tA τ 26 (c i) ≤ 40) (h40' : prN τ (lsN c 0 m) ≤ 40)
    (hWP : ∀ i, i < m → WP τ n (c i)) (hgo : ∀ i, i < m → RGO p b w0 τ F S x rr zb ALL (3 * n + 8) (aR w0 a i) (tst τ n (c i)) (nbF τ n (c i)) (sub τ n (c i)) (wsz τ n (c i)) (rw' τ (c i))) (hd : 3 * n + 8 ≤ d) (hn : 3 * n ≤ 400) {R : CW → Prop} {I : Int → Int → Int → CW → Prop}
    (hI : ∀ (x7 : Int) (x8 : Int) (x9 : Int) (w : CW), (
    (hF 46 (tg w F) = true) ∧
    ((fI w 46 F) ≤ x9 → R w) ∧
    (¬ ((fI w 46 F) ≤ x9) →
      ((111 ≤ tg w a ∧ tg w a ≤ 119) ∧ 0 ≤ x9 ∧ x9 < ln w a) ∧
      wpC p d (vm0 (tg w (aR w a x9))) [ar (aR w a x9)] w (zqI (fun v34 u33 =>
        (¬ v34 = 0) ∧
        ∀ x7_36 : Int, x7_36 = i_div x7 v34 →
        ((111 ≤ tg u33 a ∧ tg u33 a ≤ 119) ∧ 0 ≤ x9 ∧ x9 < ln u33 a) ∧
        (¬ x7_36 = 0) ∧
        (hF 45 (tg u33 F) = true) ∧
        (tg u33 (fR u33 45 F) = 102 ∧ 0 ≤ x9 ∧ x9 < ln u33 (fR u33 45 F)) ∧
        (tg u33 F = 4) ∧
        wpC p d 87 [ar F, ar 0, ar 0, ai x9, ai (aN u33 (fR u33 45 F) x9)] u33 (zqR (fun v42 u41 =>
          wpC p d (vm10 (tg u41 (aR u33 a x9))) [ar (aR u33 a x9), ai (i_div x8 x7_36), ar v42, ar F, ar x] u41 (zqV (fun u43 =>
            (¬ x7_36 = 0) ∧
            ∀ x8_46 : Int, x8_46 = i_rem x8 x7_36 →
            ∀ x9_47 : Int, x9_47 = w32 (x9 + 1) →
            I x7_36 x8_46 x9_47 u43) zno)) zno)) zno))) → I x7 x8 x9 w) :
    ∀ t j, j + t = m → ∀ (w : CW) (ps : List Pa) (L : List (Pa × Nat)) (nb : Nat → Option Pa), RI p b w0 w τ F S ps x rr L nb zb → (∀ i, j ≤ i → i < m → [(24, i)] ∈ ALL ∧ ∀ ρ, ρ ∈ sub τ n (c i) [(24, i)] → ρ ∈ ALL) → (∀ ρ, ρ ∈ ps → ρ ∈ ALL) → L.length + ((lsN c j t).map (wsz τ n)).sum ≤ 900 →
      (∀ w' ps', RI p b w0 w' τ F S ps' x rr (L ++ tsL (tst τ n) τ 24 [] j (lsN c j t) way) (nbL (nbF τ n) τ 24 [] j (lsN c j t) way nb) zb → (∀ ρ, ρ ∈ ps → ρ ∈ ps' ∧ plo w' F ps' ρ = plo w F ps ρ) → (∀ ρ, ρ ∈ ps' → ρ ∈ ALL) → (∃ more, ps' = ps ++ more) → R w') → I (prN τ (lsN c j t) : Nat) ((way % prN τ (lsN c j t) : Nat) : Int) (j : Int) w := by
  obtain ⟨r3, r4, r5⟩ := hr
  obtain ⟨s1, s2⟩ := hs
  have hpr : ∀ j t, j + t = m → 1 ≤ prN τ (lsN c j t) ∧ prN τ (lsN c j t) ≤ 40 := by
    intro j
    induction j with
    | zero =>
      intro t ht
      have : t = m := by omega
      subst this
      exact ⟨prN_ge (fun y hy => by
        obtain ⟨i, i1, i2, i3⟩ := lsN_mem hy
        have := rw_c (h40 i (by omega)).1
        have := (h40 i (by omega)).1
        rw [i3]; omega), h40'⟩
    | succ j ih =>
      intro t ht
      have := ih (t + 1) (by omega)
      have e : prN τ (lsN c j (t + 1)) = rw' τ (c j) * prN τ (lsN c (j + 1) t) := rfl
      rw [e] at this
      have h1 : 1 ≤ rw' τ (c j) := by
        have := rw_c (h40 j (by omega)).1
        have := (h40 j (by omega)).1
        omega
      have h2 : 1 ≤ prN τ (lsN c (j + 1) t) := by
        rcases Nat.eq_zero_or_pos (prN τ (lsN c (j + 1) t)) with z | z
        · rw [z, Nat.mul_zero] at this; omega
        · exact z
      have h3 : 1 * prN τ (lsN c (j + 1) t) ≤ rw' τ (c j) * prN τ (lsN c (j + 1) t) := Nat.mul_le_mul_right _ h1
      omega
  intro t
  induction t with
  | zero =>
    intro j hj w ps L nb h hA hpA hL hQ
    have hj : j = m := by omega
    have hF' := hB.F h.1.1
    have e46 : fI w 46 F = m := (h.2.2.1.1 46 (by decide)).trans r5
    refine hI _ _ _ _ ⟨by rw [hF'.1]; decide, br1 (by rw [e46, hj]; exact Int.le_refl _) ?_⟩
    exact hQ w ps (by rw [show tsL (tst τ n) τ 24 [] j (lsN c j 0) way = [] from rfl, List.append_nil]; exact h) (fun ρ hρ => ⟨hρ, rfl⟩) hpA ⟨[], (List.append_nil _).symm⟩
  | succ t ih =>
    intro j hj w ps L nb h hA hpA hL hQ
    have hjm : j < m := by omega
    obtain ⟨⟨a1, a2, a3⟩, hPL, hFf, -⟩ := id h
    have oa := hB.ob a1 (r := a) (by rw [r3.1]; decide) (by rw [r3.1]; decide) (by rw [r3.1]; decide)
    have os := hB.ob a1 (r := fR w0 45 F) (by rw [s1.1]; decide) (by rw [s1.1]; decide) (by rw [s1.1]; decide)
    have e46 : fI w 46 F = m := (hFf.1 46 (by decide)).trans r5
    have e45 : fR w 45 F = fR w0 45 F := hFf.2 45
    obtain ⟨hK, ekd⟩ := hB.kr a1 a2
    have hF' := hB.F a1
    have pr := hB.prel a1 a2 (hch j hjm)
    have hway := PRel.way (d := d - 3 * n) (fun k hk => by
      have kl := hK.2.2.2.2.1 k hk
      exact kl.2.2.2.2.2.2.2.1) _ _ _ _ _ pr
    have rg := h40 j hjm
    have rc := rw_c rg.1
    have P1 := hpr j (t + 1) (by omega)
    have P2 := hpr (j + 1) t (by omega)
    have eP : prN τ (lsN c j (t + 1)) = rw' τ (c j) * prN τ (lsN c (j + 1) t) := rfl
    obtain ⟨Pn, hPn⟩ : ∃ P, P = prN τ (lsN c (j + 1) t) := ⟨_, rfl⟩
    rw [← hPn] at P2 eP
    have e41 : min (41 : Int) (tA τ 26 (c j)) = (rw' τ (c j) : Nat) := by omega
    have wl : way % prN τ (lsN c j (t + 1)) < prN τ (lsN c j (t + 1)) := Nat.mod_lt _ (by omega)
    obtain ⟨wj, hwj⟩ : ∃ wj, wj = way % prN τ (lsN c j (t + 1)) := ⟨_, rfl⟩
    rw [← hwj] at wl ⊢
    have edig : wj / Pn = (way / Pn) % rw' τ (c j) := by
      rw [hwj, eP, Nat.mul_comm]
      exact Nat.mod_mul_right_div_self ..
    have erest : wj % Pn = way % Pn := by
      rw [hwj, eP, Nat.mul_comm]
      exact Nat.mod_mul_right_mod ..
    have bl : ((lsN c j (t + 1)).map (wsz τ n)).sum = wsz τ n (c j) + ((lsN c (j + 1) t).map (wsz τ n)).sum := rfl
    rw [bl] at hL
    refine hI _ _ _ _ ⟨by rw [hF'.1]; decide, br0 (by rw [e46]; omega) ⟨⟨by rw [ob.etg oa, r3.1]; decide, by omega, by rw [ob.eln oa, r3.2.1]; omega⟩, ?_⟩⟩
    rw [ob.eaR oa]
    refine hway d (by omega) _ ?_
    rw [e41]
    refine ⟨by omega, ?_⟩
    have ediv : i_div ((prN τ (lsN c j (t + 1)) : Nat) : Int) (rw' τ (c j) : Nat) = (Pn : Nat) := by
      rw [i_div_n (by omega) (by omega), eP, Nat.mul_div_cancel_left _ (by omega)]
    rw [ediv]
    refine fa ⟨⟨by rw [ob.etg oa, r3.1]; decide, by omega, by rw [ob.eln oa, r3.2.1]; omega⟩, by omega, by rw [hF'.1]; decide, ⟨by rw [e45, ob.etg os]; exact s1.1, by omega, by rw [e45, ob.eln os, s1.2.1]; omega⟩, hF'.1, ?_⟩
    have es : aN w (fR w 45 F) j = S [(24, j)] := by
      rw [e45, ← s2 j hjm]
      unfold aN
      rw [if_neg (by rw [ob.etg os, s1.1]; decide), ob.eaI os]
    have hAj := hA j (Nat.le_refl _) hjm
    obtain ⟨g, hg⟩ : ∃ g, d = g + 2 := ⟨d - 2, by omega⟩
    have room := h.room hm hlim (by omega)
    have z0 : plo w F ps [] = 0 := by unfold plo; rw [if_pos rfl]
    have plc := sC_place (d := g) (k := 24) (j := j) (π' := []) (x1 := 0) (x2 := 0) (x3 := (j : Int)) (x4 := aN w (fR w 45 F) j) a3 hK rfl hF' hPL (Or.inl ⟨rfl, rfl⟩) (by omega) (fun hnot => by
      have nd : (ps ++ [[(24, j)]]).Nodup := by
        rw [List.nodup_append]
        exact ⟨hPL.2.2.1, by simp, fun a ha b hb => by
          have : b = [(24, j)] := by simpa using hb
          rw [this]
          intro q
          exact hnot (by rw [← q]; exact ha)⟩
      have := List.Nodup.length_le_of_subset nd (l₂ := ALL) (fun y hy => by
        rcases List.mem_append.mp hy with y1 | y1
        · exact hpA y y1
        · rw [List.mem_singleton.mp y1]; exact hAj.1)
      rw [List.length_append] at this
      simp at this
      omega) room (by simp) z0.symm (by unfold kio; rw [if_pos rfl]) rfl es (Q := zqR (fun v22 u21 =>
          wpC p d (vm10 (tg u21 (aR w0 a j))) [ar (aR w0 a j), ai (i_div (wj : Nat) (Pn : Nat)), ar v22, ar F, ar x] u21 (zqV (fun u23 =>
            (¬ (Pn : Int) = 0) ∧
            ∀ x6_26 : Int, x6_26 = i_rem (wj : Nat) (Pn : Nat) →
            ∀ x7_27 : Int, x7_27 = w32 ((j : Int) + 1) →
            I (Pn : Nat) x6_26 x7_27 u23) zno)) zno) (fun w1 ps1 pg pL1 hin => ?_)
    · rw [ob.eaR oa]
      rw [hg] at plc ⊢
      exact plc
    · obtain ⟨h1, ext1, more1⟩ := h.pl hB pg pL1
      have rb : ∀ i, i < m → tg w1 (aR w0 a i) = tg w0 (aR w0 a i) := fun i hi => by
        have hp := hch i hi
        have ht : 6 ≤ tg w0 (aR w0 a i) ∧ tg w0 (aR w0 a i) ≤ 12 := by
          cases n with
          | zero => exact hp.elim
          | succ n =>
            rcases hp.2.2 with ⟨_, z⟩ | ⟨_, _, z, _⟩
            · exact z.tg
            · omega
        exact ob.etg (hB.ob h1.1.1 (by omega) (by omega) (by omega))
      show wpC p d (vm10 (tg w1 (aR w0 a j))) [ar (aR w0 a j), ai (i_div (wj : Nat) (Pn : Nat)), ar (plo w1 F ps1 [(24, j)]), ar F, ar x] w1 _
      have dl : wj / Pn ≤ wj := Nat.div_le_self _ _
      rw [rb j hjm, i_div_n (by omega) (by omega)]
      refine hgo j hjm d hd (wj / Pn) [(24, j)] w1 ps1 L nb _ ?_ h1 hin hAj.2 ?_ (by omega) (by simp; omega) (fun w2 ps2 h2 ext2 all2 more2 => ?_)
      · rw [edig]; exact Nat.mod_lt _ (by omega)
      · intro ρ hρ
        rcases pg.2.2.2.2.2.2.1 with y | y
        · rw [y] at hρ; exact hpA ρ hρ
        · rw [y] at hρ
          rcases List.mem_append.mp hρ with q | q
          · exact hpA ρ q
          · rw [List.mem_singleton.mp q]
            exact hAj.1
      · refine ⟨by omega, ?_⟩
        have ml : wj % Pn ≤ wj := Nat.mod_le _ _
        rw [i_rem_n (by omega) (by omega), erest, w32_s (by omega) (by omega)]
        refine fa (fa ?_)
        have e1 := fun ρ (hρ : ρ ∈ ps) => ext2 ρ (ext1 ρ hρ).1
        have len := tst_len n (c j) (wj / Pn) [(24, j)] (hWP j hjm) (by rw [edig]; exact Nat.mod_lt _ (by omega))
        have eT : tsL (tst τ n) τ 24 [] j (lsN c j (t + 1)) way = tst τ n (c j) (wj / Pn) [(24, j)] ++ tsL (tst τ n) τ 24 [] (j + 1) (lsN c (j + 1) t) way := by rw [edig, hPn]; rfl
        have eN : nbL (nbF τ n) τ 24 [] j (lsN c j (t + 1)) way nb = nbL (nbF τ n) τ 24 [] (j + 1) (lsN c (j + 1) t) way (nbF τ n (c j) (wj / Pn) [(24, j)] nb) := by rw [edig, hPn]; rfl
        have := ih (j + 1) (by omega) w2 ps2 _ _ h2 (fun i i1 i2 => hA i (by omega) i2) all2 ?_ (fun w' ps' h' ext' all' more' => hQ w' ps' ?_ (fun ρ hρ => ?_) all' ?_)
        · rw [← hPn] at this
          exact this
        · rw [List.length_append]; omega
        · rw [eT, eN, ← List.append_assoc]; exact h'
        · obtain ⟨x1, x2⟩ := ext' ρ (e1 ρ hρ).1
          exact ⟨x1, x2.trans ((e1 ρ hρ).2.trans (ext1 ρ hρ).2)⟩
        · obtain ⟨m1, hm1⟩ := more1
          obtain ⟨m2, hm2⟩ := more2
          obtain ⟨m3, hm3⟩ := more'
          exact ⟨m1 ++ m2 ++ m3, by rw [hm3, hm2, hm1]; simp [List.append_assoc]⟩
/-- a new row -/
def nrW (w : CW) (ru : Nat) : CW := pR (pR (nA (pR (nA (pR (nA (nO w 14 5) 115 8) 81 (cz w + 1) (cz w + 2)) 118 8) 82 (cz w + 1) (cz w + 3)) 115 8) 84 (cz w + 1) (cz w + 4)) 80 (cz w + 1) ru
theorem sC_newRow {ru : Nat} (hz : cz w + 4 ≤ mz w ∧ cu w + 29 ≤ mu w) {Q : ZRes → CW → Prop} (hQ : Q (.inl none) (nrW w ru)) : wpC p (d + 1) 124 [ar (cz w + 1), ar ru] (nO w 14 5) Q := by
  have t : tg (nO w 14 5) (cz w + 1) = 14 := if_pos rfl
  have n1 : cz w + 1 ≠ cz w + 2 ∧ cz w + 1 ≠ cz w + 3 ∧ cz w + 1 ≠ cz w + 4 := by omega
  refine wC_X16_init (Nat.zero_le _) (bC_X16_init_0 ⟨by omega, ⟨by decide, by show cz w + 1 + 1 ≤ mz w; omega, by show cu w + 5 + 8 ≤ mu w; omega⟩, fa ⟨?_, fa ⟨⟨by decide, by show cz w + 1 + 1 + 1 ≤ mz w; omega, by show cu w + 5 + 8 + 8 ≤ mu w; omega⟩, fa ⟨?_, fa ⟨⟨by decide, by show cz w + 1 + 1 + 1 + 1 ≤ mz w; omega, by show cu w + 5 + 8 + 8 + 8 ≤ mu w; omega⟩, fa ⟨?_, fa ⟨?_, fa hQ⟩⟩⟩⟩⟩⟩⟩)
  · show hP 81 (if cz w + 1 = cz w + 1 + 1 then 115 else tg (nO w 14 5) (cz w + 1)) = true
    rw [if_neg (by omega), t]; decide
  · show hP 82 (if cz w + 1 = cz w + 1 + 1 + 1 then 118 else if cz w + 1 = cz w + 1 + 1 then 115 else tg (nO w 14 5) (cz w + 1)) = true
    rw [if_neg (by omega), if_neg (by omega), t]; decide
  · show hP 84 (if cz w + 1 = cz w + 1 + 1 + 1 + 1 then 115 else if cz w + 1 = cz w + 1 + 1 + 1 then 118 else if cz w + 1 = cz w + 1 + 1 then 115 else tg (nO w 14 5) (cz w + 1)) = true
    rw [if_neg (by omega), if_neg (by omega), if_neg (by omega), t]; decide
  · show hP 80 (if cz w + 1 = cz w + 1 + 1 + 1 + 1 then 115 else if cz w + 1 = cz w + 1 + 1 + 1 then 118 else if cz w + 1 = cz w + 1 + 1 then 115 else tg (nO w 14 5) (cz w + 1)) = true
    rw [if_neg (by omega), if_neg (by omega), if_neg (by omega), t]; decide
end ZLay1
