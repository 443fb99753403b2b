/-! the component's trees: the place that is chosen -/
section ZChosen
variable {p b e d f F M n : Nat} {wS w : CW} {τ : TW} {rs rows : List (Nat × Nat)} {ps : List Pa} {P : Sp} {O : List (Pa × Int)} {ro : Nat × Nat → Nat} {ru : Nat → Nat}
/-- what stays while a maker looks -/
def MLK (p : Nat) (wS w w' : CW) (τ : TW) (f F : Nat) (ps : List Pa) (rs rows : List (Nat × Nat)) (P : Sp) (O : List (Pa × Int)) (ro : Nat × Nat → Nat) (ru : Nat → Nat) (M A : Nat) : Prop := MW p wS w' τ f F ps rs ro ru M ∧ KN p w' τ f F M ps P O ∧ ARW w' A rows ro ∧ Fr [M + 1, M + 2, M + 11] w w' ∧ zm w' = zm w
theorem MLK.trans {w' w'' : CW} {A : Nat} (h : MLK p wS w w' τ f F ps rs rows P O ro ru M A) (k : MLK p wS w' w'' τ f F ps rs rows P O ro ru M A) : MLK p wS w w'' τ f F ps rs rows P O ro ru M A := ⟨k.1, k.2.1, k.2.2.1, h.2.2.2.1.trans k.2.2.2.1, k.2.2.2.2.trans h.2.2.2.2⟩
theorem sC_branches (hW : MW p wS w τ f F ps rs ro ru M) (hK : KN p w τ f F M ps P O) (hR : RWS τ rs rows P O) {A : Nat} (hA : ARW w A rows ro) {π : Pa} (hp : π ∈ ps) (hs : 0 ≤ srP τ f π ∧ srP τ f π < 3 + nK τ) (hn : lkp P π = none) {Q : ZRes → CW → Prop} (hQ : ∀ w', MLK p wS w w' τ f F ps rs rows P O ro ru M A → Fr [M + 1, M + 2] w w' → Q (.inl (some (ai ((brs τ P rows π (srP τ f π)).length : Nat)))) w') : wpC p (d + 5) 137 [ar M, ar A, ai (rows.length : Nat), ar (plo w F ps π)] w Q := by
  obtain ⟨-, -, -, ⟨a1, a2, a3, kk, j, π', -, -, -, -, -, -, a88⟩⟩ := hW.t.2.1.at hp
  obtain ⟨s, hs'⟩ : ∃ s, s = srP τ f π := ⟨_, rfl⟩
  have n24 : nK τ ≤ 24 := hW.1.2.2.1.1.2.2.1
  have hrl := hR.1
  obtain ⟨-, mt, -⟩ := id hW.2.2.2.2.1.1
  have h88 : hF 88 (tg w (plo w F ps π)) = true := by rw [a1]; decide
  rw [← hs'] at hs hQ a88
  have self : MLK p wS w w τ f F ps rs rows P O ro ru M A := ⟨hW, hK, hA, Fr.refl _ _, rfl⟩
  refine wC_X18_branches (Nat.zero_le _) (bC_X18_branches_0 ⟨h88, ?_⟩)
  rw [a88]
  by_cases s3 : s < 3
  · refine br1 s3 ⟨h88, ?_⟩
    by_cases s1 : s = 1
    · have eb : brs τ P rows π s = [(0, 0, 0, 0), (1, 0, 0, 0)] := by unfold brs; rw [if_neg (by omega), if_pos s1]
      rw [eb] at hQ
      exact br1 s1 (bC_X18_branches_60 (call := wpC p (d + 4)) (hQ w self (Fr.refl _ _)))
    · refine br0 s1 ⟨h88, ?_⟩
      by_cases s2 : s = 2
      · have eb : brs τ P rows π s = (txs τ P rows π).map (fun t => (0, 0, t, 0)) ++ [(0, 0, 0, 1)] := by unfold brs; rw [if_neg (by omega), if_neg s1, if_pos s2]
        rw [eb, List.length_append, List.length_map] at hQ
        refine br1 s2 ⟨mt, sC_textMany (d := d) hW hK hR hA hp (by omega) (fun w' hW' hK' hA' f' z' _ tl => ?_)⟩
        show Q (.inl (some (ai (w32 (((txs τ P rows π).length : Nat) + 1))))) w'
        rw [w32_s (by omega) (by omega)]
        exact hQ w' ⟨hW', hK', hA', f'.mono (fun r hr => by simp at hr ⊢; omega), z'⟩ (f'.mono (fun r hr => by simp at hr ⊢; omega))
      · have eb : brs τ P rows π s = rgs (-2147483648) (bos τ P rows π) := by unfold brs; rw [if_neg (by omega), if_neg s1, if_neg s2]
        rw [eb, rgs_len] at hQ
        refine br0 s2 ⟨mt, sC_borderMany (d := d) hW hK hR hA hp (by omega) hn (fun w' hW' hK' hA' f' z' _ tl => ?_)⟩
        exact hQ w' ⟨hW', hK', hA', f'.mono (fun r hr => by simp at hr ⊢; omega), z'⟩ (f'.mono (fun r hr => by simp at hr ⊢; omega))
  · have eb : brs τ P rows π s = (-4, 0, 0, 0) :: (lvs τ (s - 3)).map (fun (k : Nat) => (((k : Nat) : Int), 0, 0, 0)) := by unfold brs; rw [if_pos (by omega)]
    rw [eb, List.length_cons, List.length_map] at hQ
    obtain ⟨o, ho⟩ : ∃ o : Nat, s = 3 + (o : Int) := ⟨(s - 3).toNat, by omega⟩
    have ll : (lvs τ (o : Nat)).length ≤ 24 := Nat.le_trans (lvK_len (τ := τ) (o : Nat) (nK τ)) n24
    refine br0 s3 ⟨h88, mt, ?_⟩
    rw [ho]
    rw [ho, show 3 + (o : Int) - 3 = (o : Nat) by omega] at hQ
    refine sC_leafMany (d := d + 2) hW (by omega) ?_
    show Q (.inl (some (ai (w32 (((lvs τ (o : Nat)).length : Nat) + 1))))) w
    rw [w32_s (by omega) (by omega)]
    exact hQ w self (Fr.refl _ _)
/-- asked places stand in the maker's row -/
def AKD (τ : TW) (f : Nat) (wS w : CW) (F M : Nat) (ps : List Pa) (P : Sp) (L : List (Pa × Nat)) : Prop := L.length ≤ ps.length ∧ ∀ (i : Nat) e, L[i]? = some e → aR w (M + 11) (i : Nat) = plo wS F ps e.1 ∧ e.1 ∈ ps ∧ lkp P e.1 = none ∧ tA τ 18 e.2 = srP τ f e.1 ∧ 0 ≤ srP τ f e.1 ∧ srP τ f e.1 < 3 + nK τ
theorem AKD.fr {w' : CW} {L : List (Pa × Nat)} (h : AKD τ f wS w F M ps P L) (hW : MW p wS w τ f F ps rs ro ru M) (fr : Fr [M + 1, M + 2] w w') : AKD τ f wS w' F M ps P L := by
  have h6 := hW.2.2.2.2.2
  have o := fr.2.2.2.2 (M + 11) (by omega) (by simp)
  exact ⟨h.1, fun i e hi => by rw [ob.eaR o]; exact h.2 i e hi⟩
theorem sC_chosen (hW : MW p wS w τ f F ps rs ro ru M) (hK : KN p w τ f F M ps P O) (hR : RWS τ rs rows P O) {A wy : Nat} (hA : ARW w A rows ro) (hwy : fI w 92 M = wy ∧ wy ≤ 3) {L : List (Pa × Nat)} (hL : AKD τ f wS w F M ps P L) {e1 : Pa × Nat} (he : chs τ wy P rows L = some e1) {Q : ZRes → CW → Prop} (hQ : ∀ w', MLK p wS w w' τ f F ps rs rows P O ro ru M A → Q (.inl (some (ar (plo wS F ps e1.1)))) w') : wpC p (d + 6) 135 [ar M, ar A, ai (rows.length : Nat), ai (L.length : Nat)] w Q := by
  have hps : ps.length ≤ 900 := hW.1.2.1.2.2.2.1
  obtain ⟨e0, es, hes⟩ : ∃ e0 es, L = e0 :: es := by
    cases L with
    | nil => cases he
    | cons e0 es => exact ⟨e0, es, rfl⟩
  obtain ⟨g, hg⟩ : ∃ g : Nat → Pa × Nat, g = fun k => (es.take k).foldl (pck τ wy P rows) e0 := ⟨_, rfl⟩
  have g0 : g 0 = e0 := by rw [hg]; rfl
  have gs : ∀ k e, es[k]? = some e → g (k + 1) = pck τ wy P rows (g k) e := fun k e hk => by
    rw [hg]
    show (es.take (k + 1)).foldl _ e0 = _
    rw [List.take_succ, hk, List.foldl_append]
    rfl
  have gN : g es.length = e1 := by
    rw [hg]
    show (es.take es.length).foldl _ e0 = e1
    rw [List.take_of_length_le (Nat.le_refl _)]
    rw [hes] at he
    exact Option.some.inj he
  have ll : L.length = es.length + 1 := by rw [hes]; rfl
  have hl1 := hL.1
  have sh : ∀ u, MW p wS u τ f F ps rs ro ru M → tg u M = 16 ∧ fR u 94 M = M + 11 ∧ tg u (M + 11) = 115 ∧ ln u (M + 11) = ps.length := fun u hu => ⟨hu.2.2.2.2.1.1.2.1, hu.2.2.2.2.1.1.2.2.2.1, hu.2.2.2.2.1.2.2.2.2.2.2.2.2.2.1, hu.2.2.2.2.1.2.2.2.2.2.2.2.2.2.2⟩
  obtain ⟨mt, m94, t11, l11⟩ := sh w hW
  refine wC_X18_chosen (Nat.zero_le _) (bC_X18_chosen_0 ⟨by rw [mt]; decide, ?_⟩)
  rw [hwy.1]
  by_cases w3 : wy = 3
  · have last : ∀ k, k ≤ es.length → L[k]? = some (g k) := by
      intro k
      induction k with
      | zero => intro _; rw [hes, g0]; rfl
      | succ k ih =>
        intro hk
        obtain ⟨e, hk'⟩ : ∃ e, es[k]? = some e := ⟨_, List.getElem?_eq_getElem (by omega)⟩
        rw [gs k e hk', hes]
        show es[k]? = _
        rw [hk']
        unfold pck
        rw [if_pos (Or.inl w3)]
    have la := last es.length (Nat.le_refl _)
    rw [gN] at la
    refine br1 (by omega) ⟨by rw [mt]; decide, ?_⟩
    rw [m94, show w32 (((L.length : Nat) : Int) - 1) = (es.length : Nat) by rw [w32_s (by omega) (by omega)]; omega]
    refine ⟨by rw [t11, l11]; exact ⟨⟨by decide, by decide⟩, by omega, by omega⟩, ?_⟩
    rw [(hL.2 _ _ la).1]
    exact hQ w ⟨hW, hK, hA, Fr.refl _ _, rfl⟩
  · refine br0 (by omega) (bC_X18_chosen_23 ?_)
    intro I hI
    have out : ∀ (u : CW) (b k : Nat), MLK p wS w u τ f F ps rs rows P O ro ru M A → AKD τ f wS u F M ps P L → L[b]? = some e1 → fI u 92 M = wy → (¬ (¬ (((L.length : Nat) : Int) ≤ (k + 1 : Nat)) ∧ ¬ ((wy : Int) ≤ 0))) → I (b : Int) ((k + 1 : Nat) : Int) u := fun u b k hu lu hb e92 hc => by
      obtain ⟨umt, um94, ut11, ul11⟩ := sh u hu.1
      have bl := (List.getElem?_eq_some_iff.mp hb).1
      refine hI _ _ _ ⟨fun _ => by rw [umt]; decide, br0 (by rw [e92]; exact hc) (bC_X18_chosen_137 (call := wpC p (d + 5)) ⟨by rw [umt]; decide, by rw [um94, ut11, ul11]; exact ⟨⟨by decide, by decide⟩, by omega, by omega⟩, ?_⟩)⟩
      rw [um94, (lu.2 b e1 hb).1]
      exact hQ u hu
    have f92 : ∀ {u u' : CW}, MW p wS u τ f F ps rs ro ru M → Fr [M + 1, M + 2, M + 11] u u' → fI u' 92 M = fI u 92 M := fun hu fr => ob.efI (fr.2.2.2.2 M (by have := hu.2.2.2.2.2; omega) (by simp)) 92
    have key : ∀ m k : Nat, m + k = es.length → ∀ (u : CW) (b : Nat), MLK p wS w u τ f F ps rs rows P O ro ru M A → AKD τ f wS u F M ps P L → fI u 92 M = wy → L[b]? = some (g k) → 0 < wy → I (b : Int) ((k + 1 : Nat) : Int) u := by
      intro m
      induction m with
      | zero =>
        intro k hk u b hu lu e92 hb _
        have : k = es.length := by omega
        rw [this, gN] at hb
        exact out u b k hu lu hb e92 (fun q => q.1 (by omega))
      | succ m ih =>
        intro k hk u b hu lu e92 hb w0
        obtain ⟨e, hk'⟩ : ∃ e, es[k]? = some e := ⟨_, List.getElem?_eq_getElem (by omega)⟩
        have hLk : L[k + 1]? = some e := by rw [hes]; exact hk'
        have bl := (List.getElem?_eq_some_iff.mp hb).1
        obtain ⟨umt, um94, ut11, ul11⟩ := sh u hu.1
        obtain ⟨b1, b2, b3, b4, b5⟩ := lu.2 b (g k) hb
        obtain ⟨c1, c2, c3, c4, c5⟩ := lu.2 (k + 1) e hLk
        -- the next round
        have nx : ∀ (u' : CW) (s0 : Int), MLK p wS w u' τ f F ps rs rows P O ro ru M A → AKD τ f wS u' F M ps P L → fI u' 92 M = wy → (s0 = 0 → g (k + 1) = g k) → (s0 ≠ 0 → g (k + 1) = e) → pC_X18_chosen_115 p (wpC p (d + 5)) (fun v w => Q (.inl (some (ar v))) w) I M A (rows.length : Nat) (L.length : Nat) (b : Int) ((k + 1 : Nat) : Int) s0 u' := fun u' s0 hu' lu' e92' h0 h1 => by
          refine bC_X18_chosen_115 (fa (fa ?_))
          rw [show w32 (((k + 1 : Nat) : Int) + 1) = ((k + 2 : Nat) : Int) by rw [w32_s (by omega) (by omega)]; omega]
          by_cases z : s0 = 0
          · rw [if_neg (by simpa using z)]
            exact ih (k + 1) (by omega) u' b hu' lu' e92' (by rw [h0 z]; exact hb) w0
          · rw [if_pos z]
            exact ih (k + 1) (by omega) u' (k + 1) hu' lu' e92' (by rw [h1 z]; exact hLk) w0
        refine hI _ _ _ ⟨fun _ => by rw [umt]; decide, br1 ⟨by omega, by rw [e92]; omega⟩ ⟨by rw [umt]; decide, ?_⟩⟩
        rw [e92]
        have pk := gs k e hk'
        by_cases w1 : wy = 1
        · have pk' : g (k + 1) = @ite _ (wrt τ P rows (g k).1 < wrt τ P rows e.1) (Classical.propDecidable _) e (g k) := by
            rw [pk]
            unfold pck
            by_cases z : wrt τ P rows (g k).1 < wrt τ P rows e.1
            · rw [if_pos z, if_pos (Or.inr (Or.inl ⟨w1, z⟩))]
            · rw [if_neg z, if_neg (fun q => by
                rcases q with q | q | q
                · omega
                · exact z q.2
                · omega)]
          refine br1 (by omega) ⟨by rw [umt]; decide, by rw [um94, ut11, ul11]; exact ⟨⟨by decide, by decide⟩, by omega, by omega⟩, umt, ?_⟩
          rw [um94, c1, ← hu.1.pl c2]
          refine sC_wanted (d := d + 1) hu.1 hu.2.1 hR hu.2.2.1 c2 ⟨by rw [umt]; decide, by rw [um94, ut11, ul11]; exact ⟨⟨by decide, by decide⟩, by omega, by omega⟩, umt, ?_⟩
          rw [um94, b1, ← hu.1.pl b2]
          refine sC_wanted (d := d + 1) hu.1 hu.2.1 hR hu.2.2.1 b2 ⟨fun z => nx u 0 hu lu e92 (fun _ => ?_) (fun q => absurd rfl q), fun z => nx u 1 hu lu e92 (fun q => by cases q) (fun _ => ?_)⟩
          · rw [pk', if_neg (by omega)]
          · rw [pk', if_pos (by omega)]
        · have w2 : wy = 2 := by omega
          have pk' : g (k + 1) = @ite _ ((brs τ P rows e.1 (srP τ f e.1)).length < (brs τ P rows (g k).1 (srP τ f (g k).1)).length) (Classical.propDecidable _) e (g k) := by
            rw [pk]
            unfold pck
            rw [c4, b4]
            by_cases z : (brs τ P rows e.1 (srP τ f e.1)).length < (brs τ P rows (g k).1 (srP τ f (g k).1)).length
            · rw [if_pos z, if_pos (Or.inr (Or.inr ⟨w2, z⟩))]
            · rw [if_neg z, if_neg (fun q => by
                rcases q with q | q | q
                · omega
                · omega
                · exact z q.2)]
          refine br0 (by omega) ⟨by rw [umt]; decide, by rw [um94, ut11, ul11]; exact ⟨⟨by decide, by decide⟩, by omega, by omega⟩, umt, ?_⟩
          rw [um94, c1, ← hu.1.pl c2]
          refine sC_branches (d := d) hu.1 hu.2.1 hR hu.2.2.1 c2 c5 c3 (fun u1 hu1 f1 => ?_)
          have lu1 := lu.fr hu.1 f1
          obtain ⟨umt1, um941, ut111, ul111⟩ := sh u1 hu1.1
          refine ⟨by rw [umt1]; decide, by rw [um941, ut111, ul111]; exact ⟨⟨by decide, by decide⟩, by omega, by omega⟩, umt1, ?_⟩
          rw [um941, (lu1.2 b (g k) hb).1, ← hu1.1.pl b2]
          refine sC_branches (d := d) hu1.1 hu1.2.1 hR hu1.2.2.1 b2 b5 b3 (fun u2 hu2 f2 => ?_)
          have lu2 := lu1.fr hu1.1 f2
          have hh := hu.trans (hu1.trans hu2)
          have e92' : fI u2 92 M = wy := by rw [f92 hu1.1 hu2.2.2.2.1, f92 hu.1 hu1.2.2.2.1]; exact e92
          refine ⟨fun z => nx u2 0 hh lu2 e92' (fun _ => ?_) (fun q => absurd rfl q), fun z => nx u2 1 hh lu2 e92' (fun q => by cases q) (fun _ => ?_)⟩
          · rw [pk', if_neg (by omega)]
          · rw [pk', if_pos (by omega)]
    have self : MLK p wS w w τ f F ps rs rows P O ro ru M A := ⟨hW, hK, hA, Fr.refl _ _, rfl⟩
    by_cases w0 : wy = 0
    · have stay : ∀ k, k ≤ es.length → g k = e0 := by
        intro k
        induction k with
        | zero => intro _; exact g0
        | succ k ih =>
          intro hk
          obtain ⟨e, hk'⟩ : ∃ e, es[k]? = some e := ⟨_, List.getElem?_eq_getElem (by omega)⟩
          rw [gs k e hk', ih (by omega)]
          unfold pck
          rw [if_neg (by omega)]
      have e10 : e1 = e0 := by rw [← gN]; exact stay _ (Nat.le_refl _)
      exact out w 0 0 self hL (by rw [e10, hes]; rfl) hwy.1 (fun q => q.2 (by omega))
    · exact key es.length 0 (by omega) w 0 self hL hwy.1 (by rw [g0, hes]; rfl) (by omega)
end ZChosen
