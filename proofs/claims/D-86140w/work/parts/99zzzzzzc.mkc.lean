/-! the component's trees: a node is made -/
section ZMkc
variable {p b e d f F M n wy : Nat} {wS w : CW} {τ : TW} {rs rows : List (Nat × Nat)} {ps : List Pa} {P : Sp} {O : List (Pa × Int)} {ro : Nat × Nat → Nat} {ru : Nat → Nat}
theorem chs_z {x : Nat × Nat} : chs τ wy P (rws τ rs P) (ask τ P x) = none ↔ ask τ P x = [] := by
  cases ask τ P x with
  | nil => exact ⟨fun _ => rfl, fun _ => rfl⟩
  | cons a l => exact ⟨fun q => absurd q (by unfold chs; simp), fun q => absurd q (by simp)⟩
theorem chs_in {x : Nat × Nat} {e : Pa × Nat} (h : chs τ wy P (rws τ rs P) (ask τ P x) = some e) : e ∈ ask τ P x := by
  have key : ∀ (A : List (Pa × Nat)) (best : Pa × Nat), A.foldl (pck τ wy P (rws τ rs P)) best = best ∨ A.foldl (pck τ wy P (rws τ rs P)) best ∈ A := by
    intro A
    induction A with
    | nil => intro best; exact Or.inl rfl
    | cons a A ih =>
      intro best
      have hp : pck τ wy P (rws τ rs P) best a = a ∨ pck τ wy P (rws τ rs P) best a = best := by
        unfold pck
        split
        · exact Or.inl rfl
        · exact Or.inr rfl
      rw [List.foldl_cons]
      rcases ih (pck τ wy P (rws τ rs P) best a) with q | q
      · rcases hp with g | g
        · right; rw [q, g]; exact List.mem_cons_self ..
        · left; rw [q, g]
      · right; exact List.mem_cons_of_mem _ q
  cases hA : ask τ P x with
  | nil => rw [hA] at h; cases h
  | cons a A =>
    rw [hA] at h
    injection h with h
    rcases key A a with q | q
    · rw [← h, q]; exact List.mem_cons_self ..
    · rw [← h]; exact List.mem_cons_of_mem _ q
/-- what make asks of all that stands around -/
theorem sC_mknode {lim : Int} {m : Nat} (hwy : wy ≤ 3) (hsp : SPRs τ f rs) (hI : MKP p wS τ f F ps rs ro ru M wy lim (d + 6) m) {RA : Nat} (h : n ≤ 119 → ∀ v, Fr [M] w v → zm v = zm w → MW p wS v τ f F ps rs ro ru M → fI v 93 M = (n + 1 : Nat) → fI v 92 M = fI w 92 M → NCX p wS v τ f F ps rs rows ro ru M wy lim m n RA P O) (hW : MW p wS w τ f F ps rs ro ru M) (hK : KN p w τ f F M ps P O) (hA : ARW w RA rows ro) (h93 : fI w 93 M = n) (hn : n ≤ 120) (h92 : fI w 92 M = wy) (hmu : lim ≤ mu w ∧ lim ≤ 5 * mz w) (hlim : zm w + 11 ≤ lim) {Q : ZRes → CW → Prop} (hQ : ∀ v, Fr (MT M) w v → zm v = zm w → cz w ≤ cz v → (∀ q, q ≤ cz w → q ∉ MT M → ob v q = ob w q) → NCQ p wS v τ f F ps rs ro ru M wy m n P O (fun r w' => Q (.inl (some (ar r))) w') (fun x w' => Q (.inr x) w')) (hX : n = 120 → ∀ x w', MKX p (MT M) w w' 11 x → Q (.inr x) w') : pC_X18_make_48 p (wpC p (d + 7)) (fun v w => Q (.inl (some (ar v))) w) (fun x w => Q (.inr x) w) M RA (rows.length : Nat) w := by
  have W := hW.2.2.2.1
  have h6 := hW.2.2.2.2.2
  obtain ⟨⟨hMp, mt, m91, m94, -⟩, -⟩ := id hW.2.2.2.2.1
  have h93t : hF 93 (tg w M) = true := by rw [mt]; decide
  refine bC_X18_make_48 ⟨h93t, ?_⟩
  rw [h93]
  by_cases n120 : n = 120
  · refine br1 (by omega) ⟨room_n (k := 6) hmu (by omega), fa ?_⟩
    obtain ⟨F1, W1, z1, z2, z3⟩ := nO_f W 18 6
    obtain ⟨u1, hu1⟩ : ∃ u1, u1 = nO w 18 6 := ⟨_, rfl⟩
    have fr0 : ∀ g, fR u1 g (cz w + 1) = 0 := fun g => by rw [hu1, fR_nO, if_pos rfl]
    rw [← hu1] at F1 W1 z1 z2 z3 ⊢
    refine wC_X20_init (Nat.zero_le _) (bC_X20_init_0 ⟨by omega, sJ_excInit (d := d + 4) (by omega) (Or.inr z3) (fun g _ => fr0 g) ?_⟩)
    exact hX n120 _ u1 ⟨F1.mono (fun q hq => by cases hq), W1, z3, by omega⟩
  · refine br0 (by omega) ⟨h93t, fa ⟨h93t, by rw [mt]; decide, fa ?_⟩⟩
    rw [show w32 ((n : Int) + 1) = ((n + 1 : Nat) : Int) by rw [w32_s (by omega) (by omega)]; omega]
    obtain ⟨v, hv⟩ : ∃ v, v = pI w 93 M ((n + 1 : Nat) : Int) := ⟨_, rfl⟩
    rw [← hv]
    have fv : Fr [M] w v := by rw [hv]; exact (Fr.refl _ _).spI (Or.inl (by simp))
    have Wv : WF p v := by rw [hv]; exact W.spI _ _ _ (Or.inl (by decide))
    have mv : MW p wS v τ f F ps rs ro ru M := hW.st fv Wv (fun q hq => by rw [List.mem_singleton.mp hq]; exact Nat.le_refl _) (fun g => by rw [hv]; rfl) (fun g => by rw [hv]; rfl)
    have v93 : fI v 93 M = (n + 1 : Nat) := by rw [hv, fI_pI, if_pos ⟨rfl, rfl⟩]
    have v92 : fI v 92 M = fI w 92 M := by rw [hv, fI_pI, if_neg (by omega)]
    have zv : zm v = zm w := by rw [hv]; rfl
    have N := h (by omega) v fv zv mv v93 v92
    have cv : cz v = cz w := by rw [hv]; rfl
    have fvM : Fr (MT M) w v := fv.mono (fun q hq => Or.inl (by rw [List.mem_singleton.mp hq]; exact mem_MT.mpr (by omega)))
    have NQ := hQ v fvM zv (by omega) (fun q hq hn => fvM.2.2.2.2 q hq hn)
    obtain ⟨hWv, hKv, hOl, hAv, ⟨hR, hg, hrw, hPs⟩, ⟨k92, k93, kn, km2⟩, kmu, klim⟩ := id N
    have lr40 := hR.1
    by_cases rz : rows.length = 0
    · have rnil : rows = [] := List.eq_nil_of_length_eq_zero rz
      have e1 : ndE τ rs P = none := by unfold ndE; rw [← hrw, rnil]; rfl
      have ec := chd_none (wy := wy) e1
      have et : tsz τ rs wy (m + 1) P = 1 := by rw [tsz_s, ec]; rfl
      refine br1 (by omega) ⟨room_n (k := 2) kmu (by omega), fa ?_⟩
      obtain ⟨F1, W1, z1, z2, z3⟩ := nO_f Wv 19 2
      obtain ⟨r, hr⟩ : ∃ r, r = cz v + 1 := ⟨_, rfl⟩
      obtain ⟨u1, hu1⟩ : ∃ u1, u1 = nO v 19 2 := ⟨_, rfl⟩
      rw [← hu1] at F1 W1 z1 z2 z3
      rw [← hr] at z1 z3
      rw [← hu1, ← hr]
      have hmu1 : lim ≤ mu u1 ∧ lim ≤ 5 * mz u1 := by rw [F1.emu, F1.emz]; exact kmu
      have pr : p ≠ r := by omega
      refine wC_X22_init (Nat.zero_le _) (bC_X22_init_0 ⟨by omega, sC_ninit (d := d + 5) (by omega) W1 (room_n (k := 0) hmu1 (by omega)) ?_⟩)
      obtain ⟨q1, q2, q3, q4, q5, q6, q7, q8, q9⟩ := ndW_f (n := n) W1 (x := r) (by omega) pr
      obtain ⟨u2, hu2⟩ : ∃ u2, u2 = ndW u1 r n := ⟨_, rfl⟩
      show Q (.inl (some (ar r))) (ndW u1 r n)
      rw [← hu2] at q1 q2 q3 q4 q5 q6 q7 q8 q9 ⊢
      have F0 : Fr [] v u2 := F1.trans' q1 (fun q hq => by rw [List.mem_singleton.mp hq]; right; omega)
      have m0 : MW p wS u2 τ f F ps rs ro ru M := hWv.sa F0 q2 (fun q hq => by cases hq)
      have k0 : KN p u2 τ f F M ps P O := hKv.sa hWv F0 m0 (fun q hq => by cases hq)
      have oM : ob u2 M = ob v M := F0.2.2.2.2 M (by omega) (by simp)
      refine NQ.1 r u2 (by rw [et]; omega) m0 k0 (F0.mono (fun q hq => by cases hq)) ⟨by rw [ob.efI oM]; exact k92, by rw [ob.efI oM, k93, et]⟩ (by rw [et]; omega) ⟨⟨by omega, by rw [q3, z3]; decide, q4⟩, ⟨by rw [q5]; exact q6.1, by rw [q5, ec]; exact q6.2, by rw [q5]; omega⟩, fun q => by omega, ⟨fun _ => by rw [q3, z3], fun x' hx' => absurd hx' (by rw [e1]; simp)⟩, fun i y hi => ?_⟩
      rw [ec] at hi
      simp at hi
    · obtain ⟨x, hx⟩ : ∃ x, ndE τ rs P = some x := by
        unfold ndE
        rw [← hrw]
        cases rows with
        | nil => exact absurd rfl rz
        | cons y l => exact ⟨y, rfl⟩
      obtain ⟨x1, x2, x3⟩ := N.first hx
      have ax : aR v RA 0 = ro x := hAv.2.2 0 x x1
      have rt := (hWv.t.row x2).1
      have vM := hWv.2.2.2.2.1.1
      refine br0 (by omega) ⟨by rw [hAv.1]; exact ⟨⟨by decide, by decide⟩, by omega, by have := hAv.2.1; omega⟩, by rw [vM.2.1]; decide, by rw [vM.2.1]; decide, by rw [ax]; exact rt, ?_⟩
      rw [ax, vM.2.2.1, vM.2.2.2.1]
      refine sC_asked (d := d + 4) hWv hKv x2 (hR.2 x x3).2 (fun u mu' ku fu zu au al => ?_)
      have h6v := hWv.2.2.2.2.2
      have a11 : ARW u RA rows ro := hAv.fr (p := p) Wv fu (fun q hq => by rw [List.mem_singleton.mp hq]; exact hWv.2.2.2.2.1.ne (Or.inl rfl) _ (mem_MT.mpr (by omega)))
      have fuM : Fr (MT M) v u := fu.mono (fun q hq => Or.inl (by rw [List.mem_singleton.mp hq]; exact mem_MT.mpr (by omega)))
      -- all as it was, in the worlds that follow
      have nx : ∀ u', MW p wS u' τ f F ps rs ro ru M → KN p u' τ f F M ps P O → ARW u' RA rows ro → Fr [M + 1, M + 2, M + 11] v u' → zm u' = zm v → NCX p wS u' τ f F ps rs rows ro ru M wy lim m n RA P O ∧ NCQ p wS u' τ f F ps rs ro ru M wy m n P O (fun r w' => Q (.inl (some (ar r))) w') (fun x w' => Q (.inr x) w') := fun u' g1 g2 g3 g4 g5 => by
        have oM := g4.2.2.2.2 M (by omega) (by simp)
        refine ⟨⟨g1, g2, hOl, g3, ⟨hR, hg, hrw, hPs⟩, ⟨by rw [ob.efI oM]; exact k92, by rw [ob.efI oM]; exact k93, kn, km2⟩, by rw [g4.emu, g4.emz]; exact kmu, by omega⟩, ?_⟩
        exact hQ u' (fvM.trans (g4.mono (fun q hq => Or.inl (MT_1 hq)))) (by omega) (by have := g4.1; omega) (fun q hq hn => by
          rw [g4.2.2.2.2 q (by omega) (fun z => hn (MT_1 z)), fvM.2.2.2.2 q hq hn])
      have tM : tg u M = 16 := mu'.2.2.2.2.1.1.2.1
      by_cases ez : ask τ P x = []
      · have c0 : chs τ wy P (rws τ rs P) (ask τ P x) = none := chs_z.mpr ez
        obtain ⟨N1, N2⟩ := nx u mu' ku a11 (fu.mono (fun q hq => Or.inl (by rw [List.mem_singleton.mp hq]; simp))) zu
        refine ⟨fun _ => ⟨tM, ?_⟩, fun q => absurd (by rw [ez]; rfl) q⟩
        have := sC_ends (d := d) hI N1 hx c0 N2
        exact this
      · obtain ⟨e, he⟩ : ∃ e, chs τ wy P (rws τ rs P) (ask τ P x) = some e := by
          cases hc : chs τ wy P (rws τ rs P) (ask τ P x) with
          | none => exact absurd (chs_z.mp hc) ez
          | some e => exact ⟨e, rfl⟩
        have askf : ∀ e, e ∈ ask τ P x → e.1 ∈ ps ∧ lkp P e.1 = none ∧ tA τ 18 e.2 = srP τ f e.1 ∧ 0 ≤ srP τ f e.1 ∧ srP τ f e.1 < 3 + nK τ := fun e' he' => by
          obtain ⟨g1, g2, -⟩ := mem_fil.mp he'
          obtain ⟨-, -, -, -, r5, -⟩ := hWv.1.2.2.2.1 x x2
          obtain ⟨i, hi⟩ := List.getElem?_of_mem g1
          exact ⟨(r5 i e' hi).1, stn_0.mp g2, (hWv.1.2.2.1.t x2 g1).2.2.2.1, hsp x x2 e' g1⟩
        have AK : AKD τ f wS u F M ps P (ask τ P x) := ⟨al, fun i e' hi => by
          obtain ⟨g1, g2, g3, g4⟩ := askf e' (List.mem_of_getElem? hi)
          exact ⟨au i e' hi, g1, g2, g3, g4⟩⟩
        obtain ⟨g1, g2, g3, sp⟩ := askf e (chs_in he)
        have u92 : fI u 92 M = wy := by
          have oM := fu.2.2.2.2 M (by omega) (by simp)
          rw [ob.efI oM]; exact k92
        have al0 : (ask τ P x).length ≠ 0 := fun q => ez (List.eq_nil_of_length_eq_zero q)
        have hps : ps.length ≤ 900 := hWv.1.2.1.2.2.2.1
        refine ⟨fun q => absurd q (by omega), fun _ => ⟨tM, ?_⟩⟩
        refine sC_chosen (d := d + 1) mu' ku hR a11 ⟨u92, hwy⟩ AK (by rw [hrw]; exact he) (fun u2 hm2 => ?_)
        obtain ⟨q1, q2, q3, q4, q5⟩ := hm2
        obtain ⟨N1, N2⟩ := nx u2 q1 q2 q3 ((fu.mono (fun q hq => Or.inl (by rw [List.mem_singleton.mp hq]; simp))).trans q4) (by omega)
        have t2 : tg u2 M = 16 := q1.2.2.2.2.1.1.2.1
        obtain ⟨-, -, -, ⟨d1, -, d3, kk, jj, pp, -, -, -, -, -, -, d88⟩⟩ := q1.t.2.1.at g1
        rw [q1.pl g1] at d1 d88
        have h88 : hF 88 (tg u2 (plo wS F ps e.1)) = true := by rw [d1]; decide
        refine ⟨h88, ?_⟩
        rw [d88]
        by_cases s3 : srP τ f e.1 < 3
        · refine br1 s3 ⟨h88, ?_⟩
          by_cases s1 : srP τ f e.1 = 1
          · refine br1 s1 ⟨t2, ?_⟩
            have := sC_byTruth (d := d) hI N1 hx he g3 g2 g1 s1 N2
            exact this
          · refine br0 s1 ⟨h88, ?_⟩
            by_cases s2 : srP τ f e.1 = 2
            · refine br1 s2 ⟨t2, ?_⟩
              have := sC_byText (d := d) hI N1 hx he g3 g2 g1 s2 N2
              exact this
            · refine br0 s2 ⟨t2, ?_⟩
              have := sC_byWhole (d := d) hI N1 hx he g3 g2 g1 (by omega) N2
              exact this
        · refine br0 s3 ⟨t2, ?_⟩
          have := sC_byKind (d := d) hI N1 hx he g3 g2 g1 ⟨by omega, sp.2⟩ N2
          exact this
theorem sC_mkTree {lim : Int} (hwy : wy ≤ 3) (hsp : SPRs τ f rs) : ∀ m, MKP p wS τ f F ps rs ro ru M wy lim (d + 2 * m + 6) m := by
  intro m
  induction m with
  | zero =>
    intro P O n A l w Q _ _ _ _ _ _ _ _ _ _ h1 h2
    omega
  | succ m ih =>
    intro P O n A l w Q hW hK hO hA hR hg hf hP h92 h93 hn hm2 hmu hlim hQ hX
    have W := hW.2.2.2.1
    have lr40 := hR.1
    have h6 := hW.2.2.2.2.2
    obtain ⟨m0, mt, m91, -⟩ := id hW.2.2.2.2.1.1
    show wpC p (d + 2 * m + 7 + 1) 133 [ar M, ar A, ai (l.length : Nat)] w Q
    refine wC_X18_make (Nat.zero_le _) (bC_X18_make_0 ?_)
    rw [Int.toNat_natCast]
    refine ⟨⟨⟨by omega, by omega⟩, room_n (k := l.length) hmu (by omega)⟩, fa ?_⟩
    obtain ⟨RA, hRA⟩ : ∃ RA, RA = cz w + 1 := ⟨_, rfl⟩
    obtain ⟨w1, hw1⟩ : ∃ w1, w1 = nA w 116 l.length := ⟨_, rfl⟩
    rw [← hw1, ← hRA]
    have f1 : Fr [] w w1 := by rw [hw1]; exact (Fr.refl _ _).snA
    have W1 : WF p w1 := by rw [hw1]; exact W.snA _ _
    have t1 : tg w1 RA = 116 ∧ ln w1 RA = l.length ∧ cz w1 = RA := by
      rw [hw1, hRA]
      exact ⟨by rw [tg_nA, if_pos rfl], by rw [ln_nA, if_pos rfl], rfl⟩
    have z1 : zm w1 = zm w + l.length + 5 := by
      rw [hw1]
      show ((cu w + l.length : Nat) : Int) + 5 * ((cz w + 1 : Nat) : Int) = ((cu w : Nat) : Int) + 5 * ((cz w : Nat) : Int) + _ + 5
      omega
    refine bC_X18_make_11 ?_
    intro I hI2
    have key : ∀ t k : Nat, t + k = l.length → ∀ u, Fr [RA] w1 u → MW p wS u τ f F ps rs ro ru M → KN p u τ f F M ps P O → cz u = cz w1 ∧ zm u = zm w1 → (∀ (i : Nat) y, (fil (liv τ P) (l.take k))[i]? = some y → aR u RA (i : Nat) = ro y) → I ((fil (liv τ P) (l.take k)).length : Nat) (k : Int) u := by
      intro t
      induction t with
      | zero =>
        intro k hk u fu mu' ku su hu
        have ek : l.take k = l := List.take_of_length_le (by omega)
        rw [ek, hf] at hu ⊢
        obtain ⟨rows, hrows⟩ : ∃ rows, rows = rws τ rs P := ⟨_, rfl⟩
        rw [← hrows] at hu ⊢
        have rl : ∀ y, y ∈ rows → y ∈ l := fun y hy => by
          rw [hrows, ← hf] at hy
          exact (mem_fil.mp hy).1
        have rll : rows.length ≤ l.length := by rw [hrows, ← hf]; exact fil_len _
        have F0 : Fr [] w u := f1.trans' fu (fun q hq => by rw [List.mem_singleton.mp hq]; right; omega)
        have oM := F0.2.2.2.2 M (by omega) (by simp)
        have aR0 : ARW u RA rows ro := ⟨by rw [(fu.2.2.2.1 RA (by omega)).1]; exact t1.1, by rw [(fu.2.2.2.1 RA (by omega)).2, t1.2.1]; exact rll, hu⟩
        have RW' : RWS τ rs rows P O := ⟨by omega, fun y hy => hR.2 y (rl y hy)⟩
        have hmu' : lim ≤ mu u ∧ lim ≤ 5 * mz u := by rw [F0.emu, F0.emz]; exact hmu
        have zz : zm u ≤ zm w + 45 := by omega
        have Fup : ∀ {v : CW}, Fr (MT M) u v → Fr (MT M) w v := fun hv => (F0.mono (T' := MT M) (fun q hq => by cases hq)).trans hv
        have n120 : n = 120 → 120 < n + tsz τ rs wy (m + 1) P := fun q => by
          have := tsz_pos (τ := τ) (rs := rs) (wy := wy) (m := m) (P := P)
          omega
        refine hI2 _ _ _ (br1 (by omega) ?_)
        refine sC_mknode (d := d + 2 * m) (m := m) (RA := RA) (n := n) hwy hsp ih (fun n119 v fv zv mv v93 v92 => ?_) mu' ku aR0 (by rw [ob.efI oM]; exact h93) hn (by rw [ob.efI oM]; exact h92) hmu' (by omega) (fun v fv zv cv ov => ⟨?_, ?_⟩) (fun q x w' hx' => ?_)
        · refine ⟨mv, ?_, hO, aR0.fr (p := p) mu'.2.2.2.1 fv (fun q hq => by rw [List.mem_singleton.mp hq, mu'.2.2.2.2.1.1.2.1]; decide), ⟨RW', fun y hy => hg y (rl y hy), hrows, hP⟩, ⟨by rw [v92, ob.efI oM]; exact h92, v93, by omega, by omega⟩, by rw [fv.emu, fv.emz]; exact hmu', by omega⟩
          exact ku.sa mu' fv mv (fun q hq => by rw [List.mem_singleton.mp hq]; left; omega)
        · intro r w' hle g1 g2 g3 g4 g5 g6
          refine hQ r w' hle ⟨g1, g2, Fup (fv.trans g3), g4, ?_, CTn.lo (by have := F0.1; omega) _ _ _ _ g6, by omega⟩
          have := tsz_pos (τ := τ) (rs := rs) (wy := wy) (m := m) (P := P)
          omega
        · intro x w' hgt hx'
          exact hX x w' hgt ⟨Fup (fv.trans hx'.1), hx'.2.1, hx'.2.2.1, by have := hx'.2.2.2; omega⟩
        · exact hX x w' (n120 q) ⟨Fup hx'.1, hx'.2.1, hx'.2.2.1, by have := hx'.2.2.2; omega⟩
      | succ t ih2 =>
        intro k hk u fu mu' ku su hu
        obtain ⟨y, hy⟩ : ∃ y, l[k]? = some y := ⟨_, List.getElem?_eq_getElem (by omega)⟩
        have hyl := List.mem_of_getElem? hy
        have F0 : Fr [] w u := f1.trans' fu (fun q hq => by rw [List.mem_singleton.mp hq]; right; omega)
        have aA : ARW u A l ro := hA.fr (p := p) W F0 (fun q hq => by cases hq)
        have ay := aA.2.2 k y hy
        obtain ⟨y1, y2⟩ := hR.2 y hyl
        have yt := (mu'.t.row y1).1
        have uM := mu'.2.2.2.2.1.1
        obtain ⟨g1, g0'⟩ := fil_snoc (c := liv τ P) hy
        have fll : (fil (liv τ P) (l.take k)).length ≤ k := Nat.le_trans (fil_len _) (by rw [List.length_take]; omega)
        have tO : tg u RA = 116 ∧ ln u RA = l.length := by
          rw [(fu.2.2.2.1 RA (by omega)).1, (fu.2.2.2.1 RA (by omega)).2]
          exact ⟨t1.1, t1.2.1⟩
        refine hI2 _ _ _ (br0 (by omega) ⟨by rw [aA.1]; exact ⟨⟨by decide, by decide⟩, by omega, by have := aA.2.1; omega⟩, by rw [uM.2.1]; decide, by rw [ay]; exact yt, ?_⟩)
        rw [ay, uM.2.2.1]
        refine sC_risOut (d := d + 2 * m + 4) mu'.t mu'.2.2.2.2.1 ku y1 y2 ⟨fun z => br1 rfl ⟨by rw [aA.1]; exact ⟨⟨by decide, by decide⟩, by omega, by have := aA.2.1; omega⟩, by rw [tO.1, tO.2]; exact ⟨⟨by decide, by decide⟩, by omega, by omega⟩, Or.inr (by rw [ay, yt, tO.1]; rfl), fa (fa (bC_X18_make_42 (call := wpC p (d + 2 * m + 7)) (fa ?_)))⟩, fun z => br0 (by decide) (bC_X18_make_42 (call := wpC p (d + 2 * m + 7)) (fa ?_))⟩
        · rw [ay, w32_s (by omega) (by omega), w32_s (by omega) (by omega)]
          have cy : liv τ P y := ⟨hg y hyl, z⟩
          obtain ⟨u', hu'⟩ : ∃ u', u' = qR u RA ((fil (liv τ P) (l.take k)).length : Nat) (ro y) := ⟨_, rfl⟩
          rw [← hu']
          have fq : Fr [RA] u u' := by rw [hu']; exact (Fr.refl _ _).sqR (Or.inl (by simp))
          have mq : MW p wS u' τ f F ps rs ro ru M := mu'.sa fq (by rw [hu']; exact mu'.2.2.2.1.sqR _ _ _) (fun q hq => by rw [List.mem_singleton.mp hq]; omega)
          have := ih2 (k + 1) (by omega) u' (fu.trans fq) mq (ku.sa mu' fq mq (fun q hq => by rw [List.mem_singleton.mp hq]; right; omega)) (by rw [hu']; exact su) (fun i y' hi => ?_)
          · rw [g1 cy] at this
            exact this
          · rw [fil_take hy, fil_cons_1 cy, fil_nil] at hi
            rw [hu', aR_qR]
            rcases get_app hi with ⟨i1, i2⟩ | ⟨i1, i2⟩
            · rw [if_neg (by omega)]
              exact hu i y' i2
            · rw [if_pos ⟨rfl, by omega⟩, i2]
        · rw [w32_s (by omega) (by omega)]
          obtain ⟨e, he1, he2⟩ := z
          have ef := g0' (fun q => q.2 e he1 he2)
          have := ih2 (k + 1) (by omega) u fu mu' ku su (by rw [ef]; exact hu)
          rw [ef] at this
          exact this
    have m1 : MW p wS w1 τ f F ps rs ro ru M := hW.sa f1 W1 (fun q hq => by cases hq)
    have := key l.length 0 (by omega) w1 (Fr.refl _ _) m1 (hK.sa hW f1 m1 (fun q hq => by cases hq)) ⟨rfl, rfl⟩ (fun i y hi => by simp [fil] at hi)
    exact this
end ZMkc
