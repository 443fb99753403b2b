/-! the component's trees: nodes' objects, rows of leaves, texts, borders -/
section ZNode
variable {p b e d f F M n : Nat} {wS w : CW} {τ : TW} {rs rows : List (Nat × Nat)} {ps : List Pa} {P : Sp} {O : List (Pa × Int)} {ro : Nat × Nat → Nat} {ru : Nat → Nat}
theorem room_n {lim : Int} {k : Nat} (hm : lim ≤ mu w ∧ lim ≤ 5 * mz w) (h : zm w + k + 5 ≤ lim) : cz w + 1 ≤ mz w ∧ cu w + k ≤ mu w := by
  unfold zm at h
  omega
/-- a node's object, its number told -/
def ndW (w : CW) (x n : Nat) : CW := pI (pR (nA w 113 0) 107 x (cz w + 1)) 106 x n
theorem sC_ninit {x : Nat} (hx : 19 ≤ tg w x ∧ tg w x ≤ 25) (W : WF p w) (hm : cz w + 1 ≤ mz w ∧ cu w + 0 ≤ mu w) {Q : ZRes → CW → Prop} (hQ : Q (.inl none) (ndW w x n)) : wpC p (d + 1) 152 [ar x, ai (n : Nat)] w Q := by
  have xz : x ≤ cz w := W.le (by omega)
  have x0 : x ≠ 0 := fun q => by have := W.1; rw [q] at hx; omega
  have t1 : ∀ t : Nat, (19 ≤ t ∧ t ≤ 25) → hP 107 t = true ∧ hP 106 t = true := by
    intro t ht
    rcases (by omega : t = 19 ∨ t = 20 ∨ t = 21 ∨ t = 22 ∨ t = 23 ∨ t = 24 ∨ t = 25) with q | q | q | q | q | q | q <;> rw [q] <;> decide
  have tn : tg (nA w 113 0) x = tg w x := by rw [tg_nA, if_neg (by omega)]
  refine wC_X21_init (Nat.zero_le _) (bC_X21_init_0 ⟨x0, ⟨⟨by decide, by decide⟩, hm⟩, fa ⟨?_, fa ⟨?_, fa ?_⟩⟩⟩)
  · show hP 107 (tg (nA w 113 0) x) = true
    rw [tn]
    exact (t1 _ hx).1
  · show hP 106 (tg (nA w 113 0) x) = true
    rw [tn]
    exact (t1 _ hx).2
  · exact hQ
theorem ndW_f {x : Nat} (W : WF p w) (hx : x ≤ cz w) (hp : p ≠ x) : Fr [x] w (ndW w x n) ∧ WF p (ndW w x n) ∧ tg (ndW w x n) x = tg w x ∧ fI (ndW w x n) 106 x = n ∧ fR (ndW w x n) 107 x = cz w + 1 ∧ (tg (ndW w x n) (cz w + 1) = 113 ∧ ln (ndW w x n) (cz w + 1) = 0) ∧ cz (ndW w x n) = cz w + 1 ∧ zm (ndW w x n) = zm w + 5 ∧ ∀ g, g ≠ 107 → fR (ndW w x n) g x = fR w g x := by
  refine ⟨?_, ?_, ?_, ?_, ?_, ⟨?_, ?_⟩, rfl, ?_, fun g hg => ?_⟩
  · exact (((Fr.refl _ _).snA).spR (Or.inl (by simp))).spI (Or.inl (by simp))
  · exact ((W.snA _ _).spR _ _ _).spI _ _ _ (Or.inl (by decide))
  · show tg (nA w 113 0) x = tg w x
    rw [tg_nA, if_neg (by omega)]
  · unfold ndW
    rw [fI_pI, if_pos ⟨rfl, rfl⟩]
  · unfold ndW
    rw [fR_pI, fR_pR, if_pos ⟨rfl, rfl⟩]
  · show tg (nA w 113 0) (cz w + 1) = 113
    rw [tg_nA, if_pos rfl]
  · show ln (nA w 113 0) (cz w + 1) = 0
    rw [ln_nA, if_pos rfl]
  · show ((cu w + 0 : Nat) : Int) + 5 * ((cz w + 1 : Nat) : Int) = ((cu w : Nat) : Int) + 5 * ((cz w : Nat) : Int) + 5
    omega
  · unfold ndW
    rw [fR_pI, fR_pR, if_neg (fun q => hg q.1), fR_nA]
/-- a row of leaves -/
def LVA (p : Nat) (wS w : CW) (r : Nat) (L : List Nat) : Prop := tg w r = 112 ∧ ln w r = L.length ∧ ∀ (i k : Nat), L[i]? = some k → aR w r (i : Nat) = kd wS p k
/-- a row of numbers of a tag -/
def NUA (w : CW) (r t : Nat) (L : List Int) : Prop := tg w r = t ∧ ln w r = L.length ∧ ∀ (i : Nat) v, L[i]? = some v → aI w r (i : Nat) = v
theorem sC_leaves (hW : MW p wS w τ f F ps rs ro ru M) {o : Nat} (ho : o < nK τ) {lim : Int} (hm : lim ≤ mu w ∧ lim ≤ 5 * mz w) (hlim : zm w + 29 ≤ lim) {Q : ZRes → CW → Prop} (hQ : ∀ w', Fr [] w w' → MW p wS w' τ f F ps rs ro ru M → cz w < cz w' → zm w' ≤ zm w + 29 → LVA p wS w' (cz w + 1) (lvs τ (o : Nat)) → Q (.inl (some (ar (cz w + 1)))) w') : wpC p (d + 3) 143 [ar M, ai (3 + (o : Int))] w Q := by
  have n24 : nK τ ≤ 24 := hW.1.2.2.1.1.2.2.1
  have ll : (lvs τ (o : Nat)).length ≤ 24 := Nat.le_trans (lvK_len (τ := τ) (o : Nat) (nK τ)) n24
  obtain ⟨m0, mt, -, -, -, -, m97⟩ := id hW.2.2.2.2.1.1
  refine wC_X18_leaves (Nat.zero_le _) (bC_X18_leaves_0 ⟨mt, sC_leafMany (d := d) hW ho ?_⟩)
  have rm := room_n (k := (lvs τ (o : Nat)).length) hm (by omega)
  refine ⟨⟨⟨by omega, by omega⟩, rm.1, by rw [Int.toNat_natCast]; exact rm.2⟩, fa ?_⟩
  rw [Int.toNat_natCast]
  obtain ⟨v, hv⟩ : ∃ v, v = nA w 112 (lvs τ (o : Nat)).length := ⟨_, rfl⟩
  obtain ⟨r, hr⟩ : ∃ r, r = cz w + 1 := ⟨_, rfl⟩
  rw [← hv, ← hr]
  rw [← hr] at hQ
  have fv : Fr [] w v := by rw [hv]; exact (Fr.refl _ _).snA
  have Wv : WF p v := by rw [hv]; exact hW.2.2.2.1.snA _ _
  have mv : MW p wS v τ f F ps rs ro ru M := hW.sa fv Wv (fun r hr => by cases hr)
  have tv : tg v r = 112 ∧ ln v r = (lvs τ (o : Nat)).length ∧ cz v = r := by
    rw [hv, hr]
    exact ⟨by rw [tg_nA, if_pos rfl], by rw [ln_nA, if_pos rfl], rfl⟩
  have zv : zm v = zm w + (lvs τ (o : Nat)).length + 5 := by
    rw [hv]
    show ((cu w + (lvs τ (o : Nat)).length : Nat) : Int) + 5 * ((cz w + 1 : Nat) : Int) = ((cu w : Nat) : Int) + 5 * ((cz w : Nat) : Int) + _ + 5
    omega
  have h6 := hW.2.2.2.2.2
  refine bC_X18_leaves_14 ?_
  intro I hI
  have key : ∀ m k : Nat, m + k = nK τ → ∀ u, Fr [r] v u → MW p wS u τ f F ps rs ro ru M → cz u = cz v → zm u = zm v → (∀ (i kk : Nat), (lvK τ (o : Nat) k)[i]? = some kk → aR u r (i : Nat) = kd wS p kk) → I ((lvK τ o k).length : Nat) (k : Int) u := by
    intro m
    induction m with
    | zero =>
      intro k hk u fu hu cu' zu h
      have hS := hu.t
      obtain ⟨⟨W, K, -⟩, -⟩ := id hS
      obtain ⟨m0, umt, -, -, -, -, um97⟩ := id hu.2.2.2.2.1.1
      have k5 := K.2.1
      have k6 := K.2.2.1
      change fI u 1 p = tI τ 10 at k5
      have en : fI u 1 p = (nK τ : Nat) := by rw [k5]; unfold nK; change tI τ 10 = ((tI τ 10).toNat : Int); have : 0 ≤ tI τ 10 := k6; omega
      rw [show k = nK τ by omega] at h ⊢
      refine hI _ _ _ ⟨by rw [umt]; decide, by rw [um97, W.2.1]; decide, br1 (by rw [um97, en]; omega) (bC_X18_leaves_88 (call := wpC p (d + 2)) (hQ u ?_ hu ?_ ?_ ⟨?_, ?_, h⟩))⟩
      · exact fv.trans' fu (fun q hq => by rw [List.mem_singleton.mp hq]; right; omega)
      · omega
      · omega
      · rw [(fu.2.2.2.1 r (by omega)).1]; exact tv.1
      · rw [(fu.2.2.2.1 r (by omega)).2]; exact tv.2.1
    | succ m ih =>
      intro k hk u fu hu cu' zu h
      have hS := hu.t
      obtain ⟨⟨W, K, -⟩, -⟩ := id hS
      obtain ⟨m0, umt, -, -, -, -, um97⟩ := id hu.2.2.2.2.1.1
      obtain ⟨⟨k1, k2, k3, k4⟩, k5, k6, k7, k8, -, k9, -⟩ := id K
      change tg u (fR u 0 p) = 112 at k1
      change ln u (fR u 0 p) = 24 at k2
      change fR u 0 p ≤ p + 8 ∧ p + 8 ≤ cz u at k4
      change fI u 1 p = tI τ 10 at k5
      have en : fI u 1 p = (nK τ : Nat) := by rw [k5]; unfold nK; change tI τ 10 = ((tI τ 10).toNat : Int); have : 0 ≤ tI τ 10 := k6; omega
      have tp := W.2.1
      have hkl : k < nK τ := by omega
      obtain ⟨q1, q2, -⟩ := k8 k hkl
      have q9 := k9 k hkl
      change fI u 40 (kd u p k) = slN τ k (nK τ) at q9
      have kk : kd u p k = aR u (fR u 0 p) (k : Nat) := rfl
      have hll := lvK_len (τ := τ) (o : Nat) k
      obtain ⟨g1, g0⟩ := lvK_s (τ := τ) (o : Nat) k
      have ur : tg u r = 112 ∧ ln u r = (lvs τ (o : Nat)).length := ⟨by rw [(fu.2.2.2.1 r (by omega)).1]; exact tv.1, by rw [(fu.2.2.2.1 r (by omega)).2]; exact tv.2.1⟩
      have no : ¬ (slN τ (k : Nat) (nK τ) = 0 ∧ ofT τ (k : Nat) (o : Nat)) → pC_X18_leaves_82 p (wpC p (d + 2)) (fun v w => Q (.inl (some (ar v))) w) I M (3 + (o : Int)) r ((lvK τ o k).length : Nat) (k : Int) u := fun z => by
        refine bC_X18_leaves_82 (fa ?_)
        rw [w32_s (by omega) (by omega)]
        have := ih (k + 1) (by omega) u fu hu cu' zu (by rw [g0 z]; exact h)
        rw [g0 z] at this
        exact this
      refine hI _ _ _ ⟨by rw [umt]; decide, by rw [um97, tp]; decide, br0 (by rw [um97, en]; omega) ⟨by rw [umt]; decide, by rw [um97, tp]; decide, by rw [um97, k1, k2]; exact ⟨⟨by decide, by decide⟩, by omega, by omega⟩, by rw [um97, ← kk, q1]; decide, ?_⟩⟩
      rw [um97, ← kk, q9]
      refine ⟨fun z => ⟨by rw [umt]; decide, by rw [tp]; decide, by rw [k1, k2]; exact ⟨⟨by decide, by decide⟩, by omega, by omega⟩, by rw [umt]; decide, tp, ?_⟩, fun z => no (fun q => z q.1)⟩
      refine sC_kindOf (d := d + 1) K rfl ho ⟨q1, sC_is (d := d + 1) K W hkl ho ?_⟩
      by_cases hs : ofT τ (k : Nat) (o : Nat)
      · rw [ofB_1 hs]
        have lt : (lvK τ (o : Nat) k).length < (lvs τ (o : Nat)).length := by
          have e1 : lvs τ (o : Nat) = lvK τ (o : Nat) (nK τ) := rfl
          have mono : ∀ j, (lvK τ (o : Nat) (k + 1)).length ≤ (lvK τ (o : Nat) (k + 1 + j)).length := by
            intro j
            induction j with
            | zero => exact Nat.le_refl _
            | succ j ih =>
              obtain ⟨y1, y0⟩ := lvK_s (τ := τ) (o : Nat) (k + 1 + j)
              show _ ≤ (lvK τ (o : Nat) (k + 1 + j + 1)).length
              by_cases y : slN τ ((k + 1 + j : Nat) : Int) (nK τ) = 0 ∧ ofT τ ((k + 1 + j : Nat) : Int) (o : Nat)
              · rw [y1 y, List.length_append]; omega
              · rw [y0 y]; exact ih
          have := mono (nK τ - (k + 1))
          rw [show k + 1 + (nK τ - (k + 1)) = nK τ by omega, g1 ⟨z, hs⟩, List.length_append, ← e1] at this
          exact this
        refine br0 (by decide) ⟨by rw [umt]; decide, by rw [um97, tp]; decide, by rw [um97, k1, k2]; exact ⟨⟨by decide, by decide⟩, by omega, by omega⟩, by rw [ur.1, ur.2]; exact ⟨⟨by decide, by decide⟩, by omega, by omega⟩, ?_, fa (fa (bC_X18_leaves_82 (fa ?_)))⟩
        · right
          rw [um97, ur.1]
          show zst 112 (tg u (kd u p k)) = true
          rw [q1]
          rfl
        · rw [um97, ← kk, w32_s (by omega) (by omega), w32_s (by omega) (by omega)]
          obtain ⟨v', hv'⟩ : ∃ v', v' = qR u r ((lvK τ (o : Nat) k).length : Nat) (kd u p k) := ⟨_, rfl⟩
          rw [← hv']
          have fv' : Fr [r] u v' := by rw [hv']; exact (Fr.refl _ _).sqR (Or.inl (by simp))
          have Wv' : WF p v' := by rw [hv']; exact W.sqR _ _ _
          have mv' : MW p wS v' τ f F ps rs ro ru M := hu.sa fv' Wv' (fun q hq => by rw [List.mem_singleton.mp hq]; omega)
          have := ih (k + 1) (by omega) v' (fu.trans fv') mv' (by rw [← cu', hv']; rfl) (by rw [← zu, hv']; rfl) (fun i kk' hi => ?_)
          · rw [g1 ⟨z, hs⟩, List.length_append] at this
            exact this
          · rw [g1 ⟨z, hs⟩] at hi
            rw [hv', aR_qR]
            rcases get_app hi with ⟨i1, i2⟩ | ⟨i1, i2⟩
            · rw [if_neg (by omega)]
              exact h i kk' i2
            · rw [if_pos ⟨rfl, by omega⟩, i2]
              exact hu.kd k
      · rw [ofB_0 hs]
        exact br1 rfl (no (fun q => hs q.2))
  exact key (nK τ) 0 (by omega) v (Fr.refl _ _) mv rfl rfl (fun i kk hi => by simp [lvK, fil] at hi)
/-- a maker's row is copied -/
theorem sC_texts (hW : MW p wS w τ f F ps rs ro ru M) (hK : KN p w τ f F M ps P O) (hR : RWS τ rs rows P O) {A : Nat} (hA : ARW w A rows ro) {π : Pa} (hp : π ∈ ps) (h2 : srP τ f π = 2) {lim : Int} (hm : lim ≤ mu w ∧ lim ≤ 5 * mz w) (hlim : zm w + 45 ≤ lim) {Q : ZRes → CW → Prop} (hQ : ∀ w', MW p wS w' τ f F ps rs ro ru M → KN p w' τ f F M ps P O → ARW w' A rows ro → Fr [M + 1, M + 2, M + 11] w w' → cz w < cz w' → zm w' ≤ zm w + 45 → NUA w' (cz w + 1) 103 (txs τ P rows π) → (txs τ P rows π).length ≤ 40 → Q (.inl (some (ar (cz w + 1)))) w') : wpC p (d + 5) 146 [ar M, ar A, ai (rows.length : Nat), ar (plo w F ps π)] w Q := by
  obtain ⟨m0, mt, -, -, -, -, m97⟩ := id hW.2.2.2.2.1.1
  obtain ⟨L, hL⟩ : ∃ L, L = txs τ P rows π := ⟨_, rfl⟩
  rw [← hL] at hQ
  refine wC_X18_texts (Nat.zero_le _) (bC_X18_texts_0 ⟨mt, sC_textMany (d := d) hW hK hR hA hp h2 (fun u hu ku au fu zu tu lu => ?_)⟩)
  rw [← hL] at tu lu ⊢
  have czu : cz u = cz w ∨ cz w < cz u := by have := fu.1; omega
  have eu : cz u = cz w := by
    have q1 : zm u = zm w := zu
    have q2 := fu.1
    have q3 := fu.2.1
    unfold zm at q1
    omega
  have hmu : lim ≤ mu u ∧ lim ≤ 5 * mz u := by rw [fu.emu, fu.emz]; exact hm
  have rm := room_n (w := u) (k := L.length) hmu (by rw [zu]; omega)
  obtain ⟨um0, umt, -, -, um95, -, um97⟩ := id hu.2.2.2.2.1.1
  obtain ⟨t1, l1, -⟩ := id hu.2.2.2.2.1.2.1
  have h6 := hu.2.2.2.2.2
  refine ⟨⟨⟨by omega, by omega⟩, rm.1, by rw [Int.toNat_natCast]; exact rm.2⟩, fa ?_⟩
  rw [Int.toNat_natCast, eu]
  obtain ⟨r, hr⟩ : ∃ r, r = cz w + 1 := ⟨_, rfl⟩
  obtain ⟨v, hv⟩ : ∃ v, v = nA u 103 L.length := ⟨_, rfl⟩
  rw [← hv, ← hr]
  rw [← hr] at hQ
  have fv : Fr [] u v := by rw [hv]; exact (Fr.refl _ _).snA
  have Wv : WF p v := by rw [hv]; exact hu.2.2.2.1.snA _ _
  have mv : MW p wS v τ f F ps rs ro ru M := hu.sa fv Wv (fun r hr => by cases hr)
  have tv : tg v r = 103 ∧ ln v r = L.length ∧ cz v = r := by
    rw [hv, hr, ← eu]
    exact ⟨by rw [tg_nA, if_pos rfl], by rw [ln_nA, if_pos rfl], rfl⟩
  obtain ⟨_, vmt, -, -, vm95, -, -⟩ := id mv.2.2.2.2.1.1
  obtain ⟨vt1, vl1, -⟩ := id mv.2.2.2.2.1.2.1
  refine ⟨by rw [vmt]; decide, by rw [tv.1]; exact ⟨by decide, by decide, Or.inl (by decide)⟩, ?_, fa ?_⟩
  · rw [tv.2.1, vm95, vl1]
    exact ⟨⟨by omega, by omega, by omega, by omega, by omega⟩, Or.inr (Or.inl ⟨vt1, tv.1⟩)⟩
  · rw [tv.2.1, vm95]
    obtain ⟨v', hv'⟩ : ∃ v', v' = qC v (M + 1) 0 r 0 (L.length : Nat) := ⟨_, rfl⟩
    rw [← hv']
    have fv' : Fr [r] v v' := by rw [hv']; exact (Fr.refl _ _).sqC (Or.inl (by simp))
    have mv' : MW p wS v' τ f F ps rs ro ru M := mv.sa fv' (by rw [hv']; exact Wv.sqC _ _ _ _ _) (fun q hq => by rw [List.mem_singleton.mp hq]; omega)
    have kv := ku.sa hu fv mv (fun q hq => by cases hq)
    have kv' := kv.sa mv fv' mv' (fun q hq => by rw [List.mem_singleton.mp hq]; right; omega)
    have av := au.fr (p := p) hu.2.2.2.1 fv (fun q hq => by cases hq)
    have av' := av.fr (p := p) Wv fv' (fun q hq => by rw [List.mem_singleton.mp hq, tv.1]; decide)
    have zv : zm v = zm u + L.length + 5 := by
      rw [hv]
      show ((cu u + L.length : Nat) : Int) + 5 * ((cz u + 1 : Nat) : Int) = ((cu u : Nat) : Int) + 5 * ((cz u : Nat) : Int) + _ + 5
      omega
    have zv' : zm v' = zm v := by rw [hv']; rfl
    have cv' : cz v' = cz v := by rw [hv']; rfl
    refine hQ v' mv' kv' av' ((fu.mono (fun q hq => by simp at hq ⊢; omega)).trans' ((fv.mono (T' := [r]) (fun q hq => by cases hq)).trans fv') (fun q hq => by rw [List.mem_singleton.mp hq]; right; omega)) (by omega) (by omega) ⟨?_, ?_, fun i y hi => ?_⟩ lu
    · rw [(fv'.2.2.2.1 r (by omega)).1]; exact tv.1
    · rw [(fv'.2.2.2.1 r (by omega)).2]; exact tv.2.1
    · have il := (List.getElem?_eq_some_iff.mp hi).1
      rw [hv', aI_qC, if_pos ⟨rfl, by omega, by omega⟩, show (0 : Int) + ((i : Int) - 0) = (i : Nat) by omega, hv, aI_nA, if_neg (by omega)]
      exact tu i y hi
theorem sC_borders (hW : MW p wS w τ f F ps rs ro ru M) (hK : KN p w τ f F M ps P O) (hR : RWS τ rs rows P O) {A : Nat} (hA : ARW w A rows ro) {π : Pa} (hp : π ∈ ps) (h0 : srP τ f π = 0) (hn : lkp P π = none) {lim : Int} (hm : lim ≤ mu w ∧ lim ≤ 5 * mz w) (hlim : zm w + 86 ≤ lim) {Q : ZRes → CW → Prop} (hQ : ∀ w', MW p wS w' τ f F ps rs ro ru M → KN p w' τ f F M ps P O → ARW w' A rows ro → Fr [M + 1, M + 2, M + 11] w w' → cz w < cz w' → zm w' ≤ zm w + 86 → NUA w' (cz w + 1) 102 (bos τ P rows π ++ [2147483647]) → (bos τ P rows π).length ≤ 80 → Q (.inl (some (ar (cz w + 1)))) w') : wpC p (d + 5) 148 [ar M, ar A, ai (rows.length : Nat), ar (plo w F ps π)] w Q := by
  obtain ⟨m0, mt, -, -, -, -, m97⟩ := id hW.2.2.2.2.1.1
  obtain ⟨L, hL⟩ : ∃ L, L = bos τ P rows π ++ [2147483647] := ⟨_, rfl⟩
  have eL : L.length = (bos τ P rows π).length + 1 := by rw [hL, List.length_append]; rfl
  rw [← hL] at hQ
  refine wC_X18_borders (Nat.zero_le _) (bC_X18_borders_0 ⟨mt, sC_borderMany (d := d) hW hK hR hA hp h0 hn (fun u hu ku au fu zu tu lu => ?_)⟩)
  rw [← hL] at tu
  rw [← eL]
  have eu : cz u = cz w := by
    have q1 : zm u = zm w := zu
    have q2 := fu.1
    have q3 := fu.2.1
    unfold zm at q1
    omega
  have hmu : lim ≤ mu u ∧ lim ≤ 5 * mz u := by rw [fu.emu, fu.emz]; exact hm
  have rm := room_n (w := u) (k := L.length) hmu (by rw [zu]; omega)
  obtain ⟨um0, umt, -, -, um95, -, um97⟩ := id hu.2.2.2.2.1.1
  have h6 := hu.2.2.2.2.2
  refine ⟨⟨⟨by omega, by omega⟩, rm.1, by rw [Int.toNat_natCast]; exact rm.2⟩, fa ?_⟩
  rw [Int.toNat_natCast, eu]
  obtain ⟨r, hr⟩ : ∃ r, r = cz w + 1 := ⟨_, rfl⟩
  obtain ⟨v, hv⟩ : ∃ v, v = nA u 102 L.length := ⟨_, rfl⟩
  rw [← hv, ← hr]
  rw [← hr] at hQ
  have fv : Fr [] u v := by rw [hv]; exact (Fr.refl _ _).snA
  have Wv : WF p v := by rw [hv]; exact hu.2.2.2.1.snA _ _
  have mv : MW p wS v τ f F ps rs ro ru M := hu.sa fv Wv (fun r hr => by cases hr)
  have tv : tg v r = 102 ∧ ln v r = L.length ∧ cz v = r := by
    rw [hv, hr, ← eu]
    exact ⟨by rw [tg_nA, if_pos rfl], by rw [ln_nA, if_pos rfl], rfl⟩
  obtain ⟨_, vmt, -, -, -, vm96, -⟩ := id mv.2.2.2.2.1.1
  obtain ⟨-, -, vt2, vl2⟩ := id mv.2.2.2.2.1.2.1
  refine ⟨by rw [vmt]; decide, by rw [tv.1]; exact ⟨by decide, by decide, Or.inl (by decide)⟩, ?_, fa ?_⟩
  · rw [tv.2.1, vm96, vl2]
    exact ⟨⟨by omega, by omega, by omega, by omega, by omega⟩, Or.inl ⟨vt2, tv.1⟩⟩
  · rw [tv.2.1, vm96]
    obtain ⟨v', hv'⟩ : ∃ v', v' = qC v (M + 2) 0 r 0 (L.length : Nat) := ⟨_, rfl⟩
    rw [← hv']
    have fv' : Fr [r] v v' := by rw [hv']; exact (Fr.refl _ _).sqC (Or.inl (by simp))
    have mv' : MW p wS v' τ f F ps rs ro ru M := mv.sa fv' (by rw [hv']; exact Wv.sqC _ _ _ _ _) (fun q hq => by rw [List.mem_singleton.mp hq]; omega)
    have kv := ku.sa hu fv mv (fun q hq => by cases hq)
    have kv' := kv.sa mv fv' mv' (fun q hq => by rw [List.mem_singleton.mp hq]; right; omega)
    have av := au.fr (p := p) hu.2.2.2.1 fv (fun q hq => by cases hq)
    have av' := av.fr (p := p) Wv fv' (fun q hq => by rw [List.mem_singleton.mp hq, tv.1]; decide)
    have zv : zm v = zm u + L.length + 5 := by
      rw [hv]
      show ((cu u + L.length : Nat) : Int) + 5 * ((cz u + 1 : Nat) : Int) = ((cu u : Nat) : Int) + 5 * ((cz u : Nat) : Int) + _ + 5
      omega
    have zv' : zm v' = zm v := by rw [hv']; rfl
    have cv' : cz v' = cz v := by rw [hv']; rfl
    refine hQ v' mv' kv' av' ((fu.mono (fun q hq => by simp at hq ⊢; omega)).trans' ((fv.mono (T' := [r]) (fun q hq => by cases hq)).trans fv') (fun q hq => by rw [List.mem_singleton.mp hq]; right; omega)) (by omega) (by omega) ⟨?_, ?_, fun i y hi => ?_⟩ lu
    · rw [(fv'.2.2.2.1 r (by omega)).1]; exact tv.1
    · rw [(fv'.2.2.2.1 r (by omega)).2]; exact tv.2.1
    · have il := (List.getElem?_eq_some_iff.mp hi).1
      rw [hv', aI_qC, if_pos ⟨rfl, by omega, by omega⟩, show (0 : Int) + ((i : Int) - 0) = (i : Nat) by omega, hv, aI_nA, if_neg (by omega)]
      exact tu i y hi
end ZNode
