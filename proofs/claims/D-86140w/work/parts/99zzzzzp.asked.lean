/-! the component's trees: places that are asked -/
section ZAskd
variable {p b e d f F M n : Nat} {wS w : CW} {τ : TW} {rs : List (Nat × Nat)} {ps : List Pa} {P : Sp} {O : List (Pa × Int)} {ro : Nat × Nat → Nat} {ru : Nat → Nat}
/-- a maker at work; all before it stays -/
def MW (p : Nat) (wS w : CW) (τ : TW) (f F : Nat) (ps : List Pa) (rs : List (Nat × Nat)) (ro : Nat × Nat → Nat) (ru : Nat → Nat) (M : Nat) : Prop := TSt p wS τ f F ps rs ro ru ∧ M = cz wS + 1 ∧ Fr [] wS w ∧ WF p w ∧ MSh p w M ps.length ∧ M + 11 ≤ cz w
theorem MW.t (h : MW p wS w τ f F ps rs ro ru M) : TSt p w τ f F ps rs ro ru := (h.1.fr h.2.2.1 h.2.2.2.1).1
theorem MW.pl (h : MW p wS w τ f F ps rs ro ru M) {π : Pa} (hp : π ∈ ps) : plo w F ps π = plo wS F ps π := (h.1.fr h.2.2.1 h.2.2.2.1).2.1 π hp
theorem MW.kd (h : MW p wS w τ f F ps rs ro ru M) (k : Nat) : kd w p k = kd wS p k := (h.1.fr h.2.2.1 h.2.2.2.1).2.2 k
theorem MSh.keep {w' : CW} (h : MSh p w M n) (e1 : ∀ g, fR w' g M = fR w g M) (e2 : ∀ g, fR w' g (M + 3) = fR w g (M + 3)) (e3 : ∀ r, M ≤ r → r ≤ M + 11 → tg w' r = tg w r ∧ ln w' r = ln w r) : MSh p w' M n := by
  unfold MSh at h ⊢
  rw [e1, e1, e1, e1, e1, e2, e2, e2, e2, e2, e2, e2, (e3 M (by omega) (by omega)).1, (e3 (M + 1) (by omega) (by omega)).1, (e3 (M + 1) (by omega) (by omega)).2, (e3 (M + 2) (by omega) (by omega)).1, (e3 (M + 2) (by omega) (by omega)).2, (e3 (M + 3) (by omega) (by omega)).1, (e3 (M + 4) (by omega) (by omega)).1, (e3 (M + 4) (by omega) (by omega)).2, (e3 (M + 5) (by omega) (by omega)).1, (e3 (M + 5) (by omega) (by omega)).2, (e3 (M + 6) (by omega) (by omega)).1, (e3 (M + 6) (by omega) (by omega)).2, (e3 (M + 7) (by omega) (by omega)).1, (e3 (M + 7) (by omega) (by omega)).2, (e3 (M + 8) (by omega) (by omega)).1, (e3 (M + 8) (by omega) (by omega)).2, (e3 (M + 9) (by omega) (by omega)).1, (e3 (M + 9) (by omega) (by omega)).2, (e3 (M + 10) (by omega) (by omega)).1, (e3 (M + 10) (by omega) (by omega)).2, (e3 (M + 11) (by omega) (by omega)).1, (e3 (M + 11) (by omega) (by omega)).2]
  exact h
theorem MW.st {T : List Nat} {w' : CW} (h : MW p wS w τ f F ps rs ro ru M) (fr : Fr T w w') (W' : WF p w') (hT : ∀ r, r ∈ T → M ≤ r) (e1 : ∀ g, fR w' g M = fR w g M) (e2 : ∀ g, fR w' g (M + 3) = fR w g (M + 3)) : MW p wS w' τ f F ps rs ro ru M := by
  obtain ⟨h1, h2, h3, h4, h5, h6⟩ := h
  refine ⟨h1, h2, h3.trans' fr (fun r hr => Or.inr (by have := hT r hr; omega)), W', h5.keep e1 e2 (fun r _ hr => fr.2.2.2.1 r (by omega)), by have := fr.1; omega⟩
/-- .. where no field changes -/
theorem MW.sa {T : List Nat} {w' : CW} (h : MW p wS w τ f F ps rs ro ru M) (fr : Fr T w w') (W' : WF p w') (hT : ∀ r, r ∈ T → M < r ∧ r ≠ M + 3) : MW p wS w' τ f F ps rs ro ru M := by
  have h6 := h.2.2.2.2.2
  have o1 := fr.2.2.2.2 M (by omega) (fun q => by have := hT _ q; omega)
  have o2 := fr.2.2.2.2 (M + 3) (by omega) (fun q => by have := hT _ q; omega)
  exact h.st fr W' (fun r hr => by have := hT r hr; omega) (fun g => ob.efR o1 g) (fun g => ob.efR o2 g)
theorem KN.eq {w' : CW} (h : KN p w τ f F M ps P O) (ea : ∀ r, M + 4 ≤ r → r ≤ M + 10 → aI w' r = aI w r ∧ aR w' r = aR w r) (e5 : fI w' 105 (M + 3) = fI w 105 (M + 3)) (ep : ∀ π, π ∈ ps → plo w' F ps π = plo w F ps π) (ek : ∀ k, kd w' p k = kd w p k) : KN p w' τ f F M ps P O := by
  obtain ⟨h1, h2, h3⟩ := h
  refine ⟨fun i π hi => ?_, by rw [e5]; exact h2, fun i y hi => ?_⟩
  · have := h1 i π hi
    unfold KN1 at this ⊢
    rw [(ea (M + 9) (by omega) (by omega)).1, (ea (M + 10) (by omega) (by omega)).1, (ea (M + 6) (by omega) (by omega)).1, (ea (M + 7) (by omega) (by omega)).2, (ea (M + 8) (by omega) (by omega)).1]
    exact ⟨this.1, this.2.1, fun s b hb hn => by
      obtain ⟨k, k1, k2, k3⟩ := this.2.2.1 s b hb hn
      exact ⟨k, k1, k2, by rw [ek]; exact k3⟩, this.2.2.2⟩
  · have := h3 i y hi
    rw [(ea (M + 4) (by omega) (by omega)).2, (ea (M + 5) (by omega) (by omega)).1, ep _ this.1]
    exact this
theorem KN.sa {T : List Nat} {w' : CW} (h : KN p w τ f F M ps P O) (m : MW p wS w τ f F ps rs ro ru M) (fr : Fr T w w') (m' : MW p wS w' τ f F ps rs ro ru M) (hT : ∀ r, r ∈ T → r < M + 3 ∨ M + 10 < r) : KN p w' τ f F M ps P O := by
  have h6 := m.2.2.2.2.2
  have eo : ∀ r, M + 3 ≤ r → r ≤ M + 10 → ob w' r = ob w r := fun r h1 h2 => fr.2.2.2.2 r (by omega) (fun q => by have := hT r q; omega)
  exact h.eq (fun r h1 h2 => ⟨funext (fun i => ob.eaI (eo r (by omega) h2) i), funext (fun i => ob.eaR (eo r (by omega) h2) i)⟩) (ob.efI (eo (M + 3) (by omega) (by omega)) 105) (fun π hp => (m'.pl hp).trans (m.pl hp).symm) (fun k => (m'.kd k).trans (m.kd k).symm)
/-- a row's tests that are asked, so far -/
def AKs (w w' : CW) (F M : Nat) (ps : List Pa) (A : List (Pa × Nat)) : Prop := ∀ (i : Nat) e, A[i]? = some e → aR w' (M + 11) (i : Nat) = plo w F ps e.1
theorem sC_asked (hW : MW p wS w τ f F ps rs ro ru M) (hK : KN p w τ f F M ps P O) {x : Nat × Nat} (hx : x ∈ rs) (hD : DEC τ P O x) {Q : ZRes → CW → Prop} (hQ : ∀ w', MW p wS w' τ f F ps rs ro ru M → KN p w' τ f F M ps P O → Fr [M + 11] w w' → zm w' = zm w → (∀ (i : Nat) e, (ask τ P x)[i]? = some e → aR w' (M + 11) (i : Nat) = plo wS F ps e.1) → (ask τ P x).length ≤ ps.length → Q (.inl (some (ai (ask τ P x).length))) w') : wpC p (d + 3) 127 [ar (ro x), ar (M + 3), ar (M + 11)] w Q := by
  obtain ⟨L, hL⟩ : ∃ L, L = tsR τ x.1 x.2 := ⟨_, rfl⟩
  have hl := CX.len hW.1.2.2.1 hx
  rw [← hL] at hl
  obtain ⟨-, -, mm, hRP, -⟩ := hW.1.2.2.1.2.2.2 x hx
  have hok : ∀ e, e ∈ L → e.1 ∈ ps ∧ e.1 ≠ [] := fun e he => by
    obtain ⟨-, -, -, -, r5, -⟩ := hW.1.2.2.2.1 x hx
    rw [hL] at he
    obtain ⟨i, hi⟩ := List.getElem?_of_mem he
    have := (r5 i e hi).1
    exact ⟨this, (hW.1.2.1.at this).1⟩
  obtain ⟨c, hc⟩ : ∃ c : Pa × Nat → Prop, c = fun e => stn τ P e = 0 ∧ ∀ e', e' ∈ tsR τ x.1 x.2 → stn τ P e' = 0 → ¬ abv e'.1 e.1 := ⟨_, rfl⟩
  have hak : ask τ P x = fil c L := by rw [hL, hc]; rfl
  have hps : ps.length ≤ 900 := hW.1.2.1.2.2.2.1
  have nd : ∀ A : List (Pa × Nat), (∀ e, e ∈ A → e ∈ L) → A.Nodup → A.length ≤ ps.length := fun A h1 h2 => by
    have nm : (A.map (fun e => e.1)).Nodup := by
      unfold List.Nodup at h2 ⊢
      rw [List.pairwise_map]
      refine List.Pairwise.imp_of_mem ?_ h2
      intro a b ha hb hne q
      refine hne (tsR_one hRP (by rw [← hL]; exact h1 a ha) (by rw [← hL]; exact h1 b hb) (by rw [q]))
    have := nm.length_le_of_subset (l₂ := ps) (fun y hy => by
      obtain ⟨e, he, rfl⟩ := List.mem_map.mp hy
      exact (hok e (h1 e he)).1)
    rw [List.length_map] at this
    exact this
  have Lnd : L.Nodup := by rw [hL]; exact tsR_nodup x.1 x.2
  have fnd : ∀ l : List (Pa × Nat), l.Nodup → (fil c l).Nodup := fun l h => by
    unfold fil
    exact h.sublist (List.filter_sublist ..)
  have fsub : ∀ l : List (Pa × Nat), (∀ e, e ∈ l → e ∈ L) → ∀ e, e ∈ fil c l → e ∈ L := fun l h e he => h e (mem_fil.mp he).1
  have tk : ∀ k e, e ∈ L.take k → e ∈ L := fun k e he => List.mem_of_mem_take he
  have afl : ∀ k, (fil c (L.take k)).length ≤ ps.length := fun k => nd _ (fsub _ (tk k)) (fnd _ (Lnd.sublist (List.take_sublist ..)))
  refine wC_X16_asked (Nat.zero_le _) (bC_X16_asked_0 (bC_X16_asked_5 ?_))
  intro I hI
  have key : ∀ m k : Nat, m + k = L.length → ∀ u, MW p wS u τ f F ps rs ro ru M → KN p u τ f F M ps P O → Fr [M + 11] w u → zm u = zm w → AKs wS u F M ps (fil c (L.take k)) → I ((fil c (L.take k)).length : Nat) (k : Int) u := by
    intro m
    induction m with
    | zero =>
      intro k hk u hu ku fu zu au
      obtain ⟨r1, r2, r3, ⟨r4, r5⟩, r6, r7⟩ := hu.t.row hx
      have ek : L.take k = L := List.take_of_length_le (by omega)
      rw [ek] at au ⊢
      have aq := afl k
      rw [ek] at aq
      rw [hak] at hQ
      exact hI _ _ _ ⟨by rw [r1]; decide, br1 (by rw [r2, ← hL]; omega) (bC_X16_asked_110 (call := wpC p (d + 2)) (hQ u hu ku fu zu au aq))⟩
    | succ m ih =>
      intro k hk u hu ku fu zu au
      have hkl : k < L.length := by omega
      obtain ⟨e, he⟩ : ∃ e, L[k]? = some e := ⟨_, List.getElem?_eq_getElem hkl⟩
      have heT : (tsR τ x.1 x.2)[k]? = some e := by rw [← hL]; exact he
      have heL : e ∈ L := List.mem_of_getElem? he
      obtain ⟨r1, r2, r3, ⟨r4, r5⟩, r6, r7⟩ := hu.t.row hx
      rw [← hL] at r2 r5 r7
      obtain ⟨-, -, -, -, rr, -⟩ := hu.t.2.2.2.1 x hx
      obtain ⟨q1, q2, q3⟩ := rr k e heT
      have hPl := hu.t.2.1
      have hM := hu.2.2.2.2.1
      obtain ⟨t11, l11⟩ : tg u (M + 11) = 115 ∧ ln u (M + 11) = ps.length := ⟨hM.2.2.2.2.2.2.2.2.2.1, hM.2.2.2.2.2.2.2.2.2.2⟩
      obtain ⟨A, hA⟩ : ∃ A, A = fil c (L.take k) := ⟨_, rfl⟩
      have Al : A.length ≤ ps.length := by rw [hA]; exact afl k
      have AL : ∀ a, a ∈ A → a ∈ L := fun a ha => fsub _ (tk k) a (by rw [← hA]; exact ha)
      have ts : L.take (k + 1) = L.take k ++ [e] := by rw [List.take_succ, he]; rfl
      have f1 : c e → fil c (L.take (k + 1)) = A ++ [e] := fun z => by rw [ts, fil_append, fil_cons_1 z, fil_nil, hA]
      have f0 : ¬ c e → fil c (L.take (k + 1)) = A := fun z => by rw [ts, fil_append, fil_cons_0 z, fil_nil, List.append_nil, hA]
      rw [← hA] at au ⊢
      have nxt : ¬ c e → pC_X16_asked_104 p (wpC p (d + 2)) (fun v w => Q (.inl (some (ai v))) w) I (ro x) (M + 3) (M + 11) (A.length : Nat) (k : Int) u := fun z => by
        refine bC_X16_asked_104 (fa ?_)
        rw [w32_s (by omega) (by omega)]
        have := ih (k + 1) (by omega) u hu ku fu zu (by rw [f0 z]; exact au)
        rw [f0 z] at this
        exact this
      refine hI _ _ _ ⟨by rw [r1]; decide, br0 (by rw [r2]; omega) ⟨by rw [r1]; decide, by rw [r6]; exact ⟨⟨by decide, by decide⟩, by omega, by omega⟩, by rw [r1]; decide, by rw [r4]; exact ⟨⟨by decide, by decide⟩, by omega, by omega⟩, ?_⟩⟩
      refine sC_byAt hu.t hM ku hx hD heT (fa ?_)
      -- the end of the loop over those asked: x5 tells whether it is asked
      have fin1 : c e → pC_X16_asked_86 p (wpC p (d + 2)) (fun v w => Q (.inl (some (ai v))) w) I (ro x) (M + 3) (M + 11) (A.length : Nat) (k : Int) 1 u := fun z => by
        have lt : A.length < ps.length := by
          have := afl (k + 1)
          rw [f1 z, List.length_append] at this
          exact this
        obtain ⟨-, -, -, ⟨a1, -⟩⟩ := hPl.at q1
        refine bC_X16_asked_86 (br0 (by decide) ⟨by rw [r1]; decide, by rw [r4]; exact ⟨⟨by decide, by decide⟩, by omega, by omega⟩, by rw [t11, l11]; exact ⟨⟨by decide, by decide⟩, by omega, by omega⟩, Or.inr (by rw [q2, a1, t11]; rfl), fa (fa (bC_X16_asked_104 (fa ?_)))⟩)
        rw [q2, w32_s (by omega) (by omega), w32_s (by omega) (by omega)]
        obtain ⟨v, hv⟩ : ∃ v, v = qR u (M + 11) (A.length : Nat) (plo u F ps e.1) := ⟨_, rfl⟩
        rw [← hv]
        have fv : Fr [M + 11] u v := by rw [hv]; exact (Fr.refl _ _).sqR (Or.inl (by simp))
        have Wv : WF p v := by rw [hv]; exact hu.2.2.2.1.sqR _ _ _
        have mv : MW p wS v τ f F ps rs ro ru M := hu.sa fv Wv (fun r hr => by rw [List.mem_singleton.mp hr]; omega)
        have := ih (k + 1) (by omega) v mv (ku.sa hu fv mv (fun r hr => by rw [List.mem_singleton.mp hr]; omega)) (fu.trans fv) (by rw [← zu, hv]; rfl) ?_
        · rw [f1 z, List.length_append] at this
          exact this
        · rw [f1 z]
          intro i a hi
          rw [hv, aR_qR]
          rcases get_app hi with ⟨i1, i2⟩ | ⟨i1, i2⟩
          · rw [if_neg (by omega)]
            exact au i a i2
          · rw [if_pos ⟨rfl, by omega⟩, i2]
            exact hu.pl q1
      refine bC_X16_asked_45 ?_
      intro J hJ
      by_cases s0 : stn τ P e = 0
      · rw [if_pos (byv_z.mpr s0)]
        have ak : c e ↔ ∀ a, a ∈ A → ¬ abv a.1 e.1 := by
          constructor
          · intro z a ha q
            rw [hc] at z
            rw [hA, mem_fil] at ha
            have h2 := ha.2
            rw [hc] at h2
            exact z.2 a (by rw [← hL]; exact tk k a ha.1) h2.1 q
          · intro z
            rw [hc]
            refine ⟨s0, fun e' he' hs' ha' => ?_⟩
            obtain ⟨a, a1, a2, a3⟩ := top_left (P := P) (c := c) hL (fun y _ => by rw [hL, hc]) e'.1.length e' (Nat.le_refl _) (by rw [hL]; exact he') hs' e.1 ha'
            have sp : tsR τ x.1 x.2 = L.take k ++ e :: L.drop (k + 1) := by
              rw [← hL]
              have h1 := (List.take_append_drop k L).symm
              rw [List.drop_eq_getElem_cons hkl] at h1
              rw [(List.getElem?_eq_some_iff.mp he).2] at h1
              exact h1
            have := anc_before hRP e.1.length _ _ e (Nat.le_refl _) sp a (by rw [← hL]; exact a1) (hok a a1).2 a3
            exact z a (by rw [hA]; exact mem_fil.mpr ⟨this, a2⟩) a3
        have out : ¬ c e → ∀ x6 : Int, J 0 x6 u := fun z x6 => hJ _ _ _ (br0 (fun q => q.2 rfl) (bC_X16_asked_86 (br1 rfl (nxt z))))
        have inn : ∀ m j : Nat, m + j = A.length → (∀ i a, i < j → A[i]? = some a → ¬ abv a.1 e.1) → J 1 (j : Int) u := by
          intro m
          induction m with
          | zero =>
            intro j hj h
            refine hJ _ _ _ (br0 (fun q => by omega) (fin1 (ak.mpr (fun a ha => ?_))))
            obtain ⟨i, hi⟩ := List.getElem?_of_mem ha
            have := (List.getElem?_eq_some_iff.mp hi).1
            exact h i a (by omega) hi
          | succ m ih2 =>
            intro j hj h
            have hjl : j < A.length := by omega
            obtain ⟨a, ha⟩ : ∃ a, A[j]? = some a := ⟨_, List.getElem?_eq_getElem hjl⟩
            have aps := (hok a (AL a (List.mem_of_getElem? ha))).1
            obtain ⟨-, -, -, ⟨a1, -⟩⟩ := hPl.at q1
            refine hJ _ _ _ (br1 ⟨by omega, by decide⟩ ⟨by rw [r1]; decide, by rw [r4]; exact ⟨⟨by decide, by decide⟩, by omega, by omega⟩, by rw [t11, l11]; exact ⟨⟨by decide, by decide⟩, by omega, by omega⟩, by rw [q2]; exact a1, ?_⟩)
            rw [q2, au j a ha, ← hu.pl aps]
            refine sC_within (d := d + 1) hPl q1 aps ⟨fun z => fa (fa ?_), fun z => fa (fa ?_)⟩
            · exact out (fun g => ak.mp g a (List.mem_of_getElem? ha) z) _
            · rw [w32_s (by omega) (by omega)]
              have := ih2 (j + 1) (by omega) (fun i a' hi ha' => ?_)
              · exact this
              · rcases (by omega : i < j ∨ i = j) with g | g
                · exact h i a' g ha'
                · rw [g, ha] at ha'
                  rw [← Option.some.inj ha']
                  exact z
        exact inn A.length 0 (by omega) (fun i a hi => by omega)
      · rw [if_neg (fun q => s0 (byv_z.mp q))]
        exact hJ _ _ _ (br0 (fun q => q.2 rfl) (bC_X16_asked_86 (br1 rfl (nxt (fun z => by rw [hc] at z; exact s0 z.1)))))
  have := key L.length 0 (by omega) w hW hK (Fr.refl _ _) rfl (fun i e hi => by simp [fil] at hi)
  exact this
end ZAskd
