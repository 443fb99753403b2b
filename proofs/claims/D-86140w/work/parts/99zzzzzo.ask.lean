/-! the component's trees: what a row asks -/
section ZAsk
variable {p b e d f F M n : Nat} {w : CW} {τ : TW} {rs : List (Nat × Nat)} {ps : List Pa} {P : Sp} {O : List (Pa × Int)} {ro : Nat × Nat → Nat} {ru : Nat → Nat}
/-- a function's rows, as trees see them -/
def TSt (p : Nat) (w : CW) (τ : TW) (f F : Nat) (ps : List Pa) (rs : List (Nat × Nat)) (ro : Nat × Nat → Nat) (ru : Nat → Nat) : Prop := (WF p w ∧ KR p w τ ∧ tg w F = 4) ∧ PL p w (nK τ) F (srP τ f) ps ∧ CX τ f rs ∧ (∀ x, x ∈ rs → RW p w τ F ps (ro x) (ru x.1) (tsR τ x.1 x.2) (nbR τ x.1 x.2)) ∧ (∀ x, x ∈ rs → tg w (ru x.1) = 5 ∧ (fR w 59 (ru x.1) = 0 ↔ tA τ 53 (x.1 : Nat) = 0)) ∧ ∀ x y, x ∈ rs → y ∈ rs → ru x.1 = ru y.1 → x.1 = y.1
theorem TSt.fr {w' : CW} (h : TSt p w τ f F ps rs ro ru) (fr : Fr [] w w') (W' : WF p w') : TSt p w' τ f F ps rs ro ru ∧ (∀ π, π ∈ ps → plo w' F ps π = plo w F ps π) ∧ ∀ k, kd w' p k = kd w p k := by
  obtain ⟨⟨W, K, tF⟩, hP, hC, hR, hU, hI⟩ := h
  have eo : ∀ r, tg w r ≠ 0 → ob w' r = ob w r := fun r hr => fr.eob W hr (by simp)
  have op := eo p (by rw [W.2.1]; decide)
  have oF := eo F (by rw [tF]; decide)
  have oA := eo (fR w 50 F) (by rw [hP.2.1.1]; decide)
  have ok := eo (fR w 0 p) (by have := K.1.1; change tg w (fR w 0 p) = 112 at this; rw [this]; decide)
  have ek : ∀ k, kd w' p k = kd w p k := fun k => by
    have e0 : fR w' 0 p = fR w 0 p := ob.efR op 0
    show aR w' (fR w' 0 p) k = aR w (fR w 0 p) k
    rw [e0, ob.eaR ok]
  have K' : KR p w' τ := KR.fr (T := []) (S := []) (S' := []) W K (fr.mono (fun r hr => by cases hr)) (fun g _ => ⟨ob.efI op g, ob.efR op g⟩) (fun r hr => by cases hr) (by simp) (by simp) (FT.refl _ _) (fun g hg => by cases hg)
  obtain ⟨P', ep⟩ := hP.keep (ob.efI oF 51) (ob.efR oF 50) oA (fun r hr => eo r (by rw [hr]; decide)) ek
  refine ⟨⟨⟨W', K', by rw [ob.etg oF]; exact tF⟩, P', hC, fun x hx => ?_, fun x hx => ?_, hI⟩, fun π _ => ep π, ek⟩
  · exact (hR x hx).keep (fun r _ hr => eo r (by omega)) ek (ob.efR oF 50) (fun ρ hρ => ⟨hρ, ep ρ⟩)
  · obtain ⟨u1, u2⟩ := hU x hx
    have ou := eo (ru x.1) (by rw [u1]; decide)
    rw [ob.etg ou, ob.efR ou]
    exact ⟨u1, u2⟩
theorem vm12_of {r q : Nat} (h : TO p w τ r q) : 7 ≤ tg w r ∧ tg w r ≤ 12 := by
  rcases h.2 with y | y | y | y | y <;> omega
/-- a row's i-th test -/
theorem sC_byAt (hS : TSt p w τ f F ps rs ro ru) (hM : MSh p w M ps.length) (hK : KN p w τ f F M ps P O) {x : Nat × Nat} (hx : x ∈ rs) (hD : DEC τ P O x) {i : Nat} {e : Pa × Nat} (he : (tsR τ x.1 x.2)[i]? = some e) {Q : ZRes → CW → Prop} (hQ : Q (.inl (some (ai (byv τ P e)))) w) : wpC p (d + 2) (vm12 (tg w (aR w (fR w 82 (ro x)) (i : Nat)))) [ar (aR w (fR w 82 (ro x)) (i : Nat)), ar (M + 3), ar (aR w (fR w 81 (ro x)) (i : Nat))] w Q := by
  obtain ⟨⟨W, K, tF⟩, hP, hC, hR, -⟩ := hS
  obtain ⟨-, -, -, -, r5, -⟩ := hR x hx
  obtain ⟨q1, q2, q3⟩ := r5 i e he
  rw [q2]
  exact sC_by W K hM hP hC hK hx hD (List.mem_of_getElem? he) q1 q3 hQ
/-- what rows' fields hold -/
theorem TSt.row (hS : TSt p w τ f F ps rs ro ru) {x : Nat × Nat} (hx : x ∈ rs) : tg w (ro x) = 14 ∧ fI w 83 (ro x) = ((tsR τ x.1 x.2).length : Nat) ∧ fR w 80 (ro x) = ru x.1 ∧ (tg w (fR w 81 (ro x)) = 115 ∧ (tsR τ x.1 x.2).length ≤ ln w (fR w 81 (ro x))) ∧ (tg w (fR w 82 (ro x)) = 118 ∧ (tsR τ x.1 x.2).length ≤ ln w (fR w 82 (ro x))) := by
  obtain ⟨⟨a1, a2, a3, a4⟩, ⟨b1, b2, b3, b4⟩, ⟨c1, c2, c3⟩, -⟩ := hS.2.2.2.1 x hx
  exact ⟨a1, a3, a4, ⟨b1, by omega⟩, c1, c3⟩
theorem CX.len (hC : CX τ f rs) {x : Nat × Nat} (hx : x ∈ rs) : (tsR τ x.1 x.2).length ≤ 32000 := by
  obtain ⟨i, hi⟩ := List.getElem?_of_mem hx
  have := off_mono (τ := τ) rs hi
  have := hC.2.2.1
  omega
theorem sC_risOut (hS : TSt p w τ f F ps rs ro ru) (hM : MSh p w M ps.length) (hK : KN p w τ f F M ps P O) {x : Nat × Nat} (hx : x ∈ rs) (hD : DEC τ P O x) {Q : ZRes → CW → Prop} (hQ : ((∀ e, e ∈ tsR τ x.1 x.2 → stn τ P e ≠ 2) → Q (.inl (some (ai 0))) w) ∧ ((∃ e, e ∈ tsR τ x.1 x.2 ∧ stn τ P e = 2) → Q (.inl (some (ai 1))) w)) : wpC p (d + 3) 126 [ar (ro x), ar (M + 3)] w Q := by
  obtain ⟨r1, r2, r3, ⟨r4, r5⟩, r6, r7⟩ := hS.row hx
  have hl := CX.len hS.2.2.1 hx
  refine wC_X16_isOut (Nat.zero_le _) (bC_X16_isOut_0 (bC_X16_isOut_4 ?_))
  intro I hI
  have out : (∃ e, e ∈ tsR τ x.1 x.2 ∧ stn τ P e = 2) → ∀ k : Int, I 1 k w := fun h k => hI _ _ _ ⟨by rw [r1]; decide, br0 (fun q => by omega) (bC_X16_isOut_47 ⟨Or.inr rfl, hQ.2 h⟩)⟩
  have key : ∀ m k : Nat, m + k = (tsR τ x.1 x.2).length → (∀ i e, i < k → (tsR τ x.1 x.2)[i]? = some e → stn τ P e ≠ 2) → I 0 (k : Int) w := by
    intro m
    induction m with
    | zero =>
      intro k hk h
      refine hI _ _ _ ⟨by rw [r1]; decide, br0 (fun q => by rw [r2] at q; omega) (bC_X16_isOut_47 ⟨Or.inl rfl, hQ.1 (fun e he => ?_)⟩)⟩
      obtain ⟨i, hi⟩ := List.getElem?_of_mem he
      have := (List.getElem?_eq_some_iff.mp hi).1
      exact h i e (by omega) hi
    | succ m ih =>
      intro k hk h
      have hkl : k < (tsR τ x.1 x.2).length := by omega
      refine hI _ _ _ ⟨by rw [r1]; decide, br1 ⟨by rw [r2]; omega, rfl⟩ ⟨by rw [r1]; decide, by rw [r6]; exact ⟨⟨by decide, by decide⟩, by omega, by omega⟩, by rw [r1]; decide, by rw [r4]; exact ⟨⟨by decide, by decide⟩, by omega, by omega⟩, ?_⟩⟩
      refine sC_byAt hS hM hK hx hD (List.getElem?_eq_getElem hkl) (fa (fa ?_))
      rw [w32_s (by omega) (by omega)]
      by_cases z : stn τ P (tsR τ x.1 x.2)[k] = 2
      · rw [if_pos (by have := byv_m.mpr z; omega)]
        exact out ⟨_, List.getElem_mem hkl, z⟩ _
      · rw [if_neg (by
          intro q
          exact z (byv_m.mp (by omega)))]
        have := ih (k + 1) (by omega) (fun i e hi he => ?_)
        · exact this
        · rcases (by omega : i < k ∨ i = k) with u | u
          · exact h i e u he
          · rw [u, List.getElem?_eq_getElem hkl] at he
            rw [← Option.some.inj he]
            exact z
  exact key (tsR τ x.1 x.2).length 0 (by omega) (fun i e hi => by omega)
theorem sC_left (hS : TSt p w τ f F ps rs ro ru) (hM : MSh p w M ps.length) (hK : KN p w τ f F M ps P O) {x : Nat × Nat} (hx : x ∈ rs) (hD : DEC τ P O x) {π : Pa} (hp : π ∈ ps) {Q : ZRes → CW → Prop} (hQ : (lfq τ P x π = none → Q (.inl (some (ar 0))) w) ∧ (∀ q r, lfq τ P x π = some q → (π, q) ∈ tsR τ x.1 x.2 → TO p w τ r q → Q (.inl (some (ar r))) w)) : wpC p (d + 3) 128 [ar (ro x), ar (M + 3), ar (plo w F ps π)] w Q := by
  obtain ⟨r1, r2, r3, ⟨r4, r5⟩, r6, r7⟩ := hS.row hx
  have hl := CX.len hS.2.2.1 hx
  obtain ⟨-, -, -, -, rr, -⟩ := hS.2.2.2.1 x hx
  obtain ⟨-, -, mm, hRP, -⟩ := hS.2.2.1.2.2.2 x hx
  refine wC_X16_left (Nat.zero_le _) (bC_X16_left_0 (bC_X16_left_2 ?_))
  intro I hI
  have key : ∀ m k : Nat, m + k = (tsR τ x.1 x.2).length → (∀ i e, i < k → (tsR τ x.1 x.2)[i]? = some e → ¬ (e.1 = π ∧ stn τ P e = 0)) → I (k : Int) w := by
    intro m
    induction m with
    | zero =>
      intro k hk h
      refine hI _ _ ⟨by rw [r1]; decide, br1 (by rw [r2]; omega) (bC_X16_left_47 (call := wpC p (d + 2)) (hQ.1 ?_))⟩
      cases hh : lfq τ P x π with
      | none => rfl
      | some q =>
        obtain ⟨m1, m2⟩ := lfq_some hh
        obtain ⟨i, hi⟩ := List.getElem?_of_mem m1
        have := (List.getElem?_eq_some_iff.mp hi).1
        exact absurd ⟨rfl, m2⟩ (h i _ (by omega) hi)
    | succ m ih =>
      intro k hk h
      have hkl : k < (tsR τ x.1 x.2).length := by omega
      obtain ⟨e, he⟩ : ∃ e, (tsR τ x.1 x.2)[k]? = some e := ⟨_, List.getElem?_eq_getElem hkl⟩
      obtain ⟨q1, q2, q3⟩ := rr k e he
      have nx : ¬ (e.1 = π ∧ stn τ P e = 0) → pC_X16_left_41 p (wpC p (d + 2)) (fun v w => Q (.inl (some (ar v))) w) I (ro x) (M + 3) (plo w F ps π) (k : Int) w := fun z => by
        refine bC_X16_left_41 (fa ?_)
        rw [w32_s (by omega) (by omega)]
        have := ih (k + 1) (by omega) (fun i e' hi he' => ?_)
        · exact this
        · rcases (by omega : i < k ∨ i = k) with u | u
          · exact h i e' u he'
          · rw [u, he] at he'
            rw [← Option.some.inj he']
            exact z
      refine hI _ _ ⟨by rw [r1]; decide, br0 (by rw [r2]; omega) ⟨by rw [r1]; decide, by rw [r4]; exact ⟨⟨by decide, by decide⟩, by omega, by omega⟩, fun z => ?_, fun z => nx (fun u => z (by rw [q2, u.1]))⟩⟩
      have ee : e.1 = π := hS.2.1.inj (Or.inr q1) (Or.inr hp) (by rw [← q2]; exact z)
      refine ⟨by rw [r1]; decide, by rw [r6]; exact ⟨⟨by decide, by decide⟩, by omega, by omega⟩, ?_⟩
      have bq := sC_byAt (d := d) hS hM hK hx hD he (Q := zqI (fun v10 u9 => (v10 = 0 → pC_X16_left_34 p (wpC p (d + 2)) (fun v w => Q (.inl (some (ar v))) w) (ro x) (k : Int) u9) ∧ (¬ (v10 = 0) → pC_X16_left_41 p (wpC p (d + 2)) (fun v w => Q (.inl (some (ar v))) w) I (ro x) (M + 3) (plo w F ps π) (k : Int) u9)) zno) ⟨fun z => ?_, fun z => nx (fun u => z (byv_z.mpr u.2))⟩
      · rw [q2, ee] at bq
        exact bq
      · have s0 := byv_z.mp z
        have lq := lfq_of hRP (List.mem_of_getElem? he) s0
        rw [ee] at lq
        refine bC_X16_left_34 (call := wpC p (d + 2)) ⟨by rw [r1]; decide, by rw [r6]; exact ⟨⟨by decide, by decide⟩, by omega, by omega⟩, hQ.2 e.2 _ lq ?_ q3⟩
        rw [← ee]
        exact List.mem_of_getElem? he
  exact key (tsR τ x.1 x.2).length 0 (by omega) (fun i e hi => by omega)
theorem abv_c {b : Pa} {y : Nat × Nat} {π : Pa} : abv b (y :: π) ↔ b = π ∨ abv b π := by
  constructor
  · rintro ⟨s, hs, e⟩
    cases s with
    | nil => exact absurd rfl hs
    | cons z s =>
      injection e with e1 e2
      by_cases q : s = []
      · left; rw [e2, q]; rfl
      · exact Or.inr ⟨s, q, e2⟩
  · rintro (q | ⟨s, hs, e⟩)
    · exact ⟨[y], by simp, by rw [q]; rfl⟩
    · exact ⟨y :: s, by simp, by rw [e]; rfl⟩
theorem sC_within {S : Pa → Int} {nk : Nat} (hP : PL p w nk F S ps) {a c : Pa} (ha : a ∈ ps) (hc : c ∈ ps) {Q : ZRes → CW → Prop} (hQ : (abv c a → Q (.inl (some (ai 1))) w) ∧ (¬ abv c a → Q (.inl (some (ai 0))) w)) : wpC p (d + 1) 130 [ar (plo w F ps a), ar (plo w F ps c)] w Q := by
  refine wC_X17_isWithin (Nat.zero_le _) ?_
  obtain ⟨-, -, -, ⟨a1, a2, -, k, j, π', e1, e2, -, -, a85, -⟩⟩ := hP.at ha
  refine bC_X17_isWithin_0 ⟨by rw [a1]; decide, fa (bC_X17_isWithin_5 ?_)⟩
  intro I hI
  rw [a85]
  have z0 : plo w F ps [] = 0 := by unfold plo; rw [if_pos rfl]
  have key : ∀ (ρ : Pa), (ρ = [] ∨ ρ ∈ ps) → ((c = ρ ∨ abv c ρ) ↔ abv c a) → I (plo w F ps ρ) w := by
    intro ρ
    induction ρ with
    | nil =>
      intro _ h
      rw [z0]
      refine hI _ _ (br0 (fun q => q.1 rfl) (bC_X17_isWithin_22 (call := wpC p d) (fa ?_)))
      rw [if_neg (by simp)]
      refine hQ.2 (fun q => ?_)
      rcases h.mpr q with u | ⟨s, hs, u⟩
      · exact (hP.at hc).1 u
      · cases s with
        | nil => exact hs rfl
        | cons _ _ => cases u
    | cons y ρ ih =>
      intro hm h
      have hm' : y :: ρ ∈ ps := by
        rcases hm with q | q
        · cases q
        · exact q
      obtain ⟨-, -, -, ⟨b1, b2, -, k', j', ρ', g1, g2, -, -, b85, -⟩⟩ := hP.at hm'
      have ρe : ρ' = ρ := by injection g1 with _ g; exact g.symm
      rw [ρe] at g2 b85
      by_cases z : plo w F ps (y :: ρ) = plo w F ps c
      · have ec : y :: ρ = c := hP.inj (Or.inr hm') (Or.inr hc) z
        refine hI _ _ (br0 (fun q => q.2 z) (bC_X17_isWithin_22 (call := wpC p d) (fa ?_)))
        rw [if_pos (by omega)]
        exact hQ.1 (h.mp (Or.inl ec.symm))
      · refine hI _ _ (br1 ⟨by omega, z⟩ ⟨by rw [b1]; decide, fa ?_⟩)
        rw [b85]
        refine ih (by rcases g2 with q | q; exact Or.inl q.1; exact Or.inr q.1) ?_
        rw [← abv_c (y := y), ← h]
        constructor
        · intro q; exact Or.inr q
        · rintro (q | q)
          · exact absurd (by rw [q]) z
          · exact q
  refine key π' (by rcases e2 with q | q; exact Or.inl q.1; exact Or.inr q.1) ?_
  rw [e1, abv_c]
/-- a test above another comes before it -/
theorem anc_before {R m way : Nat} (h : RP τ R m) : ∀ (N : Nat) (l1 l2 : List (Pa × Nat)) (e : Pa × Nat), e.1.length ≤ N → tsR τ R way = l1 ++ e :: l2 → ∀ e', e' ∈ tsR τ R way → e'.1 ≠ [] → abv e'.1 e.1 → e' ∈ l1 := by
  intro N
  induction N with
  | zero =>
    intro l1 l2 e hl _ e' _ hne ⟨s, hs, q⟩
    have : e.1.length = s.length + e'.1.length := by rw [q, List.length_append]
    have : e'.1 = [] := List.eq_nil_of_length_eq_zero (by omega)
    exact absurd this hne
  | succ N ih =>
    intro l1 l2 e hl he e' he' hne ha
    rcases tsR_ord h he with ⟨i, hi⟩ | ⟨k, i, σ, s1, e0, s2, s3, -⟩
    · rw [hi, abv_c] at ha
      rcases ha with q | ⟨s, hs, q⟩
      · exact absurd q hne
      · cases s with
        | nil => exact absurd rfl hs
        | cons _ _ => cases q
    · have m0 : e0 ∈ tsR τ R way := by rw [he]; exact List.mem_append_left _ s2
      rw [s1, abv_c] at ha
      rcases ha with q | q
      · rw [tsR_one h he' m0 (by rw [s3, q])]
        exact s2
      · obtain ⟨a1, a2, ea⟩ := List.append_of_mem s2
        have := ih a1 (a2 ++ e :: l2) e0 (by
          have : e.1.length = σ.length + 1 := by rw [s1]; rfl
          rw [s3]; omega) (by rw [he, ea]; simp) e' he' hne (by rw [s3]; exact q)
        rw [ea]
        exact List.mem_append_left _ this
/-- the topmost that is left -/
theorem top_left {R way : Nat} {T : List (Pa × Nat)} (hT : T = tsR τ R way) {c : Pa × Nat → Prop} (hc : ∀ e, e ∈ T → (c e ↔ stn τ P e = 0 ∧ ∀ e', e' ∈ T → stn τ P e' = 0 → ¬ abv e'.1 e.1)) : ∀ (N : Nat) (e' : Pa × Nat), e'.1.length ≤ N → e' ∈ T → stn τ P e' = 0 → ∀ ρ, abv e'.1 ρ → ∃ a, a ∈ T ∧ c a ∧ abv a.1 ρ := by
  intro N
  induction N with
  | zero =>
    intro e' hl he hs ρ ha
    refine ⟨e', he, (hc e' he).mpr ⟨hs, fun e2 _ _ ⟨s, hs2, q⟩ => ?_⟩, ha⟩
    have : e'.1.length = s.length + e2.1.length := by rw [q, List.length_append]
    have : s = [] := List.eq_nil_of_length_eq_zero (by omega)
    exact hs2 this
  | succ N ih =>
    intro e' hl he hs ρ ha
    by_cases z : ∃ e2, e2 ∈ T ∧ stn τ P e2 = 0 ∧ abv e2.1 e'.1
    · obtain ⟨e2, z1, z2, z3⟩ := z
      have z4 := z3
      obtain ⟨s, hs2, q⟩ := z3
      have l1 : e'.1.length = s.length + e2.1.length := by rw [q, List.length_append]
      have l2 : s.length ≠ 0 := fun g => hs2 (List.eq_nil_of_length_eq_zero g)
      exact ih e2 (by omega) z1 z2 ρ (abv_trans z4 ha)
    · exact ⟨e', he, (hc e' he).mpr ⟨hs, fun e2 h1 h2 h3 => z ⟨e2, h1, h2, h3⟩⟩, ha⟩
end ZAsk
