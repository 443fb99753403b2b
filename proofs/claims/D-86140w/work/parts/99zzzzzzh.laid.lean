/-! a function of a text that stands: laid, with its tree -/
section ZLaid
variable {p b e d f F n lo wy : Nat} {w w' : CW} {τ σ : TW} {rs : List (Nat × Nat)} {ps : List Pa} {ro : Nat × Nat → Nat} {ru : Nat → Nat}
theorem FH.keep (h : FH p w τ f F) (t : ∀ r, tg w r ≠ 0 → tg w' r = tg w r ∧ ln w' r = ln w r) (eI : ∀ g, g = 43 ∨ g = 44 → fI w' g F = fI w g F) (eR : ∀ g, g = 45 ∨ g = 47 ∨ g = 50 ∨ g = 55 → fR w' g F = fR w g F) (e42 : tA σ 42 f = tA τ 42 f) : FH p w' σ f F := by
  obtain ⟨⟨a1, a2, a3, a4, a5⟩, ⟨b1, b2⟩, ⟨c1, c2, c3⟩, ⟨d1, d2, d3⟩⟩ := h
  refine ⟨⟨by rw [(t F (by rw [a1]; decide)).1]; exact a1, a2, by rw [eI 43 (by decide)]; exact a3, by rw [eI 44 (by decide), e42]; exact a4, by rw [eR 55 (by decide)]; exact a5⟩, ⟨by rw [eR 45 (by decide)]; exact b1, ⟨?_, ?_, b2.2.2⟩⟩, ⟨by rw [eR 47 (by decide)]; exact c1, by rw [(t _ (by rw [c2]; decide)).1]; exact c2, by rw [(t _ (by rw [c2]; decide)).2]; exact c3⟩, ⟨by rw [eR 50 (by decide)]; exact d1, by rw [(t _ (by rw [d2]; decide)).1]; exact d2, by rw [(t _ (by rw [d2]; decide)).2]; exact d3⟩⟩
  · rw [(t _ (by rw [b2.1]; decide)).1]; exact b2.1
  · rw [(t _ (by rw [b2.1]; decide)).2]; exact b2.2.1
theorem FC.keep {m : Nat} (h : FC w τ f F m) (e46 : fI w' 46 F = fI w 46 F) (o1 : ∀ j : Nat, aI w' (F + 1) j = aI w (F + 1) j) (hx : KX τ σ) : FC w' σ f F m := by
  obtain ⟨a1, a2, a3, a4⟩ := h
  refine ⟨by rw [hx.a (by decide) (by decide)]; exact a1, by rw [e46]; exact a2, a3, fun j hj => ?_⟩
  rw [o1, hx.a (by decide) (by decide)]
  have := a4 j hj
  have := hx.2.1
  omega
theorem FRs.keep {T : List Nat} {k l h' : Nat} (h : FRs p w τ f F k l h') (e48 : fI w' 48 F = fI w 48 F) (o2 : ∀ i : Nat, aR w' (F + 2) i = aR w (F + 2) i) (W : WF p w) (hF : Fr T w w') (hT : TkF p w T) (hx : KX τ σ) (hk : KdK p w w' τ σ) : FRs p w' σ f F k l h' := by
  obtain ⟨a1, a2, a3, s, a5, a4⟩ := h
  refine ⟨by rw [hx.a (by decide) (by decide)]; exact a1, by rw [e48]; exact a2, a3, s, a5, fun i hi => ⟨(a4 i hi).1, ?_⟩⟩
  rw [o2]
  exact (a4 i hi).2.fr W hF hT hk (hx.urk f i)
theorem TO.kx {r q : Nat} (h : TO p w τ r q) (ho : 7 ≤ tg w r → tg w r ≤ 12 → ob w' r = ob w r) (hx : KX τ σ) (hk : ∀ k, k < nK τ → kd w' p k = kd w p k) : TO p w' σ r q := by
  obtain ⟨h1, h⟩ := h
  have t : 7 ≤ tg w r ∧ tg w r ≤ 12 := by rcases h with y | y | y | y | y <;> omega
  have o := ho t.1 t.2
  refine ⟨h1, ?_⟩
  rw [ob.etg o, ob.efI o, ob.efI o, ob.efI o, ob.efI o, ob.efR o, hx.a (g := 17) (by decide) (by decide), hx.a (g := 19) (by decide) (by decide), hx.a (g := 20) (by decide) (by decide), hx.a (g := 21) (by decide) (by decide)]
  rcases h with y | y | y | y | ⟨y1, y2, k, y3, y4, y5⟩
  · exact Or.inl y
  · exact Or.inr (Or.inl y)
  · exact Or.inr (Or.inr (Or.inl y))
  · exact Or.inr (Or.inr (Or.inr (Or.inl y)))
  · exact Or.inr (Or.inr (Or.inr (Or.inr ⟨y1, y2, k, y3, Nat.lt_of_lt_of_le y4 hx.2.1, by rw [hk k y4]; exact y5⟩)))
theorem PL.kx {S S' : Pa → Int} (h : PL p w (nK τ) F S ps) (e51 : fI w' 51 F = fI w 51 F) (e50 : fR w' 50 F = fR w 50 F) (ea : ob w' (fR w 50 F) = ob w (fR w 50 F)) (h15 : ∀ r, tg w r = 15 → ob w' r = ob w r) (hx : KX τ σ) (h24 : nK τ ≤ 24) (hk : ∀ k, k < nK τ → kd w' p k = kd w p k) (hS : ∀ π, π ∈ ps → S' π = S π) : PL p w' (nK σ) F S' ps ∧ ∀ π, plo w' F ps π = plo w F ps π := by
  obtain ⟨p1, ⟨p2, p3, p4⟩, p5, p6, p7⟩ := h
  have ep : ∀ π, plo w' F ps π = plo w F ps π := fun π => by
    unfold plo
    rw [e50, ob.eaR ea]
  refine ⟨⟨e51.trans p1, by rw [e50, ob.etg ea, ob.eln ea]; exact ⟨p2, p3, p4⟩, p5, p6, fun i π hi => ?_⟩, ep⟩
  obtain ⟨o1, o2, o3, k, j, π', o4, o5, o6, o7, o8, o9, o10⟩ := p7 i π hi
  rw [e50, ob.eaR ea]
  have o := h15 _ o1
  refine ⟨by rw [ob.etg o]; exact o1, o2, by rw [ob.efI o]; exact o3, k, j, π', o4, ?_, by rw [ob.efI o]; exact o6, by rw [ob.efI o]; exact o7, by rw [ob.efR o, ep]; exact o8, ?_, by rw [ob.efI o, hS π (List.mem_of_getElem? hi)]; exact o10⟩
  · rcases o5 with y | y
    · exact Or.inl y
    · exact Or.inr ⟨y.1, Nat.lt_of_lt_of_le y.2 hx.2.1⟩
  · rw [ob.efR o, o9]
    unfold kio
    rcases o5 with y | y
    · rw [if_pos y.2, if_pos y.2]
    · have y2 := y.2
      rw [if_neg (by omega), if_neg (by omega), hk k y.2]
theorem RW.kx {x rr : Nat} {L : List (Pa × Nat)} {nb : Nat → Option Pa} (h : RW p w τ F ps x rr L nb) (hl : RWl lo w x) (ho : ∀ r, (lo < r ∧ (tg w r = 14 ∨ tg w r = 118 ∨ tg w r = 115)) ∨ (p + 8 < r ∧ 7 ≤ tg w r ∧ tg w r ≤ 12) → ob w' r = ob w r) (hx : KX τ σ) (hk : ∀ k, k < nK τ → kd w' p k = kd w p k) (e50 : fR w' 50 F = fR w 50 F) (hp : ∀ ρ, plo w' F ps ρ = plo w F ps ρ) : RW p w' σ F ps x rr L nb ∧ RWl lo w' x := by
  obtain ⟨⟨a1, a2, a3, a4⟩, ⟨b1, b2, b3, b4⟩, ⟨c1, c2, c3⟩, ⟨d1, d2, d3, d4⟩, e1, e2⟩ := h
  obtain ⟨l1, l2, l3, l4⟩ := id hl
  have ox := ho x (Or.inl ⟨l1, Or.inl a1⟩)
  have o81 := ho _ (Or.inl ⟨l2, Or.inr (Or.inr b1)⟩)
  have o82 := ho _ (Or.inl ⟨l3, Or.inr (Or.inl c1)⟩)
  have o84 := ho _ (Or.inl ⟨l4, Or.inr (Or.inr d1)⟩)
  refine ⟨?_, hl.ob ox⟩
  unfold RW
  rw [ob.efR ox, ob.efR ox, ob.efR ox, ob.efR ox, ob.etg ox, ob.efI ox, ob.etg o81, ob.eln o81, ob.etg o82, ob.eln o82, ob.etg o84, ob.eln o84, e50]
  refine ⟨⟨a1, a2, a3, a4⟩, ⟨b1, b2, b3, b4⟩, ⟨c1, c2, c3⟩, ⟨d1, d2, d3, d4⟩, fun i e hi => ?_, fun k hk' => ?_⟩
  · obtain ⟨q1, q2, q3⟩ := e1 i e hi
    rw [ob.eaR o81, ob.eaR o82, hp]
    exact ⟨q1, q2, q3.kx (fun t1 t2 => ho _ (Or.inr ⟨q3.1, t1, t2⟩)) hx hk⟩
  · rw [ob.eaR o84, (e2 k hk').1]
    refine ⟨?_, (e2 k hk').2⟩
    unfold pno
    cases hn : nb k with
    | none => rfl
    | some ρ => exact (hp ρ).symm
/-- steps of places: kinds, parts -/
def PSo (τ : TW) (ps : List Pa) : Prop := ∀ k j π, (k, j) :: π ∈ ps → k = 24 ∨ (k < nK τ ∧ j < 4)
theorem sub_in : ∀ n q π, WP τ n q → ∀ ρ, ρ ∈ sub τ n q π → ∃ k j π', ρ = (k, j) :: π' ∧ k < nK τ ∧ j < 4 := by
  intro n
  induction n with
  | zero => intro q π h; exact h.elim
  | succ n ih =>
    intro q π h ρ hρ
    obtain ⟨-, -, -, -, -, -, -, h5, h6⟩ := h
    unfold sub at hρ
    by_cases z6 : tA τ 17 q = 6
    · rw [if_pos z6] at hρ
      obtain ⟨l, l1, l2⟩ := List.mem_flatten.mp hρ
      obtain ⟨c, c1, c2⟩ := List.mem_map.mp l1
      rw [← c2] at l2
      exact ih c π ((h6 z6).2.2.2 c c1).1 ρ l2
    · rw [if_neg z6] at hρ
      by_cases z5 : tA τ 17 q = 5
      · rw [if_pos z5] at hρ
        obtain ⟨b1, b2, b3, ⟨k, b4, b5, b6, b7⟩, b8, b9⟩ := h5 z5
        obtain ⟨l, l1, l2⟩ := List.mem_flatten.mp hρ
        obtain ⟨c, c1, c2⟩ := List.mem_map.mp l1
        rw [← c2] at l2
        rcases List.mem_cons.mp l2 with y | y
        · have := List.mem_zipIdx_iff_getElem?.mp c1
          have := (List.getElem?_eq_some_iff.mp this).1
          exact ⟨_, _, _, y, by rw [b4]; exact b5, by omega⟩
        · exact ih c.1 _ (b9 c.1 (mem_zip c1)) ρ y
      · rw [if_neg z5] at hρ
        cases hρ
theorem PSo.all {m : Nat} (h : ∀ i, i < n → RP τ (16 * f + i) m) (hp : ∀ ρ, ρ ∈ ps → ρ ∈ allF τ f n) : PSo τ ps := by
  intro k j π hm
  have := hp _ hm
  unfold allF at this
  obtain ⟨l, l1, l2⟩ := List.mem_flatten.mp this
  obtain ⟨i, i1, i2⟩ := List.mem_map.mp l1
  rw [← i2] at l2
  unfold allR at l2
  obtain ⟨l', l3, l4⟩ := List.mem_flatten.mp l2
  obtain ⟨c, c1, c2⟩ := List.mem_map.mp l3
  rw [← c2] at l4
  rcases List.mem_cons.mp l4 with y | y
  · injection y with y1 y2
    injection y1 with y3 y4
    exact Or.inl y3
  · obtain ⟨k', j', π', q1, q2, q3⟩ := sub_in 7 c.1 _ ((h i (List.mem_range.mp i1)).2.2.2.1 c.1 (mem_zip c1)) _ y
    injection q1 with q4 q5
    injection q4 with q6 q7
    exact Or.inr ⟨by omega, by omega⟩
theorem srP_kx (hx : KX τ σ) (h24 : nK τ ≤ 24) (h : PSo τ ps) {π : Pa} (hp : π ∈ ps) : srP σ f π = srP τ f π := by
  cases π with
  | nil => rfl
  | cons a π =>
    obtain ⟨k, j⟩ := a
    show (if k = 24 then tA σ 44 (3 * f + j : Nat) else tA σ 15 (4 * k + j : Nat)) = (if k = 24 then tA τ 44 (3 * f + j : Nat) else tA τ 15 (4 * k + j : Nat))
    rw [hx.a (g := 44) (by decide) (by decide)]
    rcases h k j π hp with q | ⟨q1, q2⟩
    · rw [if_pos q, if_pos q]
    · rw [if_neg (by omega), if_neg (by omega), (hx.2.2 k q1).2.2 j q2]
theorem TSt.kx (h : TSt p w τ f F ps rs ro ru) (hl : ∀ x, x ∈ rs → RWl lo w (ro x)) (hps : PSo τ ps) (W' : WF p w') (K' : KR p w' σ) (hx : KX τ σ) (hk : ∀ k, k < nK τ → kd w' p k = kd w p k) (tF : tg w' F = 4) (e51 : fI w' 51 F = fI w 51 F) (e50 : fR w' 50 F = fR w 50 F) (eA : ob w' (fR w 50 F) = ob w (fR w 50 F)) (ho : ∀ r, (lo < r ∧ (tg w r = 14 ∨ tg w r = 118 ∨ tg w r = 115)) ∨ (p + 8 < r ∧ ((7 ≤ tg w r ∧ tg w r ≤ 12) ∨ tg w r = 15)) → ob w' r = ob w r) (h5 : ∀ r, tg w r = 5 → p + 8 < r → ob w' r = ob w r) (h5p : ∀ x, x ∈ rs → p + 8 < ru x.1) : (TSt p w' σ f F ps rs ro ru ∧ ∀ x, x ∈ rs → RWl lo w' (ro x)) ∧ ∀ π, plo w' F ps π = plo w F ps π := by
  obtain ⟨⟨W, K, _⟩, hP, hC, hR, hU, hI⟩ := h
  have n24 : nK τ ≤ 24 := hC.1.2.2.1
  have h15 : ∀ r, tg w r = 15 → ∀ π i, ps[i]? = some π → r = aR w (fR w 50 F) (i : Nat) → ob w' r = ob w r := fun r hr π i hi e => by
    obtain ⟨o1, o2, -⟩ := hP.2.2.2.2 i π hi
    rw [← e] at o2
    exact ho r (Or.inr ⟨o2, Or.inr hr⟩)
  have P' : PL p w' (nK σ) F (srP σ f) ps ∧ ∀ π, plo w' F ps π = plo w F ps π := by
    have ep : ∀ π, plo w' F ps π = plo w F ps π := fun π => by
      unfold plo
      rw [e50, ob.eaR eA]
    obtain ⟨p1, ⟨p2, p3, p4⟩, p5, p6, p7⟩ := hP
    refine ⟨⟨e51.trans p1, by rw [e50, ob.etg eA, ob.eln eA]; exact ⟨p2, p3, p4⟩, p5, p6, fun i π hi => ?_⟩, ep⟩
    obtain ⟨o1, o2, o3, k, j, π', o4, o5, o6, o7, o8, o9, o10⟩ := p7 i π hi
    rw [e50, ob.eaR eA]
    have o := ho _ (Or.inr ⟨o2, Or.inr o1⟩)
    refine ⟨by rw [ob.etg o]; exact o1, o2, by rw [ob.efI o]; exact o3, k, j, π', o4, ?_, by rw [ob.efI o]; exact o6, by rw [ob.efI o]; exact o7, by rw [ob.efR o, ep]; exact o8, ?_, by rw [ob.efI o, srP_kx hx n24 hps (List.mem_of_getElem? hi)]; exact o10⟩
    · rcases o5 with y | y
      · exact Or.inl y
      · exact Or.inr ⟨y.1, Nat.lt_of_lt_of_le y.2 hx.2.1⟩
    · rw [ob.efR o, o9]
      unfold kio
      rcases o5 with y | y
      · rw [if_pos y.2, if_pos y.2]
      · have y2 := y.2
        rw [if_neg (by omega), if_neg (by omega), hk k y.2]
  have rowsOK : ∀ x, x ∈ rs → RW p w' σ F ps (ro x) (ru x.1) (tsR σ x.1 x.2) (nbR σ x.1 x.2) ∧ RWl lo w' (ro x) := fun x hxx => by
    rw [x_tsR hx, x_nbR hx]
    exact (hR x hxx).kx (hl x hxx) (fun r hr => ho r (by
      rcases hr with q | q
      · exact Or.inl q
      · exact Or.inr ⟨q.1, Or.inl q.2⟩)) hx hk e50 P'.2
  refine ⟨⟨⟨⟨W', K', tF⟩, P'.1, x_CX hx K' hC, fun x hxx => (rowsOK x hxx).1, fun x hxx => ?_, hI⟩, fun x hxx => (rowsOK x hxx).2⟩, P'.2⟩
  obtain ⟨u1, u2⟩ := hU x hxx
  have ou := h5 (ru x.1) u1 (h5p x hxx)
  rw [ob.etg ou, ob.efR ou, hx.a (g := 53) (by decide) (by decide)]
  exact ⟨u1, u2⟩
/-- a tree's objects stay -/
theorem CTn.eo2 {w0 : CW} (eo : ∀ q, lo < q → ((19 ≤ tg w q ∧ tg w q ≤ 25) ∨ tg w q = 113 ∨ tg w q = 112 ∨ tg w q = 102 ∨ tg w q = 103) → ob w' q = ob w q) : ∀ m P n r, CTn p w0 w τ f F ps rs ro wy lo m P n r → CTn p w0 w' τ f F ps rs ro wy lo m P n r := by
  intro m
  induction m with
  | zero => intro P n r _; trivial
  | succ m ih =>
    intro P n r h
    obtain ⟨⟨a1, a2, a3⟩, ⟨b1, b2, b3⟩, c, d, e⟩ := h
    have o := eo r a1 (Or.inl a2)
    have o7 := eo _ b3 (Or.inr (Or.inl b1))
    have dd : NDC p w0 w' τ f F ps rs ro wy lo P r := by
      refine ⟨fun q => by rw [ob.etg o]; exact d.1 q, fun x hx => ⟨fun q => ?_, fun e he => ?_⟩⟩
      · rw [ob.etg o, ob.efR o]
        exact (d.2 x hx).1 q
      · obtain ⟨a1, a2, a3, a4, a5⟩ := (d.2 x hx).2 e he
        rw [ob.etg o, ob.efR o, ob.efR o, ob.efR o, ob.efR o]
        refine ⟨a1, fun q => ?_, a3, fun q => ?_, fun q => ?_⟩
        · obtain ⟨b1, b2, b3⟩ := a2 q
          exact ⟨b1, b2.ob (eo _ b3 (by rw [b2.1]; decide)), b3⟩
        · obtain ⟨b1, b2, b3⟩ := a4 q
          exact ⟨b1, b2.ob (eo _ b3 (by rw [b2.1]; decide)), b3⟩
        · obtain ⟨b1, b2, b3⟩ := a5 q
          exact ⟨b1, b2.ob (eo _ b3 (by rw [b2.1]; decide)), b3⟩
    refine ⟨⟨a1, by rw [ob.etg o]; exact a2, by rw [ob.efI o]; exact a3⟩, ⟨by rw [ob.efR o, ob.etg o7]; exact b1, by rw [ob.efR o, ob.eln o7]; exact b2, by rw [ob.efR o]; exact b3⟩, c, dd, fun i y hi => ?_⟩
    rw [ob.efR o, ob.eaR o7]
    exact ih _ _ _ (e i y hi)
end ZLaid
