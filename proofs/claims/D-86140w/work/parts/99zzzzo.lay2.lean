/-! the component's lay: rows that are laid -/
section ZLay2
variable {p b e d rr : Nat} {w : CW} {τ : TW}
/-- a row that is laid -/
def RW (p : Nat) (w : CW) (τ : TW) (F : Nat) (ps : List Pa) (x rr : Nat) (L : List (Pa × Nat)) (nb : Nat → Option Pa) : Prop :=
  (tg w x = 14 ∧ p + 8 < x ∧ fI w 83 x = L.length ∧ fR w 80 x = rr) ∧ (tg w (fR w 81 x) = 115 ∧ p + 8 < fR w 81 x ∧ fR w 81 x ≠ fR w 50 F ∧ (L.length : Nat) ≤ ln w (fR w 81 x)) ∧ (tg w (fR w 82 x) = 118 ∧ p + 8 < fR w 82 x ∧ L.length ≤ ln w (fR w 82 x)) ∧ (tg w (fR w 84 x) = 115 ∧ ln w (fR w 84 x) = 8 ∧ p + 8 < fR w 84 x ∧ fR w 84 x ≠ fR w 50 F) ∧
  (∀ i e, L[i]? = some e → e.1 ∈ ps ∧ aR w (fR w 81 x) (i : Nat) = plo w F ps e.1 ∧ TO p w τ (aR w (fR w 82 x) (i : Nat)) e.2) ∧ ∀ k : Nat, k < 8 → aR w (fR w 84 x) (k : Nat) = pno w F ps (nb k) ∧ ∀ ρ, nb k = some ρ → ρ ∈ ps
/-- .. newer than lo -/
def RWl (lo : Nat) (w : CW) (x : Nat) : Prop := lo < x ∧ lo < fR w 81 x ∧ lo < fR w 82 x ∧ lo < fR w 84 x
theorem RWl.ob {lo x : Nat} {w' : CW} (h : RWl lo w x) (o : ob w' x = ob w x) : RWl lo w' x := by
  unfold RWl
  rw [ob.efR o, ob.efR o, ob.efR o]
  exact h
theorem TO.keep {w' : CW} {r q : Nat} (h : TO p w τ r q) (ho : 7 ≤ tg w r → tg w r ≤ 12 → ob w' r = ob w r) (hk : ∀ k, kd w' p k = kd w p k) : TO p w' τ r q := by
  obtain ⟨h1, h⟩ := h
  have t : 7 ≤ tg w r ∧ tg w r ≤ 12 := by rcases h with y | y | y | y | y <;> omega
  have o := ho t.1 t.2
  refine ⟨h1, ?_⟩
  rw [ob.etg o, ob.efI o, ob.efI o, ob.efI o, ob.efI o, ob.efR o]
  rcases h with y | y | y | y | ⟨y1, y2, k, y3, y4, y5⟩
  · exact Or.inl y
  · exact Or.inr (Or.inl y)
  · exact Or.inr (Or.inr (Or.inl y))
  · exact Or.inr (Or.inr (Or.inr (Or.inl y)))
  · exact Or.inr (Or.inr (Or.inr (Or.inr ⟨y1, y2, k, y3, y4, by rw [hk]; exact y5⟩)))
theorem RW.keep {w' : CW} {F x : Nat} {ps ps' : List Pa} {L : List (Pa × Nat)} {nb : Nat → Option Pa} (h : RW p w τ F ps x rr L nb) (ho : ∀ r, p + 8 < r → (tg w r = 14 ∨ tg w r = 118 ∨ (7 ≤ tg w r ∧ tg w r ≤ 12) ∨ (tg w r = 115 ∧ r ≠ fR w 50 F)) → ob w' r = ob w r) (hk : ∀ k, kd w' p k = kd w p k) (e50 : fR w' 50 F = fR w 50 F) (hp : ∀ ρ, ρ ∈ ps → ρ ∈ ps' ∧ plo w' F ps' ρ = plo w F ps ρ) : RW p w' τ F ps' x rr L nb := by
  obtain ⟨⟨a1, a2, a3, a4⟩, ⟨b1, b2, b3, b4⟩, ⟨c1, c2, c3⟩, ⟨d1, d2, d3, d4⟩, e1, e2⟩ := h
  have ox := ho x a2 (Or.inl a1)
  have o81 := ho _ b2 (Or.inr (Or.inr (Or.inr ⟨b1, b3⟩)))
  have o82 := ho _ c2 (Or.inr (Or.inl c1))
  have o84 := ho _ d3 (Or.inr (Or.inr (Or.inr ⟨d1, d4⟩)))
  unfold RW
  rw [ob.efR ox, ob.efR ox, ob.efR ox, ob.efR ox, ob.etg ox, ob.efI ox, ob.etg o81, ob.eln o81, ob.etg o82, ob.eln o82, ob.etg o84, ob.eln o84, e50]
  refine ⟨⟨a1, a2, a3, a4⟩, ⟨b1, b2, b3, b4⟩, ⟨c1, c2, c3⟩, ⟨d1, d2, d3, d4⟩, fun i e hi => ?_, fun k hk' => ?_⟩
  · obtain ⟨q1, q2, q3⟩ := e1 i e hi
    rw [ob.eaR o81, ob.eaR o82]
    exact ⟨(hp _ q1).1, by rw [(hp _ q1).2]; exact q2, q3.keep (fun t1 t2 => ho _ q3.1 (Or.inr (Or.inr (Or.inl ⟨t1, t2⟩)))) hk⟩
  · rw [ob.eaR o84, (e2 k hk').1]
    refine ⟨?_, fun ρ hρ => (hp ρ ((e2 k hk').2 ρ hρ)).1⟩
    unfold pno
    cases hn : nb k with
    | none => rfl
    | some ρ => exact (hp ρ ((e2 k hk').2 ρ hn)).2.symm
/-- names bound by a row -/
def nbR (τ : TW) (R way : Nat) : Nat → Option Pa := nbL (nbF τ 7) τ 24 [] 0 (cks τ R) way (fun _ => none)
/-- all places of the first n rules of a function -/
def allR (τ : TW) (R : Nat) : List Pa := (((cks τ R).zipIdx).map (fun x => [(24, x.2)] :: sub τ 7 x.1 [(24, x.2)])).flatten
def allF (τ : TW) (f n : Nat) : List Pa := ((List.range n).map (fun i => allR τ (16 * f + i))).flatten
/-- sorts of places -/
def srP (τ : TW) (f : Nat) : Pa → Int
  | [] => 0
  | (k, j) :: _ => if k = 24 then tA τ 44 (3 * f + j : Nat) else tA τ 15 (4 * k + j : Nat)
/-- a rule's object and its patterns -/
def RUL (p : Nat) (w : CW) (τ : TW) (R x m : Nat) : Prop := tg w x = 5 ∧ PArr (p + 8) w (fR w 58 x) m ∧ ∃ (c : Nat → Nat) (N : Nat → Nat) (Di : Nat → Nat → Prop) (Sn : Nat → Int), cks τ R = lsN c 0 m ∧ tA τ 49 R = prF τ c m ∧ RP τ R m ∧ ∀ j, j < m → PRel p (p + 8) w τ Sn 7 (N j) (aR w (fR w 58 x) j) (c j) (Di j) ∧ N j ≤ np τ
/-- between rows: what is laid so far -/
def LSt (p : Nat) (wL w : CW) (τ : TW) (f F : Nat) (ps : List Pa) (A tot : Nat) (rs : List (Nat × Nat)) : Prop :=
  (Fr [F, fR wL 50 F] wL w ∧ PF [] p wL w ∧ WF p w) ∧ PL p w (nK τ) F (srP τ f) ps ∧ ((∀ f, f ≠ 51 → fI w f F = fI wL f F) ∧ (∀ f, f ≠ 49 → fR w f F = fR wL f F) ∧ fR w 49 F = A) ∧ (tg w A = 116 ∧ ln w A = tot ∧ cz wL < A ∧ A ≤ cz w) ∧ (∀ (i : Nat) (x : Nat × Nat), rs[i]? = some x → RW p w τ F ps (aR w A i) (aR wL (fR wL 47 F) ((x.1 - 16 * f : Nat) : Int)) (tsR τ x.1 x.2) (nbR τ x.1 x.2) ∧ RWl (cz wL) w (aR w A i)) ∧ zm w ≤ zm wL + 5 + tot + 49 * rs.length + 12 * off τ rs rs.length + 11 * ps.length
theorem nrW_ri {F ru : Nat} {S : Pa → Int} {ps : List Pa} (hB : BS p (cz w) w τ F) (hPL : PL p w (nK τ) F S ps) : RI p (cz w) w (nrW w ru) τ F S ps (cz w + 1) ru [] (fun _ => none) (zm w + 1 - 11 * ps.length) ∧ ∀ π, plo (nrW w ru) F ps π = plo w F ps π := by
  obtain ⟨v, hv⟩ : ∃ v, v = nrW w ru := ⟨_, rfl⟩
  rw [← hv]
  have W := hB.1
  have h1 : cz w < cz w + 1 := Nat.lt_succ_self _
  have hz := W.pz
  obtain ⟨lF, lA, l8⟩ := hB.le
  have fv : Fr [] w v := by
    rw [hv]
    exact (((((((Fr.refl [] w).snO).snA).spR (Or.inr h1)).snA).spR (Or.inr h1)).snA).spR (Or.inr h1) |>.spR (Or.inr h1)
  have pv : PF [] p w v := PF.of fv hz (fun y => by cases y)
  have Wv : WF p v := by
    rw [hv]
    exact (((W.snO 14 5).snA 115 8).snA 118 8).snA 115 8
  have tv : ∀ r, tg v r = if r = cz w + 4 then 115 else if r = cz w + 3 then 118 else if r = cz w + 2 then 115 else if r = cz w + 1 then 14 else tg w r := fun r => by rw [hv]; rfl
  have lv : ∀ r, ln v r = if r = cz w + 4 then 8 else if r = cz w + 3 then 8 else if r = cz w + 2 then 8 else ln w r := fun r => by rw [hv]; rfl
  have x81 : fR v 81 (cz w + 1) = cz w + 2 := by rw [hv]; simp [nrW, fR_pR, fR_nA]
  have x82 : fR v 82 (cz w + 1) = cz w + 3 := by rw [hv]; simp [nrW, fR_pR, fR_nA]
  have x84 : fR v 84 (cz w + 1) = cz w + 4 := by rw [hv]; simp [nrW, fR_pR, fR_nA]
  have x80 : fR v 80 (cz w + 1) = ru := by rw [hv]; simp [nrW, fR_pR, fR_nA]
  have x83 : fI v 83 (cz w + 1) = 0 := by rw [hv]; simp [nrW, fI_pR, fI_nA, fI_nO]
  have a84 : ∀ i : Int, aR v (cz w + 4) i = 0 := fun i => by
    rw [hv]
    show (if cz w + 4 = cz w + 1 + 1 + 1 + 1 then 0 else _) = 0
    rw [if_pos rfl]
  have keep := hPL.keep (w' := v) (ob.efI (fv.2.2.2.2 F lF (fun y => by cases y)) 51) (ob.efR (fv.2.2.2.2 F lF (fun y => by cases y)) 50) (fv.2.2.2.2 _ lA (fun y => by cases y)) (fun r hr => fv.2.2.2.2 r (W.le (by rw [hr]; decide)) (fun y => by cases y)) (fun k => by
    have l0 := W.le (r := fR w 0 p) (by rw [hB.2.2.1.1.1]; decide)
    unfold kd
    rw [(pv 0 (by decide)).2]
    exact ob.eaR (fv.2.2.2.2 _ l0 (fun y => by cases y)) k)
  have oF := fv.2.2.2.2 F lF (fun y => by cases y)
  refine ⟨⟨⟨fv.mono (fun r hr => by cases hr), pv, Wv⟩, keep.1, ⟨fun f _ => ob.efI oF f, fun f => ob.efR oF f⟩, 8, ?_⟩, keep.2⟩
  unfold ROc
  rw [x81, x82, x84, x80, x83, tv, tv, tv, tv, lv, lv, lv]
  refine ⟨⟨by simp, by omega, rfl⟩, ⟨Nat.le_refl _, Nat.zero_le _, by simp⟩, ⟨by simp, by simp, by omega⟩, ⟨by simp, by simp, by omega⟩, ⟨by simp, by simp, by omega, by omega⟩, fun i e hi => by simp at hi, fun k hk => ⟨a84 _, fun ρ hρ => by cases hρ⟩, ?_, rfl⟩
  have z1 : cz v = cz w + 4 := by rw [hv]; rfl
  have z2 : cu v = cu w + 29 := by rw [hv]; rfl
  unfold zm
  rw [z1, z2]
  omega
/-- a row that is done -/
theorem RI.rw {w0 : CW} {F x : Nat} {S : Pa → Int} {ps : List Pa} {L : List (Pa × Nat)} {nb : Nat → Option Pa} {zb : Int} (hB : BS p b w0 τ F) (h : RI p b w0 w τ F S ps x rr L nb zb) : RW p w τ F ps x rr L nb ∧ x ≤ cz w ∧ zm w ≤ zb + 48 + 12 * L.length + 11 * ps.length := by
  obtain ⟨⟨a1, a2, a3⟩, b1, ⟨d1, d2⟩, c, hc⟩ := h
  obtain ⟨⟨c1, c2, c3⟩, ⟨c4, c5, c6⟩, ⟨c7, c8, c9⟩, ⟨c10, c11, c12⟩, ⟨c13, c14, c15, c16⟩, c17, c18, c19, c80⟩ := hc
  obtain ⟨l1, l2, l3⟩ := hB.le
  have e50 := d2 50
  refine ⟨⟨⟨c1, by omega, c3, c80⟩, ⟨c7, by omega, by omega, by omega⟩, ⟨c10, by omega, by omega⟩, ⟨c13, c14, by omega, by omega⟩, fun i e hi => ?_, c18⟩, a3.le (by rw [c1]; decide), by omega⟩
  obtain ⟨q1, q2, q3, q4⟩ := c17 i e hi
  refine ⟨q1, q2, q3.keep (fun t1 t2 => hB.ob a1 (by omega) (by omega) (by omega)) (fun k => ?_)⟩
  exact (hB.kr a1 a2).2 k
theorem RI.rwl {w0 : CW} {F x : Nat} {S : Pa → Int} {ps : List Pa} {L : List (Pa × Nat)} {nb : Nat → Option Pa} {zb : Int} (h : RI p b w0 w τ F S ps x rr L nb zb) : RWl b w x := by
  obtain ⟨-, -, -, c, hc⟩ := h
  obtain ⟨⟨c1, c2, c3⟩, -, ⟨c7, c8, c9⟩, ⟨c10, c11, c12⟩, ⟨c13, c14, c15, c16⟩, -⟩ := hc
  exact ⟨c2, c9, c12, c15⟩
end ZLay2
