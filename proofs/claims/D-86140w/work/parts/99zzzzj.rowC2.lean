/-! the component's rows: names; what a row comes to -/
section ZRowC2
variable {p b e d rr : Nat} {w : CW} {τ : TW}
/-- a name stands at a place -/
def upn (nm : Int) (π : Pa) (nb : Nat → Option Pa) : Nat → Option Pa := fun k => if (k : Int) = nm then some π else nb k
def upo (τ : TW) (q : Nat) (π : Pa) (nb : Nat → Option Pa) : Nat → Option Pa := fun k => if (k : Int) = tA τ 24 q ∨ (k : Int) = tA τ 25 q then some π else nb k
def nbL (f : Nat → Nat → Pa → (Nat → Option Pa) → (Nat → Option Pa)) (τ : TW) (k : Nat) (π : Pa) : Nat → List Nat → Nat → (Nat → Option Pa) → (Nat → Option Pa)
  | _, [], _, nb => nb
  | j, c :: cs, w, nb => nbL f τ k π (j + 1) cs w (f c ((w / prN τ cs) % rw' τ c) ((k, j) :: π) nb)
/-- what names a pattern binds, in one way -/
def nbF (τ : TW) : Nat → Nat → Nat → Pa → (Nat → Option Pa) → (Nat → Option Pa)
  | 0, _, _, _, nb => nb
  | n + 1, q, w, π, nb => if tA τ 17 q = 6 then nbF τ n (selA τ (kids τ q) w).1 (selA τ (kids τ q) w).2 π (upo τ q π nb)
      else if tA τ 17 q = 0 then upo τ q π nb
      else nbL (nbF τ n) τ (tA τ 19 q).toNat π 0 (kids τ q) w (upo τ q π nb)
theorem nbL_pt {f : Nat → Nat → Pa → (Nat → Option Pa) → (Nat → Option Pa)} (hf : ∀ c x π nb nb' k, nb k = nb' k → f c x π nb k = f c x π nb' k) {k0 : Nat} {π : Pa} : ∀ (cs : List Nat) (j w : Nat) (nb nb' : Nat → Option Pa) (k : Nat), nb k = nb' k → nbL f τ k0 π j cs w nb k = nbL f τ k0 π j cs w nb' k := by
  intro cs
  induction cs with
  | nil => intro j w nb nb' k h; exact h
  | cons c cs ih =>
    intro j w nb nb' k h
    exact ih (j + 1) w _ _ k (hf _ _ _ _ _ k h)
theorem nbF_pt : ∀ n q w π nb nb' k, nb k = nb' k → nbF τ n q w π nb k = nbF τ n q w π nb' k := by
  intro n
  induction n with
  | zero => intro q w π nb nb' k h; exact h
  | succ n ih =>
    intro q w π nb nb' k h
    have ho : upo τ q π nb k = upo τ q π nb' k := by unfold upo; rw [h]
    unfold nbF
    split
    · exact ih _ _ _ _ _ k ho
    · split
      · exact ho
      · exact nbL_pt ih _ _ _ _ _ k ho
/-- names of others stay -/
theorem nbL_no {f : Nat → Nat → Pa → (Nat → Option Pa) → (Nat → Option Pa)} {k0 : Nat} {π : Pa} {k : Nat} : ∀ (cs : List Nat) (j w : Nat) (nb : Nat → Option Pa), (∀ c, c ∈ cs → ∀ x π nb, x < rw' τ c → f c x π nb k = nb k) → (∀ c, c ∈ cs → 1 ≤ rw' τ c) → nbL f τ k0 π j cs w nb k = nb k := by
  intro cs
  induction cs with
  | nil => intro j w nb _ _; rfl
  | cons c cs ih =>
    intro j w nb hf h1
    show nbL f τ k0 π (j + 1) cs w (f c ((w / prN τ cs) % rw' τ c) ((k0, j) :: π) nb) k = nb k
    rw [ih (j + 1) w _ (fun y hy => hf y (List.mem_cons_of_mem _ hy)) (fun y hy => h1 y (List.mem_cons_of_mem _ hy))]
    exact hf c (List.mem_cons_self ..) _ _ _ (Nat.mod_lt _ (h1 c (List.mem_cons_self ..)))
/-- a name is written -/
theorem sC_row93 {w0 : CW} {F x : Nat} {S : Pa → Int} {ps : List Pa} {L : List (Pa × Nat)} {nb : Nat → Option Pa} {zb : Int} (hB : BS p b w0 τ F) (h : RI p b w0 w τ F S ps x rr L nb zb) {r : Nat} {way nm : Int} {x3 : Nat} (hr : 6 ≤ tg w r ∧ tg w r ≤ 12) (h68 : fI w 68 r = nm) (hnm : nm < 0 ∨ nm < 8) {π : Pa} (hπ : π ∈ ps) {Q : ZRes → CW → Prop} (hQ : ∀ w', RI p b w0 w' τ F S ps x rr L (upn nm π nb) zb → (∀ π, plo w' F ps π = plo w F ps π) → Q (.inl none) w') : wpC p (d + 1) 93 [ar r, ai way, ar (plo w F ps π), ar x3, ar x] w Q := by
  obtain ⟨c, hc⟩ := h.2.2.2
  obtain ⟨⟨c1, c2, c3⟩, ⟨c4, c5, c6⟩, ⟨c7, c8, c9⟩, ⟨c10, c11, c12⟩, ⟨c13, c14, c15, c16⟩, c17, c18, c19, c80⟩ := id hc
  have tr : hF 68 (tg w r) = true := by
    have : tg w r = 6 ∨ tg w r = 7 ∨ tg w r = 8 ∨ tg w r = 9 ∨ tg w r = 10 ∨ tg w r = 11 ∨ tg w r = 12 := by omega
    rcases this with h | h | h | h | h | h | h <;> rw [h] <;> decide
  refine wC_X6_row (Nat.zero_le _) (bC_X6_row_0 ⟨tr, ?_⟩)
  rw [h68]
  by_cases z : nm < 0
  · refine br1 z (bC_X6_row_18 (call := wpC p d) ?_)
    have : upn nm π nb = nb := by
      funext k
      unfold upn
      rw [if_neg (by omega)]
    have hq := hQ w (by rw [this]; exact h) (fun _ => rfl)
    exact hq
  · obtain ⟨m, hm⟩ : ∃ m : Nat, nm = m := ⟨nm.toNat, by omega⟩
    subst hm
    have tp : tg w (plo w F ps π) = 15 := (h.2.1.at hπ).2.2.2.1
    have m8 : m < 8 := by omega
    refine br0 z ⟨by rw [c1]; decide, tr, ⟨by rw [c13]; decide, by omega, by rw [c14]; omega⟩, Or.inr (by rw [c13, tp]; decide), fa (bC_X6_row_18 (call := wpC p d) ?_)⟩
    obtain ⟨v, hv⟩ : ∃ v, v = qR w (fR w 84 x) (m : Nat) (plo w F ps π) := ⟨_, rfl⟩
    rw [← hv]
    have fv : Fr [fR w 84 x] w v := by
      rw [hv]
      exact (Fr.refl _ w).sqR (Or.inl (by simp))
    have Wv : WF p v := by rw [hv]; exact h.1.2.2.sqR _ _ _
    suffices hs : RI p b w0 v τ F S ps x rr L (upn (m : Nat) π nb) zb ∧ ∀ π, plo v F ps π = plo w F ps π from hQ v hs.1 hs.2
    refine h.st (c' := c) hB fv (fun r hr => ?_) Wv (fun ep => ?_)
    · rw [List.mem_singleton.mp hr, c13]; exact ⟨c15, by decide⟩
    · have tv : ∀ r, tg v r = tg w r := fun r => by rw [hv]; rfl
      have lv : ∀ r, ln v r = ln w r := fun r => by rw [hv]; rfl
      have rv : ∀ f r, fR v f r = fR w f r := fun f r => by rw [hv]; rfl
      have iv : ∀ f r, fI v f r = fI w f r := fun f r => by rw [hv]; rfl
      have hn2 : fR w 84 x ≠ fR w 82 x := fun y => by rw [y, c10] at c13; cases c13
      have ao : ∀ r (i : Nat), r ≠ fR w 84 x → aR v r i = aR w r i := fun r i hr => by
        rw [hv]
        show (if r = fR w 84 x ∧ _ then _ else _) = _
        rw [if_neg (fun y => hr y.1)]
        rfl
      have an : ∀ i : Nat, aR v (fR w 84 x) i = if i = m then plo w F ps π else aR w (fR w 84 x) i := fun i => by
        rw [hv]
        simp only [aR_qR]
        by_cases z : i = m
        · rw [if_pos ⟨trivial, by omega⟩, if_pos z]
        · rw [if_neg (by omega), if_neg z]
      unfold ROc
      rw [tv, rv, rv, rv, tv, tv, tv, lv, lv, lv, iv]
      refine ⟨⟨c1, c2, c3⟩, ⟨c4, c5, c6⟩, ⟨c7, c8, c9⟩, ⟨c10, c11, c12⟩, ⟨c13, c14, c15, c16⟩, fun i e hi => ?_, fun k hk => ?_, ?_⟩
      · rw [ao _ _ (fun y => c16 y.symm), ao _ _ (fun y => hn2 y.symm), ep]
        exact c17 i e hi
      · rw [an]
        unfold upn
        by_cases z : k = m
        · rw [if_pos z, if_pos (by omega)]
          exact ⟨(ep π).symm, fun ρ hρ => by rw [← Option.some.inj hρ]; exact hπ⟩
        · rw [if_neg z, if_neg (by omega), (c18 k hk).1]
          refine ⟨?_, (c18 k hk).2⟩
          unfold pno
          cases nb k with
          | none => rfl
          | some ρ => exact (ep ρ).symm
      · have z1 : cz v = cz w := by rw [hv]; rfl
        have z2 : cu v = cu w := by rw [hv]; rfl
        unfold zm at c19 ⊢
        rw [z1, z2]
        exact ⟨c19, by rw [rv]; exact c80⟩
/-- a place is asked for -/
theorem RI.pl {w0 w' : CW} {F x : Nat} {S : Pa → Int} {ps ps' : List Pa} {L : List (Pa × Nat)} {nb : Nat → Option Pa} {zb : Int} {π : Pa} (hB : BS p b w0 τ F) (h : RI p b w0 w τ F S ps x rr L nb zb) (g : PLG p w w' F ps ps' π) (hP : PL p w' (nK τ) F S ps') : RI p b w0 w' τ F S ps' x rr L nb zb ∧ (∀ ρ, ρ ∈ ps → ρ ∈ ps' ∧ plo w' F ps' ρ = plo w F ps ρ) ∧ ∃ more, ps' = ps ++ more := by
  obtain ⟨⟨a1, a2, a3⟩, b1, ⟨d1, d2⟩, c, hc⟩ := h
  obtain ⟨⟨c1, c2, c3⟩, ⟨c4, c5, c6⟩, ⟨c7, c8, c9⟩, ⟨c10, c11, c12⟩, ⟨c13, c14, c15, c16⟩, c17, c18, c19, c80⟩ := hc
  obtain ⟨g1, g2, g3, g4, g5, g6, g7, g8⟩ := g
  obtain ⟨l1, l2, l3⟩ := hB.le
  have e50 := d2 50
  rw [e50] at g1
  have more : ∃ more, ps' = ps ++ more := by
    rcases g7 with y | y
    · exact ⟨[], by rw [y, List.append_nil]⟩
    · exact ⟨[π], y⟩
  have ext : ∀ ρ, ρ ∈ ps → ρ ∈ ps' ∧ plo w' F ps' ρ = plo w F ps ρ := fun ρ hρ => by
    obtain ⟨m, hm⟩ := more
    rw [hm]
    exact ⟨List.mem_append_left _ hρ, plo_ext (g5 50) g6 (Or.inr hρ) m⟩
  have no : ∀ r, b < r → r ∉ [F, fR w0 50 F] := fun r hr hm => by
    rcases List.mem_cons.mp hm with y | y
    · omega
    · have := List.mem_singleton.mp y
      omega
  have ox := g1.2.2.2.2 x (a3.le (by rw [c1]; decide)) (no x c2)
  have o81 := g1.2.2.2.2 (fR w 81 x) (a3.le (by rw [c7]; decide)) (no _ c9)
  have o82 := g1.2.2.2.2 (fR w 82 x) (a3.le (by rw [c10]; decide)) (no _ c12)
  have o84 := g1.2.2.2.2 (fR w 84 x) (a3.le (by rw [c13]; decide)) (no _ c15)
  refine ⟨⟨⟨a1.trans g1, a2.trans g2, g3⟩, hP, ⟨fun f hf => (g4 f hf).trans (d1 f hf), fun f => (g5 f).trans (d2 f)⟩, c, ?_⟩, ext, more⟩
  unfold ROc
  rw [ob.efR ox, ob.efR ox, ob.efR ox, ob.etg ox, ob.efI ox, ob.etg o81, ob.eln o81, ob.etg o82, ob.eln o82, ob.etg o84, ob.eln o84]
  refine ⟨⟨c1, c2, c3⟩, ⟨c4, c5, c6⟩, ⟨c7, c8, c9⟩, ⟨c10, c11, c12⟩, ⟨c13, c14, c15, c16⟩, fun i e hi => ?_, fun k hk => ?_, ?_⟩
  · rw [ob.eaR o81, ob.eaR o82]
    obtain ⟨q1, q2, q3, q4⟩ := c17 i e hi
    exact ⟨(ext _ q1).1, by rw [(ext _ q1).2]; exact q2, q3, q4⟩
  · rw [ob.eaR o84, (c18 k hk).1]
    refine ⟨?_, fun ρ hρ => (ext ρ ((c18 k hk).2 ρ hρ)).1⟩
    unfold pno
    cases hn : nb k with
    | none => rfl
    | some ρ => exact (ext ρ ((c18 k hk).2 ρ hn)).2.symm
  · obtain ⟨m, hm⟩ := more
    have : ps.length ≤ ps'.length := by rw [hm, List.length_append]; omega
    exact ⟨by omega, (ob.efR ox 80).trans c80⟩
/-- what lies below a pattern: all ways -/
def sub (τ : TW) : Nat → Nat → Pa → List Pa
  | 0, _, _ => []
  | n + 1, q, π => if tA τ 17 q = 6 then ((kids τ q).map (fun c => sub τ n c π)).flatten
      else if tA τ 17 q = 5 then (((kids τ q).zipIdx).map (fun x => (((tA τ 19 q).toNat, x.2) :: π) :: sub τ n x.1 (((tA τ 19 q).toNat, x.2) :: π))).flatten
      else []
theorem flat_len {α β : Type} (f : α → List β) (g : α → Nat) : ∀ (l : List α), (∀ x, x ∈ l → (f x).length ≤ g x) → ((l.map f).flatten).length ≤ (l.map g).sum := by
  intro l
  induction l with
  | nil => intro _; exact Nat.le_refl 0
  | cons x l ih =>
    intro h
    have a := ih (fun y hy => h y (List.mem_cons_of_mem _ hy))
    have b := h x (List.mem_cons_self ..)
    simp only [List.map_cons, List.flatten_cons, List.length_append, List.sum_cons]
    omega
theorem zipIdx_sum {n : Nat} (g : Nat → Nat) : ∀ (l : List Nat) (k : Nat), ((l.zipIdx k).map (fun x => g x.1)).sum = (l.map g).sum := by
  intro l
  induction l with
  | nil => intro k; rfl
  | cons x l ih =>
    intro k
    simp only [List.zipIdx_cons, List.map_cons, List.sum_cons]
    rw [ih]
theorem mem_zip {l : List Nat} {x : Nat × Nat} {k : Nat} (h : x ∈ l.zipIdx k) : x.1 ∈ l := by
  have := List.mem_zipIdx h
  obtain ⟨_, _, h3⟩ := this
  rw [h3]
  exact List.getElem_mem _
theorem sub_len : ∀ n q π, WP τ n q → (sub τ n q π).length + 1 ≤ wsz τ n q := by
  intro n
  induction n with
  | zero => intro q π h; exact h.elim
  | succ n ih =>
    intro q π h
    obtain ⟨-, -, -, -, -, -, -, h5, h6⟩ := h
    have ew : wsz τ (n + 1) q = 1 + ((kids τ q).map (wsz τ n)).sum := rfl
    rw [ew]
    unfold sub
    by_cases z6 : tA τ 17 q = 6
    · rw [if_pos z6]
      have := flat_len (fun c => sub τ n c π) (wsz τ n) (kids τ q) (fun c hc => by
        have := ih c π ((h6 z6).2.2.2 c hc).1
        omega)
      omega
    · rw [if_neg z6]
      by_cases z5 : tA τ 17 q = 5
      · rw [if_pos z5]
        have := flat_len (fun x : Nat × Nat => (((tA τ 19 q).toNat, x.2) :: π) :: sub τ n x.1 (((tA τ 19 q).toNat, x.2) :: π)) (fun x => wsz τ n x.1) (kids τ q).zipIdx (fun x hx => by
          have := ih x.1 (((tA τ 19 q).toNat, x.2) :: π) ((h5 z5).2.2.2.2.2 x.1 (mem_zip hx))
          simp only [List.length_cons]
          omega)
        have e := zipIdx_sum (n := n) (wsz τ n) (kids τ q) 0
        omega
      · rw [if_neg z5]
        simp
end ZRowC2
