/-! the reference's rows: waits, the next pattern -/
section ZRowsT
variable {p b e d : Nat} {w : CW} {τ : TW}
/-- one more waits -/
def w0T (τ : TW) (q w pl v : Int) : TW := sI (sA (sA (sA (sA τ 72 (tI τ 71) q) 73 (tI τ 71) w) 74 (tI τ 71) pl) 75 (tI τ 71) v) 71 (tI τ 71 + 1)
theorem sT_wait0 {q x pl v : Int} (h0 : 0 ≤ tI τ 71) (h1 : tI τ 71 < 2000) {Q : ZRes → TW → Prop} (hQ : Q (.inl none) (w0T τ q x pl v)) : wpT (d + 1) 49 [ai q, ai x, ai pl, ai v] τ Q := by
  refine wT_wait0 (Nat.zero_le _) (bT_wait0_0 ⟨⟨h0, h1⟩, fa ⟨⟨h0, h1⟩, fa ⟨⟨h0, h1⟩, fa ⟨⟨h0, h1⟩, fa (fa ?_)⟩⟩⟩⟩)
  have e : w32 (tI τ 71 + 1) = tI τ 71 + 1 := w32_s (by omega) (by omega)
  show Q (.inl none) (sI _ 71 (w32 (tI τ 71 + 1)))
  rw [e]
  exact hQ
/-- what a child's value is -/
noncomputable def cv (τ : TW) (place v : Int) (j : Nat) : Int := if v < 0 then -4 else if place = 0 then tA τ 117 j else tA τ 114 (w32 (w32 (4 * v) + j))
/-- those side by side wait, the last one first -/
def wpW (τ : TW) (place : Int) (g : Nat → Int) (way : Nat) : Nat → List Nat → TW
  | _, [] => τ
  | j, c :: cs => w0T (wpW τ place g way (j + 1) cs) c ((way / prN τ cs % rw' τ c : Nat) : Int) (8 * place + j + 1) (g j)
theorem w0T_ft (q x pl v : Int) : FT [71, 72, 73, 74, 75] τ (w0T τ q x pl v) := by
  unfold w0T
  exact (((((FT.refl _ τ).ssA (by decide)).ssA (by decide)).ssA (by decide)).ssA (by decide)).ssI (by decide)
theorem wpW_ft (place : Int) (g : Nat → Int) (way : Nat) : ∀ (cs : List Nat) (j : Nat), FT [71, 72, 73, 74, 75] τ (wpW τ place g way j cs) := by
  intro cs
  induction cs with
  | nil => intro j; exact FT.refl _ _
  | cons c cs ih => intro j; exact (ih (j + 1)).trans (w0T_ft _ _ _ _)
theorem wpW_n (place : Int) (g : Nat → Int) (way : Nat) : ∀ (cs : List Nat) (j : Nat), tI (wpW τ place g way j cs) 71 = tI τ 71 + cs.length := by
  intro cs
  induction cs with
  | nil => intro j; show tI τ 71 = tI τ 71 + 0; omega
  | cons c cs ih =>
    intro j
    show tI (wpW τ place g way (j + 1) cs) 71 + 1 = tI τ 71 + ((cs.length + 1 : Nat) : Int)
    rw [ih (j + 1)]
    omega
/-- what waits at s -/
def SK (τ : TW) (s : Nat) (q x pl v : Int) : Prop := tA τ 72 s = q ∧ tA τ 73 s = x ∧ tA τ 74 s = pl ∧ tA τ 75 s = v
theorem w0T_at {s : Nat} (hs : tI τ 71 = s) (q x pl v : Int) : SK (w0T τ q x pl v) s q x pl v ∧ ∀ f (i : Int), i ≠ s → tA (w0T τ q x pl v) f i = tA τ f i := by
  unfold w0T SK
  rw [hs]
  refine ⟨?_, fun f i hi => ?_⟩
  · refine ⟨?_, ?_, ?_, ?_⟩ <;> simp [tA_sA, tA_sI]
  · simp only [tA_sA, tA_sI]
    rw [if_neg (fun h => hi h.2), if_neg (fun h => hi h.2), if_neg (fun h => hi h.2), if_neg (fun h => hi h.2)]
theorem wpW_lo (place : Int) (g : Nat → Int) (way : Nat) {s : Nat} (hs : tI τ 71 = s) : ∀ (cs : List Nat) (j : Nat) (f : Nat) (i : Int), i < s → tA (wpW τ place g way j cs) f i = tA τ f i := by
  intro cs
  induction cs with
  | nil => intro j f i _; rfl
  | cons c cs ih =>
    intro j f i hi
    have n := wpW_n (τ := τ) place g way cs (j + 1)
    have := (w0T_at (τ := wpW τ place g way (j + 1) cs) (s := s + cs.length) (by rw [n, hs]; omega) c ((way / prN τ cs % rw' τ c : Nat) : Int) (8 * place + j + 1) (g j)).2 f i (by omega)
    exact this.trans (ih (j + 1) f i hi)
theorem wpW_at (place : Int) (g : Nat → Int) (way : Nat) {s : Nat} (hs : tI τ 71 = s) : ∀ (cs : List Nat) (j i : Nat) (c : Nat), cs[i]? = some c → SK (wpW τ place g way j cs) (s + (cs.length - 1 - i)) c ((way / prN τ (cs.drop (i + 1)) % rw' τ c : Nat) : Int) (8 * place + (j + i : Nat) + 1) (g (j + i)) := by
  intro cs
  induction cs with
  | nil => intro j i c h; simp at h
  | cons x cs ih =>
    intro j i c h
    have n := wpW_n (τ := τ) place g way cs (j + 1)
    have top := w0T_at (τ := wpW τ place g way (j + 1) cs) (s := s + cs.length) (by rw [n, hs]; omega) x ((way / prN τ cs % rw' τ x : Nat) : Int) (8 * place + j + 1) (g j)
    cases i with
    | zero =>
      have e : x = c := by simpa using h
      subst e
      have := top.1
      show SK (w0T (wpW τ place g way (j + 1) cs) _ _ _ _) (s + (cs.length + 1 - 1 - 0)) _ _ _ _
      rw [show s + (cs.length + 1 - 1 - 0) = s + cs.length by omega]
      exact this
    | succ i =>
      have h' : cs[i]? = some c := by simpa using h
      have hl : i < cs.length := by
        have := List.getElem?_eq_some_iff.mp h'
        exact this.1
      have a := ih (j + 1) i c h'
      have lo := fun f => top.2 f ((s + (cs.length - 1 - i) : Nat) : Int) (by omega)
      show SK (w0T (wpW τ place g way (j + 1) cs) _ _ _ _) (s + (cs.length + 1 - 1 - (i + 1))) _ _ _ _
      rw [show s + (cs.length + 1 - 1 - (i + 1)) = s + (cs.length - 1 - i) by omega, show j + (i + 1) = j + 1 + i by omega]
      unfold SK at a ⊢
      rw [lo, lo, lo, lo]
      exact a
/-- the list of those side by side -/
def lsW (τ : TW) : Nat → List Nat → TW
  | _, [] => τ
  | i, c :: cs => lsW (sA τ 76 i c) (i + 1) cs
theorem lsW_ft : ∀ (cs : List Nat) (τ : TW) (i : Nat), FT [76] τ (lsW τ i cs) := by
  intro cs
  induction cs with
  | nil => intro τ i; exact FT.refl _ _
  | cons c cs ih => intro τ i; exact ((FT.refl _ τ).ssA (by decide)).trans (ih _ _)
theorem lsW_lo : ∀ (cs : List Nat) (τ : TW) (i : Nat) (j : Nat), j < i → tA (lsW τ i cs) 76 j = tA τ 76 j := by
  intro cs
  induction cs with
  | nil => intro τ i j _; rfl
  | cons c cs ih =>
    intro τ i j hj
    show tA (lsW (sA τ 76 i c) (i + 1) cs) 76 j = _
    rw [ih _ _ _ (by omega), tA_sA, if_neg (by omega)]
theorem lsW_at : ∀ (cs : List Nat) (τ : TW) (i j c : Nat), cs[j]? = some c → tA (lsW τ i cs) 76 (i + j : Nat) = c := by
  intro cs
  induction cs with
  | nil => intro τ i j c h; simp at h
  | cons x cs ih =>
    intro τ i j c h
    cases j with
    | zero =>
      have e : x = c := by simpa using h
      subst e
      show tA (lsW (sA τ 76 i x) (i + 1) cs) 76 (i + 0 : Nat) = _
      rw [lsW_lo _ _ _ _ (by omega)]
      show (if 76 = 76 ∧ ((i + 0 : Nat) : Int) = (i : Int) then (x : Int) else _) = _
      rw [if_pos ⟨rfl, by omega⟩]
    | succ j =>
      have h' : cs[j]? = some c := by simpa using h
      have := ih (sA τ 76 i x) (i + 1) j c h'
      rw [show i + 1 + j = i + (j + 1) by omega] at this
      exact this
theorem FT_prN {S : List Nat} {τ' : TW} (F : FT S τ τ') (h : 26 ∉ S) : ∀ cs, prN τ' cs = prN τ cs := by
  intro cs
  induction cs with
  | nil => rfl
  | cons c cs ih => unfold prN; rw [ih]; unfold rw'; rw [(F 26 h).2]
/-- those side by side, all -/
noncomputable def waW (τ : TW) (cs : List Nat) (way : Nat) (place v : Int) : TW := wpW (lsW τ 0 cs) place (cv τ place v) way 0 cs
theorem sT_waitAll {cs : List Nat} {x1 : Int} {way place s : Nat} {v : Int} (hc : CHL τ x1 cs) (hn : np τ ≤ 1700) (h1 : ∀ c, c ∈ cs → 1 ≤ tA τ 26 c ∧ tA τ 26 c ≤ 40) (hl : cs.length ≤ 7) (hw : way < 2147483648) (hp : place ≤ 200000000) (hs : tI τ 71 = s) (hs2 : s + cs.length ≤ 2000) (hv : v < 0 ∨ (v < 160 ∧ if place = 0 then cs.length ≤ 3 else cs.length ≤ 4)) {Q : ZRes → TW → Prop} (hQ : Q (.inl none) (waW τ cs way place v)) : wpT (d + 2) 48 [ai x1, ai way, ai place, ai v] τ Q := by
  refine wT_waitAll (Nat.zero_le _) (bT_waitAll_0 (bT_waitAll_6 ?_))
  intro I hI
  have first : ∀ (l : List Nat) (i : Nat) (x : Int) (σ : TW), FT [76] τ σ → CHL τ x l → i + l.length = cs.length → lsW σ i l = lsW τ 0 cs → I i x σ := by
    intro l
    induction l with
    | nil =>
      intro i x σ F hx hi hσ
      have hx : x = -4 := hx
      have hσ : σ = lsW τ 0 cs := hσ
      have hi : i = cs.length := hi
      refine hI _ _ _ (br1 hx (bT_waitAll_37 (fa (bT_waitAll_46 ?_))))
      rw [w32_s (a := (i : Int) - 1) (by omega) (by omega)]
      intro J hJ
      have r26 : ∀ i, tA σ 26 i = tA τ 26 i := (F 26 (by decide)).2
      have ep := FT_prN F (by decide)
      have er : ∀ c, rw' σ c = rw' τ c := fun c => by unfold rw'; rw [r26]
      have down : ∀ k : Nat, k ≤ cs.length → J ((way / prN τ (cs.drop k) : Nat) : Int) ((k : Int) - 1) (wpW σ place (cv τ place v) way k (cs.drop k)) := by
        intro k
        induction k with
        | zero =>
          intro _
          refine hJ _ _ _ (br1 (by omega) (bT_waitAll_143 (call := wpT (d + 1)) ?_))
          rw [hσ]
          exact hQ
        | succ k ih =>
          intro hk
          have hk' : k < cs.length := by omega
          obtain ⟨c, hc2⟩ : ∃ c, cs[k]? = some c := ⟨cs[k], List.getElem?_eq_getElem hk'⟩
          have hmem : c ∈ cs := List.mem_of_getElem? hc2
          have ed : cs.drop k = c :: cs.drop (k + 1) := by
            rw [List.drop_eq_getElem_cons hk']
            congr 1
            have := List.getElem?_eq_getElem hk'
            rw [this] at hc2
            exact Option.some.inj hc2
          obtain ⟨u, hu⟩ : ∃ u, u = wpW σ place (cv τ place v) way (k + 1) (cs.drop (k + 1)) := ⟨_, rfl⟩
          have Fu : FT [71, 72, 73, 74, 75] σ u := by rw [hu]; exact wpW_ft _ _ _ _ _
          have nu : tI u 71 = s + (cs.length - (k + 1) : Nat) := by
            rw [hu, wpW_n, (F 71 (by decide)).1, hs, List.length_drop]
          have e76 : tA u 76 (k : Int) = c := by
            rw [(Fu 76 (by decide)).2, hσ]
            have := lsW_at cs τ 0 k c hc2
            rw [Nat.zero_add] at this
            exact this
          have e26 : tA u 26 (c : Int) = tA τ 26 c := by rw [(Fu 26 (by decide)).2, r26]
          have hc1 := h1 c hmem
          have hcn : c < 1700 := by
            have : ∀ (l : List Nat) x, CHL τ x l → ∀ y, y ∈ l → y < np τ := by
              intro l
              induction l with
              | nil => intro x _ y hy; cases hy
              | cons z l ih =>
                intro x hx y hy
                rcases List.mem_cons.mp hy with q | q
                · rw [q]; exact hx.2.1
                · exact ih _ hx.2.2 y q
            have := this cs _ hc c hmem
            omega
          have rc : ((rw' τ c : Nat) : Int) = tA τ 26 c := rw_c hc1.1
          have lw : way / prN τ (cs.drop (k + 1)) ≤ way := Nat.div_le_self _ _
          obtain ⟨left, hleft⟩ : ∃ left, left = way / prN τ (cs.drop (k + 1)) := ⟨_, rfl⟩
          have ih := ih (by omega)
          rw [ed] at ih
          rw [← hu]
          rw [← hleft] at lw ⊢
          have ek : ((k + 1 : Nat) : Int) - 1 = (k : Int) := by omega
          rw [ek]
          refine hJ _ _ _ (br0 (by omega) ⟨⟨by omega, by omega⟩, ?_⟩)
          rw [e76]
          refine fa ?_
          rw [e26]
          have t117 : ∀ i, tA u 117 i = tA τ 117 i := fun i => by rw [(Fu 117 (by decide)).2, (F 117 (by decide)).2]
          have t114 : ∀ i, tA u 114 i = tA τ 114 i := fun i => by rw [(Fu 114 (by decide)).2, (F 114 (by decide)).2]
          rw [t117, t114]
          refine ⟨fun nv => ?_, fa ⟨⟨by omega, by omega⟩, by omega, ?_⟩⟩
          · rcases hv with q | q
            · exact absurd q nv
            · by_cases z : place = 0
              · rw [if_pos z] at q
                exact ⟨fun _ => ⟨by omega, by omega⟩, fun y => absurd (by omega) y⟩
              · rw [if_neg z] at q
                refine ⟨fun y => absurd (by omega) z, fun _ => ?_⟩
                rw [w32_s (a := 4 * v) (by omega) (by omega), w32_s (a := 4 * v + k) (by omega) (by omega)]
                omega
          · rw [w32_s (a := 8 * (place : Int)) (by omega) (by omega), w32_s (a := 8 * (place : Int) + k) (by omega) (by omega), w32_s (by omega) (by omega)]
            have erem : i_rem (left : Int) (tA τ 26 c) = ((left % rw' τ c : Nat) : Int) := by
              rw [← rc]; exact i_rem_n (by omega) (by omega)
            have ediv : i_div (left : Int) (tA τ 26 c) = ((left / rw' τ c : Nat) : Int) := by
              rw [← rc]; exact i_div_n (by omega) (by omega)
            rw [erem]
            refine sT_wait0 (by omega) (by omega) ⟨⟨by omega, by omega⟩, ?_, ?_⟩
            · show ¬ tA (w0T u _ _ _ _) 26 c = 0
              rw [(w0T_ft _ _ _ _ 26 (by decide)).2, e26]
              omega
            · rw [(w0T_ft _ _ _ _ 26 (by decide)).2, e26, ediv]
              refine fa (fa ?_)
              rw [w32_s (by omega) (by omega)]
              have g : J ((way / prN τ (c :: cs.drop (k + 1)) : Nat) : Int) ((k : Int) - 1) (w0T u c ((way / prN σ (cs.drop (k + 1)) % rw' σ c : Nat) : Int) (8 * place + k + 1) (cv τ place v k)) := by
                rw [hu]; exact ih
              have e1 : way / prN τ (c :: cs.drop (k + 1)) = left / rw' τ c := by
                show way / (rw' τ c * prN τ (cs.drop (k + 1))) = _
                rw [Nat.mul_comm, ← Nat.div_div_eq_div_mul, ← hleft]
              rw [e1, ep, er, ← hleft] at g
              have ecv : (if v < 0 then -4 else if (place : Int) = 0 then tA τ 117 k else tA τ 114 (w32 (w32 (4 * v) + k))) = cv τ place v k := rfl
              rw [ecv]
              exact g
      have := down cs.length (Nat.le_refl _)
      rw [List.drop_length] at this
      have e1 : way / prN τ [] = way := Nat.div_one way
      rw [e1] at this
      rw [hi]
      exact this
    | cons c l ih =>
      intro i x σ F hx hi hσ
      obtain ⟨x1, x2, x3⟩ := hx
      have hi : i + (l.length + 1) = cs.length := hi
      refine hI _ _ _ (br0 (by omega) ⟨⟨by omega, by omega⟩, fa (fa ⟨⟨by omega, by omega⟩, fa ?_⟩)⟩)
      rw [w32_s (by omega) (by omega)]
      have e23 : tA (sA σ 76 i x) 23 x = tA τ 23 x := by
        show tA σ 23 x = _
        exact (F 23 (by decide)).2 x
      rw [e23]
      have := ih (i + 1) (tA τ 23 x) (sA σ 76 i x) (F.ssA (by decide)) x3 (by omega) (by
        rw [x1]; exact hσ)
      exact this
  exact first cs 0 x1 τ (FT.refl _ _) hc (by omega) rfl
end ZRowsT
