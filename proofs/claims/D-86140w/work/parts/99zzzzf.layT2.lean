/-! the reference's rows: a row is laid (2) -/
section ZLayT2
variable {p b e d : Nat} {w : CW} {τ σ : TW}
/-- the entries of those side by side wait from s on -/
def SKs (σ τ : TW) (s : Nat) (pl : Nat) (j way : Nat) (cs : List Nat) : Prop := ∀ i c : Nat, cs[i]? = some c → SK σ (s + (cs.length - 1 - i)) c ((way / prN τ (cs.drop (i + 1)) % rw' τ c : Nat) : Int) (8 * (pl : Int) + (j + i : Nat) + 1) (-4)
theorem SK.fr {s q' : Nat} {q x pl v : Int} {S : List Nat} (h : SK τ s q x pl v) (F : FT S τ σ) (hS : ∀ f, f ∈ S → f < 72 ∨ 75 < f) : SK σ s q x pl v := by
  have n : ∀ f, 72 ≤ f → f ≤ 75 → tA σ f s = tA τ f s := fun f a b => (F f (fun h => by have := hS f h; omega)).2 s
  unfold SK
  rw [n 72 (by decide) (by decide), n 73 (by decide) (by decide), n 74 (by decide) (by decide), n 75 (by decide) (by decide)]
  exact h
/-- the law of layRow's loop -/
def LYI (d : Nat) (Q : TW → Prop) (I : TW → Prop) : Prop := ∀ (w : TW), ((tI w 71 ≤ 0 → pT_layRow_177 (wpT d) Q w) ∧
    (¬ (tI w 71 ≤ 0) → wpT d 50 [] w (zqI (fun v15 u14 =>
        (0 ≤ (tI u14 71) ∧ (tI u14 71) < 2000) ∧
        ∀ x4_17 : Int, x4_17 = tA u14 74 (tI u14 71) →
        (0 ≤ v15 ∧ v15 < 1700) ∧
        ((tA u14 17 v15) = 0 →
          pT_layRow_130 (wpT d) Q I v15 x4_17 u14) ∧
        (¬ ((tA u14 17 v15) = 0) →
          (0 ≤ v15 ∧ v15 < 1700) ∧
          (0 ≤ (tI u14 65) ∧ (tI u14 65) < 33000) ∧
          ∀ u31 : TW, u31 = sA u14 66 (tI u14 65) (tA u14 17 v15) →
          (0 ≤ (tI u31 65) ∧ (tI u31 65) < 33000) ∧
          ∀ u33 : TW, u33 = sA u31 67 (tI u31 65) x4_17 →
          (0 ≤ (tI u33 65) ∧ (tI u33 65) < 33000) ∧
          ∀ u35 : TW, u35 = sA u33 68 (tI u33 65) v15 →
          ∀ u37 : TW, u37 = sI u35 65 (w32 ((tI u35 65) + 1)) →
          pT_layRow_130 (wpT d) Q I v15 x4_17 u37)) zno))) → I w
theorem ly_list {Q I : TW → Prop} {n k : Nat} {π : Pa} (hone : ∀ q x π s t0 σ, PE τ σ → WP τ n q → x < rw' τ q → tI σ 71 = (s + 1 : Nat) → SK σ s q x (cod π : Nat) (-4) → tI σ 65 = (t0 : Nat) → s + wsz τ n q ≤ 2000 → t0 + wsz τ n q ≤ 33000 → (cod π + 2) * 9 ^ n ≤ 200000000 → (∀ σ', Rlx σ σ' t0 s (tst τ n q x π) → I σ') → I σ) :
    ∀ (cs : List Nat) (j way s t0 : Nat) (σ : TW), PE τ σ → (∀ c, c ∈ cs → WP τ n c) → tI σ 71 = (s + cs.length : Nat) → SKs σ τ s (cod π) j way cs → tI σ 65 = (t0 : Nat) → s + (cs.map (wsz τ n)).sum ≤ 2000 → t0 + (cs.map (wsz τ n)).sum ≤ 33000 → j + cs.length ≤ 8 → (cod π + 2) * 9 ^ (n + 1) ≤ 200000000 → (∀ σ', Rlx σ σ' t0 s (tsL (tst τ n) τ k π j cs way) → I σ') → I σ := by
  intro cs
  induction cs with
  | nil =>
    intro j way s t0 σ hE hW h71 hS h65 b1 b2 b3 b4 hI
    exact hI σ ⟨⟨FT.refl _ _, h65, fun _ _ _ _ => rfl, fun i e h => by simp [tsL] at h, fun _ _ _ _ _ => rfl⟩, h71⟩
  | cons c cs ih =>
    intro j way s t0 σ hE hW h71 hS h65 b1 b2 b3 b4 hI
    have hc := hW c (List.mem_cons_self ..)
    have h1 : 1 ≤ rw' τ c := by
      cases n with
      | zero => exact hc.elim
      | succ n => have := rw_c hc.1.2.2.2.1; have := hc.1.2.2.2.1; omega
    have hx : (way / prN τ cs) % rw' τ c < rw' τ c := Nat.mod_lt _ (by omega)
    have wl : ∀ l : List Nat, (∀ c, c ∈ l → WP τ n c) → l.length ≤ (l.map (wsz τ n)).sum := by
      intro l
      induction l with
      | nil => intro _; exact Nat.le_refl 0
      | cons y l ihl =>
        intro h
        have := ihl (fun z hz => h z (List.mem_cons_of_mem _ hz))
        have := (h y (List.mem_cons_self ..)).wsz_pos
        show l.length + 1 ≤ wsz τ n y + (l.map (wsz τ n)).sum
        omega
    have hcs : ∀ c, c ∈ cs → WP τ n c := fun y hy => hW y (List.mem_cons_of_mem _ hy)
    have wcs := wl cs hcs
    have bs : s + (wsz τ n c + (cs.map (wsz τ n)).sum) ≤ 2000 := b1
    have bt : t0 + (wsz τ n c + (cs.map (wsz τ n)).sum) ≤ 33000 := b2
    have b3 : j + (cs.length + 1) ≤ 8 := b3
    have top := hS 0 c rfl
    have e0 : s + ((c :: cs).length - 1 - 0) = s + cs.length := rfl
    rw [e0] at top
    have ecod : (8 * (cod π : Int) + (j + 0 : Nat) + 1) = ((cod ((k, j) :: π) : Nat) : Int) := by
      show _ = ((8 * cod π + j + 1 : Nat) : Int)
      omega
    rw [ecod] at top
    have hp : (cod ((k, j) :: π) + 2) * 9 ^ n ≤ 200000000 := by
      have e : (cod π + 2) * 9 ^ (n + 1) = ((cod π + 2) * 9) * 9 ^ n := by rw [Nat.pow_succ, Nat.mul_comm (9 ^ n) 9, Nat.mul_assoc]
      rw [e] at b4
      refine Nat.le_trans (Nat.mul_le_mul_right _ ?_) b4
      show 8 * cod π + j + 1 + 2 ≤ (cod π + 2) * 9
      omega
    refine hone c _ ((k, j) :: π) (s + cs.length) t0 σ hE hc hx (by rw [h71]; rfl) top h65 (by omega) (by omega) hp (fun σ1 R1 => ?_)
    have len := tst_len n c ((way / prN τ cs) % rw' τ c) ((k, j) :: π) hc hx
    refine ih (j + 1) way s (t0 + (tst τ n c ((way / prN τ cs) % rw' τ c) ((k, j) :: π)).length) σ1 (hE.trans R1.pe) hcs R1.2 (fun i y hy => ?_) R1.1.2.1 (by omega) (by omega) (by omega) b4 (fun σ2 R2 => hI σ2 ⟨R1.1.trans R2.1 (by omega), R2.2⟩)
    have hl : i < cs.length := (List.getElem?_eq_some_iff.mp hy).1
    have a := hS (i + 1) y hy
    have e1 : s + ((c :: cs).length - 1 - (i + 1)) = s + (cs.length - 1 - i) := by show s + (cs.length + 1 - 1 - (i + 1)) = _; omega
    rw [e1, show j + (i + 1) = j + 1 + i by omega] at a
    have lo := fun f h1 h2 => R1.1.2.2.2.2 f (s + (cs.length - 1 - i)) h1 h2 (by omega)
    unfold SK at a ⊢
    rw [lo 72 (by decide) (by decide), lo 73 (by decide) (by decide), lo 74 (by decide) (by decide), lo 75 (by decide) (by decide)]
    exact a
theorem ly_go {Q I : TW → Prop} (hI0 : LYI (d + 2) Q I) (hnp : np τ ≤ 1700) : ∀ n q x π s t0 σ, PE τ σ → WP τ n q → x < rw' τ q → tI σ 71 = (s + 1 : Nat) → SK σ s q x (cod π : Nat) (-4) → tI σ 65 = (t0 : Nat) → s + wsz τ n q ≤ 2000 → t0 + wsz τ n q ≤ 33000 → (cod π + 2) * 9 ^ n ≤ 200000000 → (∀ σ', Rlx σ σ' t0 s (tst τ n q x π) → I σ') → I σ := by
  have all : ∀ N n, n ≤ N → ∀ q x π s t0 σ, PE τ σ → WP τ n q → x < rw' τ q → tI σ 71 = (s + 1 : Nat) → SK σ s q x (cod π : Nat) (-4) → tI σ 65 = (t0 : Nat) → s + wsz τ n q ≤ 2000 → t0 + wsz τ n q ≤ 33000 → (cod π + 2) * 9 ^ n ≤ 200000000 → (∀ σ', Rlx σ σ' t0 s (tst τ n q x π) → I σ') → I σ := by
    intro N
    induction N with
    | zero =>
      intro n hn q x π s t0 σ _ h
      have : n = 0 := by omega
      subst this
      exact h.elim
    | succ N ih =>
      intro n hn q x π s t0 σ hE hW hx h71 hS h65 b1 b2 b3 hI
      obtain ⟨m, c1, c2, c3, c4, c5, c6⟩ := selD_ok n q x hW hx
      obtain ⟨s1, s2, s3, s4⟩ := hS
      have hpos := hW.wsz_pos
      have hpos2 := c1.wsz_pos
      obtain ⟨q', hq'⟩ : ∃ q', q' = (selD τ n q x).1 := ⟨_, rfl⟩
      obtain ⟨x', hx'⟩ : ∃ x', x' = (selD τ n q x).2 := ⟨_, rfl⟩
      rw [← hq'] at c1 c3 c4 c5 c6 hpos2
      rw [← hx'] at c3 c5
      have h5 := c5 π
      rw [h5] at hI
      refine hI0 σ (br0 (by rw [h71]; omega) ?_)
      refine sT_nextPattern (d := d) (by rw [e_np hE]; exact hnp) (e_WP hE n q hW) (by rw [e_rw hE]; exact hx) h71 (by omega) s1 s2 s4 ?_
      rw [e_selD hE, ndT_neg (by decide), ← hq', ← hx']
      obtain ⟨σ1, hσ1⟩ : ∃ σ1, σ1 = sA (sI σ 71 s) 73 s (x' : Nat) := ⟨_, rfl⟩
      rw [← hσ1]
      have F1 : FT [71, 73] σ σ1 := by rw [hσ1]; exact ((FT.refl _ _).ssI (by decide)).ssA (by decide)
      have E1 : PE τ σ1 := hE.trans (PE.ft F1 (by decide))
      have n71 : tI σ1 71 = s := by rw [hσ1]; rfl
      have n65 : tI σ1 65 = t0 := by rw [(F1 65 (by decide)).1]; exact h65
      have n73 : tA σ1 73 s = x' := by
        rw [hσ1]
        show (if 73 = 73 ∧ (s : Int) = s then _ else _) = _
        rw [if_pos ⟨rfl, rfl⟩]
      have n74 : tA σ1 74 s = (cod π : Nat) := by rw [(F1 74 (by decide)).2]; exact s3
      have lo1 : ∀ f (i : Nat), 72 ≤ f → f ≤ 75 → i < s → tA σ1 f i = tA σ f i := fun f i _ _ hi => by
        rw [hσ1, tA_sA]
        rw [if_neg (by omega)]
        rfl
      have q17 : tA σ1 17 q' = tA τ 17 q' := E1.a (by decide) (by decide) _
      obtain ⟨⟨w1, w2, w3, w4, w5⟩, -, -, -, -, -, -, w6, w7⟩ := id c1
      have q1700 : (q' : Int) < 1700 := by omega
      have cod9 : cod π + 2 ≤ 200000000 := by
        have : 1 ≤ 9 ^ n := Nat.one_le_pow _ _ (by decide)
        have := Nat.mul_le_mul_left (cod π + 2) this
        omega
      rw [n71, n74]
      refine ⟨⟨by omega, by omega⟩, fa ⟨⟨by omega, q1700⟩, ?_⟩⟩
      rw [q17]
      by_cases z0 : tA τ 17 q' = 0
      · have et : tst τ (m + 1) q' x' π = [] := by unfold tst; rw [if_neg c4, if_pos z0]
        rw [et] at hI
        refine br1 z0 (bT_layRow_130 ⟨⟨by omega, q1700⟩, ?_⟩)
        rw [q17]
        exact ⟨fun y => by omega, br0 (fun y => by omega) (bT_layRow_174 (call := wpT (d + 2)) (hI σ1 ⟨⟨F1.mono (by decide), n65, fun f i hf _ => (F1 f (by simp; omega)).2 i, fun i e h => by simp at h, lo1⟩, n71⟩))⟩
      · have et : tst τ (m + 1) q' x' π = (π, q') :: tsL (tst τ m) τ (tA τ 19 q').toNat π 0 (kids τ q') x' := by
          conv => lhs; unfold tst
          rw [if_neg c4, if_neg z0]
        rw [et] at hI
        have u65 : 0 ≤ tI σ1 65 ∧ tI σ1 65 < 33000 := by rw [n65]; omega
        refine br0 z0 ⟨⟨by omega, q1700⟩, u65, fa ⟨u65, fa ⟨u65, fa (fa ?_)⟩⟩⟩
        obtain ⟨σ2, hσ2⟩ : ∃ σ2, σ2 = sI (sA (sA (sA σ1 66 t0 (tA τ 17 q')) 67 t0 (cod π : Nat)) 68 t0 (q' : Nat)) 65 ((t0 + 1 : Nat) : Int) := ⟨_, rfl⟩
        have F2 : FT [65, 66, 67, 68] σ1 σ2 := by rw [hσ2]; exact ((((FT.refl _ _).ssA (by decide)).ssA (by decide)).ssA (by decide)).ssI (by decide)
        have E2 : PE τ σ2 := E1.trans (PE.ft F2 (by decide))
        have m71 : tI σ2 71 = s := by rw [(F2 71 (by decide)).1]; exact n71
        have m73 : tA σ2 73 s = x' := by rw [(F2 73 (by decide)).2]; exact n73
        have m65 : tI σ2 65 = (t0 + 1 : Nat) := by rw [hσ2]; rfl
        have q17' : tA σ2 17 q' = tA τ 17 q' := E2.a (by decide) (by decide) _
        have q22 : tA σ2 22 q' = tA τ 22 q' := E2.a (by decide) (by decide) _
        have R2 : Rlx0 σ σ2 t0 s [(π, q')] := by
          refine ⟨(F1.mono (by decide)).trans (F2.mono (by decide)), m65, fun f i hf hi => ?_, fun i e he => ?_, fun f i h1 h2 hi => by rw [(F2 f (by simp; omega)).2]; exact lo1 f i h1 h2 hi⟩
          · rw [hσ2]
            show (if f = 68 ∧ (i : Int) = t0 then _ else if f = 67 ∧ (i : Int) = t0 then _ else if f = 66 ∧ (i : Int) = t0 then _ else tA σ1 f i) = _
            rw [if_neg (by omega), if_neg (by omega), if_neg (by omega)]
            exact (F1 f (by simp; omega)).2 i
          · cases i with
            | succ i => simp at he
            | zero =>
              have e1 : (π, q') = e := by simpa using he
              subst e1
              rw [q17', Nat.add_zero, hσ2]
              refine ⟨?_, ?_, ?_⟩ <;> simp [tA_sA, tA_sI]
        have hgo : pT_layRow_130 (wpT (d + 2)) Q I q' (cod π : Nat) σ2 := by
          refine bT_layRow_130 ⟨⟨by omega, q1700⟩, fun _ => ⟨by omega, q1700⟩, ?_⟩
          rw [q17', q22, m71, m73]
          by_cases z5 : tA τ 17 q' = 5 ∧ ¬ (tA τ 22 q' = -4)
          · obtain ⟨v1, v2, v3, ⟨k, v4, v5, v6, v7⟩, v8, v9⟩ := w6 z5.1
            have ek : (tA τ 19 q').toNat = k := by rw [v4, Int.toNat_natCast]
            rw [ek] at hI
            refine br1 z5 ⟨⟨by omega, q1700⟩, by omega, ?_⟩
            have wl : (kids τ q').length ≤ ((kids τ q').map (wsz τ m)).sum := by
              have : ∀ l : List Nat, (∀ c, c ∈ l → WP τ m c) → l.length ≤ (l.map (wsz τ m)).sum := by
                intro l
                induction l with
                | nil => intro _; exact Nat.le_refl 0
                | cons y l ihl =>
                  intro h
                  have := ihl (fun z hz => h z (List.mem_cons_of_mem _ hz))
                  have := (h y (List.mem_cons_self ..)).wsz_pos
                  show l.length + 1 ≤ wsz τ m y + (l.map (wsz τ m)).sum
                  omega
              exact this _ v9
            have wq : wsz τ (m + 1) q' = 1 + ((kids τ q').map (wsz τ m)).sum := rfl
            have x40 : x' < 2147483648 := by have := rw_c w4; omega
            refine sT_waitAll (d := d) (cs := kids τ q') (s := s) (by rw [e_CHL E2]; exact v2) (by rw [e_np E2]; exact hnp) (fun c hc => ?_) (by omega) x40 (by omega) m71 (by omega) (Or.inl (by decide)) ?_
            · rw [E2.a (by decide) (by decide)]
              have hc := v9 c hc
              cases m with
              | zero => exact hc.elim
              | succ m => exact ⟨hc.1.2.2.2.1, hc.1.2.2.2.2⟩
            · refine bT_layRow_174 (call := wpT (d + 2)) (Q := Q) ?_
              obtain ⟨σ3, hσ3⟩ : ∃ σ3, σ3 = lsW σ2 0 (kids τ q') := ⟨_, rfl⟩
              have F3 : FT [76] σ2 σ3 := by rw [hσ3]; exact lsW_ft _ _ _
              have E3 : PE τ σ3 := E2.trans (PE.ft F3 (by decide))
              have m71' : tI σ3 71 = s := by rw [(F3 71 (by decide)).1]; exact m71
              obtain ⟨σ4, hσ4⟩ : ∃ σ4, σ4 = waW σ2 (kids τ q') x' (cod π : Nat) (-4) := ⟨_, rfl⟩
              have hσ4' : σ4 = wpW σ3 (cod π : Nat) (cv σ2 (cod π : Nat) (-4)) x' 0 (kids τ q') := by rw [hσ4, hσ3]; rfl
              have F4 : FT [71, 72, 73, 74, 75] σ3 σ4 := by rw [hσ4']; exact wpW_ft _ _ _ _ _
              have E4 : PE τ σ4 := E3.trans (PE.ft F4 (by decide))
              rw [← hσ4]
              refine ly_list (τ := τ) (n := m) (k := k) (π := π) (Q := Q) (fun q x π s t0 σ => ih m (by omega) q x π s t0 σ) (kids τ q') 0 x' s (t0 + 1) σ4 E4 v9 ?_ (fun i c hc => ?_) ?_ (by omega) (by omega) (by omega) ?_ (fun σ' R => hI σ' ?_)
              · rw [hσ4', wpW_n, m71']; omega
              · have := wpW_at (τ := σ3) (cod π : Nat) (cv σ2 (cod π : Nat) (-4)) x' m71' (kids τ q') 0 i c hc
                rw [← hσ4', e_prN E3, e_rw E3] at this
                have ec : cv σ2 (cod π : Nat) (-4) (0 + i) = -4 := by unfold cv; rw [if_pos (by decide)]
                rw [ec] at this
                exact this
              · rw [(F4 65 (by decide)).1, (F3 65 (by decide)).1]; exact m65
              · have : 9 ^ (m + 1) ≤ 9 ^ n := Nat.pow_le_pow_right (by decide) c2
                have := Nat.mul_le_mul_left (cod π + 2) this
                omega
              · have R4 : Rlx0 σ σ4 t0 s [(π, q')] := by
                  obtain ⟨r1, r2, r3, r4, r5⟩ := R2
                  have F34 : FT [71, 72, 73, 74, 75, 76] σ2 σ4 := (F3.mono (by decide)).trans (F4.mono (by decide))
                  have tt : ∀ f i, f ≤ 70 → tA σ4 f i = tA σ2 f i := fun f i h => (F34 f (by simp; omega)).2 i
                  refine ⟨r1.trans (F34.mono (by decide)), by rw [(F34 65 (by decide)).1]; exact r2, fun f i hf hi => by rw [tt f _ (by omega)]; exact r3 f i hf hi, fun i e he => by rw [tt 66 _ (by decide), tt 67 _ (by decide), tt 68 _ (by decide), tt 17 _ (by decide)]; exact r4 i e he, fun f i h1 h2 hi => ?_⟩
                  rw [hσ4', wpW_lo (τ := σ3) _ _ _ m71' _ _ _ _ (by omega), (F3 f (by simp; omega)).2]
                  exact r5 f i h1 h2 hi
                exact ⟨R4.trans R.1 (Nat.le_refl _), R.2⟩
          · have ek : kids τ q' = [] := by
              by_cases y5 : tA τ 17 q' = 5
              · have c0 := (w6 y5).2.1
                cases hk : kids τ q' with
                | nil => rfl
                | cons c cs =>
                  rw [hk] at c0
                  obtain ⟨c0, -⟩ := c0
                  exact absurd ⟨y5, fun y => by rw [c0] at y; exact absurd y (by omega)⟩ z5
              · unfold kids
                rw [if_neg (fun h => h.elim y5 c4)]
            rw [ek] at hI
            exact br0 z5 (bT_layRow_174 (call := wpT (d + 2)) (hI σ2 ⟨R2, m71⟩))
        have e2 : sI (sA (sA (sA σ1 66 (tI σ1 65) (tA σ1 17 q')) 67 (tI σ1 65) (cod π : Nat)) 68 (tI σ1 65) (q' : Nat)) 65 (w32 (tI σ1 65 + 1)) = σ2 := by
          rw [hσ2, n65, q17, w32_s (by omega) (by omega)]
          rfl
        rw [← e2] at hgo
        rw [← q17]
        exact hgo
  intro n
  exact all n n (Nat.le_refl _)
end ZLayT2
