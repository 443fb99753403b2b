/-! the component's trees: a test of a truth -/
section ZTruth2
variable {p b e d f F M n wy : Nat} {wS w : CW} {τ : TW} {rs rows : List (Nat × Nat)} {ps : List Pa} {P : Sp} {O : List (Pa × Int)} {ro : Nat × Nat → Nat} {ru : Nat → Nat}
/-- an object and what it holds, new -/
def trW (u : CW) (x n pl K : Nat) : CW := pR (nA (pR (ndW u x n) 109 x pl) 113 K) 107 x (cz u + 2)
theorem trW_f {x pl K : Nat} (W : WF p w) (hx : x ≤ cz w) (hp : p ≠ x) : Fr [x] w (trW w x n pl K) ∧ WF p (trW w x n pl K) ∧ tg (trW w x n pl K) x = tg w x ∧ fI (trW w x n pl K) 106 x = n ∧ fR (trW w x n pl K) 107 x = cz w + 2 ∧ fR (trW w x n pl K) 109 x = pl ∧ (tg (trW w x n pl K) (cz w + 2) = 113 ∧ ln (trW w x n pl K) (cz w + 2) = K) ∧ cz (trW w x n pl K) = cz w + 2 ∧ zm (trW w x n pl K) = zm w + K + 10 := by
  obtain ⟨a1, a2, a3, a4, a5, ⟨a6, a7⟩, a8, a9, a10⟩ := ndW_f (n := n) W hx hp
  obtain ⟨v, hv⟩ : ∃ v, v = ndW w x n := ⟨_, rfl⟩
  unfold trW
  rw [← hv] at a1 a2 a3 a4 a5 a6 a7 a8 a9 a10 ⊢
  refine ⟨?_, ?_, ?_, ?_, ?_, ?_, ⟨?_, ?_⟩, ?_, ?_⟩
  · exact (((a1.spR (Or.inl (by simp)))).snA).spR (Or.inl (by simp))
  · exact ((a2.spR _ _ _).snA _ _).spR _ _ _
  · show tg (nA (pR v 109 x pl) 113 K) x = tg w x
    rw [tg_nA, if_neg (by show ¬ x = cz v + 1; omega)]
    exact a3
  · exact a4
  · rw [fR_pR, if_pos ⟨rfl, rfl⟩]
  · rw [fR_pR, if_neg (by omega), fR_nA, fR_pR, if_pos ⟨rfl, rfl⟩]
  · show tg (nA (pR v 109 x pl) 113 K) (cz w + 2) = 113
    rw [tg_nA, if_pos (by show cz w + 2 = cz v + 1; omega)]
  · show ln (nA (pR v 109 x pl) 113 K) (cz w + 2) = K
    rw [ln_nA, if_pos (by show cz w + 2 = cz v + 1; omega)]
  · show cz v + 1 = cz w + 2
    omega
  · show ((cu v + K : Nat) : Int) + 5 * ((cz v + 1 : Nat) : Int) = _
    unfold zm at a9 ⊢
    omega
theorem NCX.mm {lim : Int} {m A : Nat} (h : NCX p wS w τ f F ps rs rows ro ru M wy lim m n A P O) : M + 11 ≤ cz w ∧ p + 8 < M ∧ tg w M = 16 := ⟨h.1.2.2.2.2.2, h.1.2.2.2.2.1.1.1, h.1.2.2.2.2.1.1.2.1⟩
theorem mkx_up {w0 u' : CW} {NX x : Nat} (F0 : Fr (MT M) w w0) (hN : cz w < NX) (hz : zm w0 ≤ zm w + 187) (h : MKX p (NX :: MT M) w0 u' (232 * (120 - (n : Int))) x) : MKX p (MT M) w u' (187 + 232 * (120 - (n : Int))) x := by
  refine ⟨F0.trans' h.1 (fun q hq => ?_), h.2.1, h.2.2.1, by have := h.2.2.2; omega⟩
  rcases List.mem_cons.mp hq with z | z
  · right; omega
  · exact Or.inl z
theorem idx_one {α : Type} {l : List α} (h : l.Nodup) {i k : Nat} {x : α} (hi : l[i]? = some x) (hk : l[k]? = some x) : k = i := (List.getElem?_inj (List.getElem?_eq_some_iff.mp hk).1 h).mp (hk.trans hi.symm)
theorem sC_byTruth {lim : Int} {m A : Nat} {x : Nat × Nat} {e : Pa × Nat} (hI : MKP p wS τ f F ps rs ro ru M wy lim (d + 6) m) (h : NCX p wS w τ f F ps rs rows ro ru M wy lim m n A P O) (h1 : ndE τ rs P = some x) (h2 : chs τ wy P (rws τ rs P) (ask τ P x) = some e) (hs : tA τ 18 e.2 = srP τ f e.1) (h0 : lkp P e.1 = none) (he : e.1 ∈ ps) (s1 : srP τ f e.1 = 1) {Q : ZRes → CW → Prop} (hQ : NCQ p wS w τ f F ps rs ro ru M wy m n P O (fun r w' => Q (.inl (some (ar r))) w') (fun x w' => Q (.inr x) w')) : wpC p (d + 7) 144 [ar M, ai (n : Nat), ar (plo wS F ps e.1), ar A, ai (rows.length : Nat)] w Q := by
  obtain ⟨hMz, hMp, hMt⟩ := h.mm
  obtain ⟨hW, hK, hOl, hA, ⟨hR, hg, hrw, hPs⟩, ⟨h92, h93, hn, hm2⟩, hmu, hlim⟩ := id h
  have W := hW.2.2.2.1
  obtain ⟨π, hπ⟩ : ∃ π, π = e.1 := ⟨_, rfl⟩
  obtain ⟨pl, hpl⟩ : ∃ pl, pl = plo wS F ps e.1 := ⟨_, rfl⟩
  have eb : brs τ P rows π (srP τ f π) = [(0, 0, 0, 0), (1, 0, 0, 0)] := by unfold brs; rw [hπ, if_neg (by omega), if_pos s1]
  have ecs : chd τ rs wy P = [((0, 0, 0, 0), .inr (π, (0, 0, 0, 0)) :: P), ((1, 0, 0, 0), .inr (π, (1, 0, 0, 0)) :: P)] := by
    rw [chd_some h1 h2, ← hrw, hs, ← hπ, eb]
    rfl
  have kid : ∀ (j : Nat) b, (brs τ P rows π (srP τ f π))[j]? = some b → (chd τ rs wy P)[j]? = some (b, .inr (π, b) :: P) ∧ PSd τ f (.inr (π, b) :: P) ∧ RWS τ rs rows (.inr (π, b) :: P) O ∧ (∀ x, x ∈ rows → x.1 ∉ gds (.inr (π, b) :: P)) ∧ fil (liv τ (.inr (π, b) :: P)) rows = rws τ rs (.inr (π, b) :: P) := fun j b hb => by
    rw [hπ] at hb ⊢
    exact h.kid h1 h2 hs h0 hb (fun y hy => hy) (fun q => by omega)
  rw [← hπ] at he h0 s1
  -- the object
  obtain ⟨-, il, iat, -⟩ := hW.1.2.1.at he
  obtain ⟨i, hi⟩ : ∃ i, i = ps.idxOf π := ⟨_, rfl⟩
  rw [← hi] at il iat
  obtain ⟨r, hr⟩ : ∃ r, r = cz w + 1 := ⟨_, rfl⟩
  rw [← hpl]
  refine wC_X18_byTruth (Nat.zero_le _) (bC_X18_byTruth_0 ⟨room_n (k := 3) hmu (by omega), fa ?_⟩)
  rw [← hr]
  obtain ⟨u1, hu1⟩ : ∃ u1, u1 = nO w 23 3 := ⟨_, rfl⟩
  rw [← hu1]
  have F1 : Fr [] w u1 := by rw [hu1]; exact (Fr.refl _ _).snO
  have W1 : WF p u1 := by rw [hu1]; exact W.snO _ _
  have z1 : cz u1 = r ∧ zm u1 = zm w + 8 ∧ tg u1 r = 23 := by
    rw [hu1, hr]
    refine ⟨rfl, ?_, by rw [tg_nO, if_pos rfl]⟩
    show ((cu w + 3 : Nat) : Int) + 5 * ((cz w + 1 : Nat) : Int) = ((cu w : Nat) : Int) + 5 * ((cz w : Nat) : Int) + 8
    omega
  have pr : p ≠ r := by omega
  have r0 : ¬ r = 0 := by omega
  have hmu1 : lim ≤ mu u1 ∧ lim ≤ 5 * mz u1 := by rw [F1.emu, F1.emz]; exact hmu
  refine wC_X27_init (Nat.zero_le _) (bC_X27_init_0 ⟨r0, sC_tinit (d := d + 3) (by omega) W1 (room_n (k := 0) hmu1 (by omega)) ?_⟩)
  obtain ⟨t1, t2, t3, t4, t5, t6, t7, t8, t9⟩ := trW_f (n := n) (pl := pl) (K := 2) W1 (x := r) (by omega) pr
  obtain ⟨w0, hw0⟩ : ∃ w0, w0 = trW u1 r n pl 2 := ⟨_, rfl⟩
  obtain ⟨NX, hNX⟩ : ∃ NX, NX = cz u1 + 2 := ⟨_, rfl⟩
  have e2 : ((pR (nA (pR (ndW u1 r n) 109 r pl) 113 2) 107 r (cz (pR (ndW u1 r n) 109 r pl) + 1))) = w0 := by rw [hw0]; rfl
  obtain ⟨q1, q2, q3, q4, q5, q6, q7, q8, q9⟩ := ndW_f (n := n) W1 (x := r) (by omega) pr
  refine ⟨⟨⟨by decide, by decide⟩, room_n (w := ndW u1 r n) (k := 2) (by rw [q1.emu, q1.emz]; exact hmu1) (by omega)⟩, fa ⟨?_, fa ?_⟩⟩
  · show hP 107 (tg (nA (pR (ndW u1 r n) 109 r pl) 113 2) r) = true
    rw [show tg (nA (pR (ndW u1 r n) 109 r pl) 113 2) r = tg w0 r by rw [← e2]; rfl, hw0, t3, z1.2.2]
    decide
  have e3 : pR (nA (pR (ndW u1 r n) 109 r pl) 113 (Int.toNat 2)) 107 r (cz (pR (ndW u1 r n) 109 r pl) + 1) = w0 := e2
  rw [e3]
  rw [← hw0, ← hNX] at t5
  rw [← hw0] at t1 t2 t3 t4 t6 t7 t8 t9
  rw [← hNX] at t7 t8
  have F0 : Fr [] w w0 := F1.trans' t1 (fun q hq => by rw [List.mem_singleton.mp hq]; right; omega)
  have m0 : MW p wS w0 τ f F ps rs ro ru M := hW.sa F0 t2 (fun q hq => by cases hq)
  have k0 : KN p w0 τ f F M ps P O := hK.sa hW F0 m0 (fun q hq => by cases hq)
  have a0 : ARW w0 A rows ro := hA.fr (p := p) W F0 (fun q hq => by cases hq)
  have oM : ob w0 M = ob w M := F0.2.2.2.2 M (by omega) (by simp)
  have hB : NOB p wS w w0 τ f F ps rs ro M wy n P r NX 2 := by
    refine ⟨⟨F0.mono (fun q hq => by cases hq), t2⟩, ⟨by omega, by omega, by rw [t3, z1.2.2]; decide, t4, t5⟩, ⟨t7.1, t7.2, by omega, by omega⟩, ⟨fun q => absurd q (by rw [h1]; simp), fun x' hx' => ?_⟩, by omega⟩
    rw [h1] at hx'
    rw [← Option.some.inj hx']
    refine ⟨fun q => absurd q (by rw [h2]; simp), fun e' he' => ?_⟩
    rw [h2] at he'
    rw [← Option.some.inj he', ← hπ]
    exact ⟨by rw [t6, hpl, hπ], fun q => by omega, fun _ => by rw [t3, z1.2.2], fun q => by omega, fun q => by omega⟩
  have L0 := LSB.z (n := n) (m := m) (NX := NX) (cs := chd τ rs wy P) m0 a0 (by rw [ob.efI oM]; exact h92) (by rw [ob.efI oM]; exact h93) hn
  have lmu : lim ≤ mu w0 ∧ lim ≤ 5 * mz w0 := by rw [F0.emu, F0.emz]; exact hmu
  -- facts at every turn
  have fact : ∀ (u : CW) (j : Nat), LSB p wS w0 u τ f F ps rs rows ro ru M wy m n A NX (chd τ rs wy P) j → tg u M = 16 ∧ fR u 91 M = M + 3 ∧ tg u (M + 3) = 17 ∧ fR u 98 (M + 3) = M + 6 ∧ tg u (M + 6) = 102 ∧ ln u (M + 6) = ps.length ∧ (tg u pl = 15 ∧ fI u 89 pl = i) ∧ fR u 107 r = NX ∧ tg u r = 23 := fun u j hL => by
    obtain ⟨l1, -, -, -, l5, -⟩ := hL
    obtain ⟨⟨-, c1, c2, -⟩, -, ⟨c3, -, -, c4, -⟩, -, ⟨c5, c6, -⟩, -⟩ := id l1.2.2.2.2.1
    obtain ⟨-, -, -, ⟨d1, -, d3, -⟩⟩ := l1.t.2.1.at he
    rw [l1.pl he, hπ, ← hpl] at d1 d3
    have rn : r ∉ NX :: MT M := fun q => by
      rcases List.mem_cons.mp q with z | z
      · omega
      · have := mem_MT.mp z; omega
    have o := l5.2.2.2.2 r (by omega) rn
    exact ⟨c1, c2, c3, c4, c5, c6, ⟨d1, by rw [d3, hi, hπ]⟩, by rw [ob.efR o]; exact t5, by rw [ob.etg o, t3]; exact z1.2.2⟩
  refine bC_X18_byTruth_23 ?_
  intro I hI2
  have key : ∀ t j : Nat, t + j = 2 → ∀ u, LSB p wS w0 u τ f F ps rs rows ro ru M wy m n A NX (chd τ rs wy P) j → KNx p u τ f F M ps P O π → I (j : Int) u := by
    intro t
    induction t with
    | zero =>
      intro j hj u hL hx
      obtain ⟨c1, c2, c3, c4, c5, c6, ⟨c7, c8⟩, c9, c10⟩ := fact u j hL
      have l1 := hL.1
      have h89 : hF 89 (tg u pl) = true := by rw [c7]; decide
      have rg : tg u (M + 6) = 102 ∧ 0 ≤ ((i : Nat) : Int) ∧ ((i : Nat) : Int) < (ln u (M + 6) : Nat) := by rw [c6]; exact ⟨c5, by omega, by omega⟩
      refine hI2 _ _ (br1 (by omega) (bC_X18_byTruth_66 (call := wpC p (d + 6)) ⟨by rw [c1]; decide, by rw [c2, c3]; decide, h89, by rw [c2, c4, c8]; exact rg, fa ?_⟩))
      rw [c2, c4, c8]
      obtain ⟨fq, mq⟩ := l1.qi (r := M + 6) (i : Nat) 0 (by omega)
      refine nd_fin h hQ hB (by rw [ecs]; rfl) (by rw [show 2 = j by omega]; exact hL) fq mq ⟨rfl, rfl, rfl⟩ (KNx.up (hx.qi l1 iat 0 (by omega)) (fun k hk => ?_))
      rw [s1, h0, idx_one hW.1.2.1.2.2.1 iat hk]
      refine ⟨fun q => by omega, fun _ => ?_, fun q => by omega, fun q => by omega, fun _ b hb => (by cases hb), fun q => by omega⟩
      rw [aI_qI, if_pos ⟨rfl, rfl⟩]
      rfl
    | succ t ih =>
      intro j hj u hL hx
      obtain ⟨c1, c2, c3, c4, c5, c6, ⟨c7, c8⟩, c9, c10⟩ := fact u j hL
      have l1 := hL.1
      have h89 : hF 89 (tg u pl) = true := by rw [c7]; decide
      have rg : tg u (M + 6) = 102 ∧ 0 ≤ ((i : Nat) : Int) ∧ ((i : Nat) : Int) < (ln u (M + 6) : Nat) := by rw [c6]; exact ⟨c5, by omega, by omega⟩
      obtain ⟨b, hb⟩ : ∃ b, (brs τ P rows π (srP τ f π))[j]? = some b := by rw [eb]; exact ⟨_, List.getElem?_eq_getElem (by show j < 2; omega)⟩
      have hb1 : b.1 = j := by
        rw [eb] at hb
        rcases (by omega : j = 0 ∨ j = 1) with q | q <;> rw [q] at hb ⊢ <;> rw [← Option.some.inj hb] <;> rfl
      obtain ⟨y1, y2, y3, y4, y5⟩ := kid j b hb
      refine hI2 _ _ (br0 (by omega) ⟨by rw [c1]; decide, by rw [c2, c3]; decide, h89, by rw [c2, c4, c8]; exact rg, fa ⟨?_, ?_, ?_⟩⟩)
      · show hF 107 (tg u r) = true
        rw [c10]; decide
      · exact c1
      · rw [c2, c4, c8, show w32 (((j : Nat) : Int) + 1) = (j + 1 : Nat) by rw [w32_s (by omega) (by omega)]; omega]
        obtain ⟨fq, mq⟩ := l1.qi (r := M + 6) (i : Nat) ((j + 1 : Nat) : Int) (by omega)
        obtain ⟨v, hv⟩ : ∃ v, v = qI u (M + 6) (i : Nat) ((j + 1 : Nat) : Int) := ⟨_, rfl⟩
        have kv := KNx.dn (b := b) (hx.qi l1 iat ((j + 1 : Nat) : Int) (r := M + 6) (by omega)) h0 (fun k hk => by
          rw [s1, idx_one hW.1.2.1.2.2.1 iat hk]
          refine ⟨fun q => by omega, fun _ => ?_, fun q => by omega, fun q => by omega, fun _ b' hb' => ?_, fun q => by omega⟩
          · rw [aI_qI, if_pos ⟨rfl, rfl⟩]
            show ((j + 1 : Nat) : Int) = b.1 + 1
            omega
          · rw [← Option.some.inj hb', hb1]
            omega)
        rw [← hv] at fq mq kv ⊢
        rw [show fR v 107 r = NX from by rw [hv]; exact c9]
        refine mk_kid (n := n) (K := fun u23 => ∀ x6_26 : Int, x6_26 = ((j + 1 : Nat) : Int) → I x6_26 u23) (X := fun x w' => Q (.inr x) w') hI hL y1 fq mq (by rw [hv]; exact ⟨rfl, rfl, rfl, rfl⟩) kv (by omega) y3 y4 y5 y2 ⟨by omega, t7.1, by rw [t7.2]; omega⟩ (by omega) hm2 lmu (by omega) (fun u2 hL2 hK2 => fa (ih (j + 1) (by omega) u2 hL2 (hK2.dx hK.o))) (fun x u' hgt hx' => ?_)
        refine hQ.2 x u' ?_ (mkx_up (F0.mono (fun q hq => by cases hq)) (by omega) (by omega) hx')
        have := prs_le (τ := τ) (rs := rs) (wy := wy) (m := m) (cs := chd τ rs wy P) (j + 1)
        rw [tsz_s]
        omega
  exact key 2 0 rfl w0 L0 k0.x
end ZTruth2
