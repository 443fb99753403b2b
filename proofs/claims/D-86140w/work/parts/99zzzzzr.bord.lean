/-! the component's trees: borders, rows of leaves, texts, borders -/
section ZBord
variable {p b e d f F M n : Nat} {wS w : CW} {τ : TW} {rs rows : List (Nat × Nat)} {ps : List Pa} {P : Sp} {O : List (Pa × Int)} {ro : Nat × Nat → Nat} {ru : Nat → Nat}
/-- borders, kept in the maker's row -/
def BDR (w : CW) (M : Nat) (L : List Int) : Prop := ∀ (i : Nat) t, L[i]? = some t → aI w (M + 2) (i : Nat) = t
theorem sC_put {L : List Int} {v : Int} (t2 : tg w (M + 2) = 102) (l2 : ln w (M + 2) = 81) (W : WF p w) (hL : BDR w M L) (hs : srtd L) (hl : L.length ≤ 80) {Q : ZRes → CW → Prop} (hQ : ∀ w', Fr [M + 2] w w' → WF p w' → zm w' = zm w → BDR w' M (ins L v) → Q (.inl (some (ai ((ins L v).length : Nat)))) w') : wpC p (d + 1) 141 [ar M, ar (M + 2), ai (L.length : Nat), ai v] w Q := by
  have n103 : ¬ tg w (M + 2) = 103 := by rw [t2]; decide
  have aN' : ∀ i : Int, aN w (M + 2) i = aI w (M + 2) i := fun i => by unfold aN; rw [if_neg n103]
  refine wC_X18_put (Nat.zero_le _) (bC_X18_put_0 (bC_X18_put_3 ?_))
  intro I hI
  have key : ∀ k : Nat, k ≤ L.length → (∀ i y, k ≤ i → L[i]? = some y → v < y) → I (k : Int) w := by
    intro k
    induction k with
    | zero =>
      intro hk h
      refine hI _ _ ⟨fun q => absurd (by omega) q, br0 (fun q => q.1 (by omega)) (bC_X18_put_24 (call := wpC p d) ⟨fun q => absurd (by omega) q, br0 (fun q => q.1 (by omega)) (bC_X18_put_41 ?_)⟩)⟩
      have hv : v ∉ L := fun q => by
        obtain ⟨i, hi⟩ := List.getElem?_of_mem q
        have := h i v (Nat.zero_le _) hi
        omega
      have ei := ins_at hv 0 (Nat.zero_le _) (fun i y hi => by omega) h
      rw [show w32 (((0 : Nat) : Int) + 1) = 1 by rw [w32_s (by omega) (by omega)]; rfl, show w32 (((L.length : Nat) : Int) - ((0 : Nat) : Int)) = (L.length : Nat) by rw [w32_s (by omega) (by omega)]; omega]
      refine ⟨⟨⟨by omega, by omega, by omega, by rw [l2]; omega, by rw [l2]; omega⟩, Or.inl ⟨t2, t2⟩⟩, fa ⟨⟨t2, by omega, by show (((0 : Nat) : Int)) < (ln w (M + 2) : Nat); rw [l2]; omega⟩, fa ?_⟩⟩
      rw [show w32 ((L.length : Nat) + 1) = ((ins L v).length : Nat) by rw [w32_s (by omega) (by omega), ei]; simp]
      refine hQ _ (((Fr.refl _ _).sqC (Or.inl (by simp))).sqI (Or.inl (by simp))) ((W.sqC _ _ _ _ _).sqI _ _ _) rfl (fun i y hi => ?_)
      rw [ei] at hi
      rw [aI_qI]
      cases i with
      | zero =>
        rw [if_pos ⟨rfl, rfl⟩]
        exact Option.some.inj hi
      | succ i =>
        have hi' : L[i]? = some y := hi
        have := (List.getElem?_eq_some_iff.mp hi').1
        rw [if_neg (by omega), aI_qC, if_pos ⟨rfl, by omega, by omega⟩]
        rw [show ((0 : Nat) : Int) + (((i + 1 : Nat) : Int) - 1) = (i : Nat) by omega]
        exact hL i y hi'
    | succ k ih =>
      intro hk h
      obtain ⟨y, hy⟩ : ∃ y, L[k]? = some y := ⟨_, List.getElem?_eq_getElem (by omega)⟩
      have e1 : w32 (((k + 1 : Nat) : Int) - 1) = (k : Nat) := by rw [w32_s (by omega) (by omega)]; omega
      have rgk : tg w (M + 2) = 102 ∧ 0 ≤ ((k : Nat) : Int) ∧ ((k : Nat) : Int) < (ln w (M + 2) : Nat) := by rw [l2]; exact ⟨t2, by omega, by omega⟩
      by_cases z : v < y
      · refine hI _ _ ⟨fun _ => by rw [e1]; exact rgk, br1 ⟨by omega, by rw [e1, aN', hL k y hy]; omega⟩ (fa ?_)⟩
        rw [show w32 (((k + 1 : Nat) : Int) + (-1)) = (k : Nat) by rw [w32_s (by omega) (by omega)]; omega]
        refine ih (by omega) (fun i y' hi hy' => ?_)
        rcases (by omega : k + 1 ≤ i ∨ i = k) with q | q
        · exact h i y' q hy'
        · rw [q, hy] at hy'
          rw [← Option.some.inj hy']
          exact z
      · refine hI _ _ ⟨fun _ => by rw [e1]; exact rgk, br0 (fun q => by have := q.2; rw [e1, aN', hL k y hy] at this; omega) (bC_X18_put_24 (call := wpC p d) ⟨fun _ => by rw [e1]; exact rgk, ?_⟩)⟩
        by_cases z2 : y = v
        · refine br1 ⟨by omega, by rw [e1, aN', hL k y hy]; exact z2⟩ ?_
          have ei : ins L v = L := ins_in hs (by rw [← z2]; exact List.mem_of_getElem? hy)
          rw [ei] at hQ
          exact hQ w (Fr.refl _ _) W rfl hL
        · refine br0 (fun q => by have := q.2; rw [e1, aN', hL k y hy] at this; omega) (bC_X18_put_41 ?_)
          have hlow : ∀ i y', i < k + 1 → L[i]? = some y' → y' < v := fun i y' hi hy' => by
            rcases (by omega : i < k ∨ i = k) with q | q
            · have := srt_lt hs q hy' hy; omega
            · rw [q, hy] at hy'
              have := Option.some.inj hy'
              omega
          have hv : v ∉ L := fun q => by
            obtain ⟨i, hi⟩ := List.getElem?_of_mem q
            rcases (by omega : i < k + 1 ∨ k + 1 ≤ i) with g | g
            · have := hlow i v g hi; omega
            · have := h i v g hi; omega
          have ei := ins_at hv (k + 1) hk hlow h
          have il : (ins L v).length = L.length + 1 := by
            rw [ei, List.length_append, List.length_cons, List.length_take, List.length_drop]; omega
          rw [show w32 (((k + 1 : Nat) : Int) + 1) = ((k + 2 : Nat) : Int) by rw [w32_s (by omega) (by omega)]; omega, show w32 (((L.length : Nat) : Int) - ((k + 1 : Nat) : Int)) = ((L.length - (k + 1) : Nat) : Int) by rw [w32_s (by omega) (by omega)]; omega]
          refine ⟨⟨⟨by omega, by omega, by omega, by rw [l2]; omega, by rw [l2]; omega⟩, Or.inl ⟨t2, t2⟩⟩, fa ⟨⟨t2, by omega, by show (((k + 1 : Nat) : Int)) < (ln w (M + 2) : Nat); rw [l2]; omega⟩, fa ?_⟩⟩
          rw [show w32 ((L.length : Nat) + 1) = ((ins L v).length : Nat) by rw [w32_s (by omega) (by omega), il]; omega]
          refine hQ _ (((Fr.refl _ _).sqC (Or.inl (by simp))).sqI (Or.inl (by simp))) ((W.sqC _ _ _ _ _).sqI _ _ _) rfl (fun i y' hi => ?_)
          rw [ei] at hi
          rw [aI_qI]
          have tl : (L.take (k + 1)).length = k + 1 := by rw [List.length_take]; omega
          rcases (by omega : i < k + 1 ∨ i = k + 1 ∨ i = k + 2 + (i - (k + 2))) with q | q | q
          · rw [List.getElem?_append_left (by omega), List.getElem?_take, if_pos q] at hi
            rw [if_neg (by omega), aI_qC, if_neg (by omega)]
            exact hL i y' hi
          · rw [q, List.getElem?_append_right (by omega), tl, Nat.sub_self] at hi
            rw [if_pos ⟨rfl, by omega⟩]
            exact Option.some.inj hi
          · obtain ⟨j, hj⟩ : ∃ j, j = i - (k + 2) := ⟨_, rfl⟩
            rw [← hj] at q
            rw [q, List.getElem?_append_right (by omega), tl, show k + 2 + j - (k + 1) = j + 1 by omega, List.getElem?_cons_succ, List.getElem?_drop] at hi
            have := (List.getElem?_eq_some_iff.mp hi).1
            rw [if_neg (by omega), aI_qC, if_pos ⟨rfl, by omega, by omega⟩]
            rw [show ((k + 1 : Nat) : Int) + ((i : Int) - ((k + 2 : Nat) : Int)) = ((k + 1 + j : Nat) : Int) by omega]
            exact hL _ y' hi
  exact key L.length (Nat.le_refl _) (fun i y hi hy => by have := (List.getElem?_eq_some_iff.mp hy).1; omega)
theorem ins_end : ∀ (L : List Int) (v : Int), (∀ y, y ∈ L → y < v) → ins L v = L ++ [v] := by
  intro L v
  induction L with
  | nil => intro _; rfl
  | cons y L ih =>
    intro h
    have h1 := h y (List.mem_cons_self ..)
    unfold ins
    rw [if_pos h1, ih (fun z hz => h z (List.mem_cons_of_mem _ hz))]
    rfl
theorem sC_borderMany (hW : MW p wS w τ f F ps rs ro ru M) (hK : KN p w τ f F M ps P O) (hR : RWS τ rs rows P O) {A : Nat} (hA : ARW w A rows ro) {π : Pa} (hp : π ∈ ps) (h0 : srP τ f π = 0) (hn : lkp P π = none) {Q : ZRes → CW → Prop} (hQ : ∀ w', MW p wS w' τ f F ps rs ro ru M → KN p w' τ f F M ps P O → ARW w' A rows ro → Fr [M + 2] w w' → zm w' = zm w → BDR w' M (bos τ P rows π ++ [2147483647]) → (bos τ P rows π).length ≤ 80 → Q (.inl (some (ai ((bos τ P rows π).length + 1 : Nat)))) w') : wpC p (d + 4) 140 [ar M, ar A, ai (rows.length : Nat), ar (plo w F ps π)] w Q := by
  have hlr := hR.1
  have hC := hW.1.2.2.1
  have rng := bos_rng (τ := τ) (hC.who (P := P) h0 (rows := rows) (fun y hy => (hR.2 y hy).1))
  have who := hC.who (P := P) h0 (rows := rows) (fun y hy => (hR.2 y hy).1)
  rw [bos_eq] at hQ rng
  obtain ⟨g, hg⟩ : ∃ g : Nat → List Int, g = fun k => (rows.take k).foldl (lfS τ P π (stW τ)) [] := ⟨_, rfl⟩
  have gs : ∀ k x, rows[k]? = some x → g (k + 1) = lfS τ P π (stW τ) (g k) x := fun k x hx => by
    rw [hg]
    show (rows.take (k + 1)).foldl _ [] = _
    rw [List.take_succ, hx, List.foldl_append]
    rfl
  have g0 : g 0 = [] := by rw [hg]; rfl
  have gN : g rows.length = rows.foldl (lfS τ P π (stW τ)) [] := by
    rw [hg]
    show (rows.take rows.length).foldl _ [] = _
    rw [List.take_of_length_le (Nat.le_refl _)]
  have gsr : ∀ k, srtd (g k) := fun k => by
    rw [hg]
    exact fold_srt _ [] trivial
  have gl : ∀ k, k ≤ rows.length → (g k).length ≤ 2 * k := by
    intro k
    induction k with
    | zero => intro _; rw [g0]; exact Nat.le_refl 0
    | succ k ih =>
      intro hk
      have := ih (by omega)
      obtain ⟨x, hx⟩ : ∃ x, rows[k]? = some x := ⟨_, List.getElem?_eq_getElem (by omega : k < rows.length)⟩
      rw [gs k x hx]
      unfold lfS
      cases lfq τ P x π with
      | none => simp only; omega
      | some q =>
        show (stW τ (g k) q).length ≤ 2 * (k + 1)
        unfold stW
        have q1 := ins_len (l := g k) (v := tA τ 19 q - 1)
        have q2 := ins_len (l := ins (g k) (tA τ 19 q - 1)) (v := tA τ 20 q)
        omega
  rw [← gN] at hQ rng
  obtain ⟨-, il, iat, ⟨a1, a2, a3, -⟩⟩ := hW.t.2.1.at hp
  obtain ⟨i, hi⟩ : ∃ i, i = ps.idxOf π := ⟨_, rfl⟩
  rw [← hi] at il iat a3
  obtain ⟨⟨klo, khi⟩, -⟩ := (hK.1 i π iat).imp (fun k => k h0) id
  rw [hn] at klo khi
  obtain ⟨-, mt, m91, -, -, m96, -⟩ := id hW.2.2.2.2.1.1
  obtain ⟨-, -, mt2, ml2⟩ := id hW.2.2.2.2.1.2.1
  obtain ⟨n1, -, -, -, -, -, n7, n8⟩ := id hW.2.2.2.2.1.2.2.1
  obtain ⟨t9, l9, t10, l10, -⟩ := id hW.2.2.2.2.1.2.2.2.2.2
  have h89 : hF 89 (tg w (plo w F ps π)) = true := by rw [a1]; decide
  refine wC_X18_borderMany (Nat.zero_le _) (bC_X18_borderMany_0 ⟨by rw [mt]; decide, by rw [m91, n1]; decide, h89, by rw [m91, n7, t9, l9, a3]; exact ⟨rfl, by omega, by omega⟩, fa ⟨by rw [mt]; decide, by rw [m91, n1]; decide, h89, by rw [m91, n8, t10, l10, a3]; exact ⟨rfl, by omega, by omega⟩, fa ?_⟩⟩)
  rw [m91, n7, n8, a3, show aN w (M + 9) (i : Int) = -2147483648 from by unfold aN; rw [if_neg (by rw [t9]; decide)]; exact klo, show aN w (M + 10) (i : Int) = 2147483647 from by unfold aN; rw [if_neg (by rw [t10]; decide)]; exact khi]
  refine bC_X18_borderMany_34 ?_
  intro I hI
  -- a put
  have putS : ∀ (u : CW) (L : List Int) (v : Int) (R : ZRes → CW → Prop), MW p wS u τ f F ps rs ro ru M → KN p u τ f F M ps P O → ARW u A rows ro → Fr [M + 2] w u → zm u = zm w → BDR u M L → srtd L → L.length ≤ 80 → (∀ u', MW p wS u' τ f F ps rs ro ru M → KN p u' τ f F M ps P O → ARW u' A rows ro → Fr [M + 2] w u' → Fr [M + 2] u u' → zm u' = zm w → BDR u' M (ins L v) → R (.inl (some (ai ((ins L v).length : Nat)))) u') → wpC p (d + 3) 141 [ar M, ar (M + 2), ai (L.length : Nat), ai v] u R := by
    intro u L v R hu ku au fu zu bu hs hl hR
    obtain ⟨-, -, ut2, ul2⟩ := id hu.2.2.2.2.1.2.1
    refine sC_put (d := d + 2) ut2 ul2 hu.2.2.2.1 bu hs hl (fun u' fr W' z' b' => ?_)
    have mv : MW p wS u' τ f F ps rs ro ru M := hu.sa fr W' (fun r hr => by rw [List.mem_singleton.mp hr]; omega)
    exact hR u' mv (ku.sa hu fr mv (fun r hr => by rw [List.mem_singleton.mp hr]; omega)) (au.fr (p := p) hu.2.2.2.1 fr (fun r hr => by rw [List.mem_singleton.mp hr, ut2]; decide)) (fu.trans fr) fr (by rw [z', zu]) b'
  have key : ∀ m k : Nat, m + k = rows.length → ∀ u, MW p wS u τ f F ps rs ro ru M → KN p u τ f F M ps P O → ARW u A rows ro → Fr [M + 2] w u → zm u = zm w → BDR u M (g k) → I ((g k).length : Nat) (k : Int) u := by
    intro m
    induction m with
    | zero =>
      intro k hk u hu ku au fu zu tu
      rw [show k = rows.length by omega] at tu ⊢
      have gl' := gl rows.length (Nat.le_refl _)
      obtain ⟨-, umt, -, -, -, um96, -⟩ := id hu.2.2.2.2.1.1
      refine hI _ _ _ (br1 (by omega) (bC_X18_borderMany_129 (call := wpC p (d + 3)) ⟨by rw [umt]; decide, umt, ?_⟩))
      rw [um96]
      refine putS u _ _ _ hu ku au fu zu tu (gsr _) (by omega) (fun u' hu' ku' au' fu' fq zu' tu' => ?_)
      have ee := ins_end (g rows.length) 2147483647 (fun y hy => by have := rng y hy; omega)
      rw [ee] at tu' ⊢
      have := hQ u' hu' ku' au' fu' zu' tu' (by omega)
      rw [List.length_append]
      exact this
    | succ m ih =>
      intro k hk u hu ku au fu zu tu
      have hkl : k < rows.length := by omega
      have hgl := gl k (by omega)
      obtain ⟨x, hx⟩ : ∃ x, rows[k]? = some x := ⟨_, List.getElem?_eq_getElem hkl⟩
      obtain ⟨x1, x2⟩ := hR.2 x (List.mem_of_getElem? hx)
      have ax := au.2.2 k x hx
      have hS := hu.t
      obtain ⟨-, umt, um91, -, -, um96, -⟩ := id hu.2.2.2.2.1.1
      refine hI _ _ _ (br0 (by omega) ⟨by rw [au.1]; exact ⟨⟨by decide, by decide⟩, by omega, by have := au.2.1; omega⟩, by rw [umt]; decide, by rw [ax]; exact (hS.row x1).1, ?_⟩)
      rw [ax, um91, ((hW.pl hp).trans (hu.pl hp).symm)]
      refine sC_left hS hu.2.2.2.2.1 ku x1 x2 hp ⟨fun z => ⟨Or.inl rfl, fun q => absurd rfl q, br0 (fun q => q.1 rfl) (bC_X18_borderMany_91 (call := wpC p (d + 3)) ⟨fun q => absurd rfl q, br0 (fun q => q.1 rfl) (bC_X18_borderMany_123 (fa ?_))⟩)⟩, fun q r z1 z2 z3 => ?_⟩
      · rw [w32_s (by omega) (by omega)]
        have e : g (k + 1) = g k := by rw [gs k x hx]; unfold lfS; rw [z]
        have := ih (k + 1) (by omega) u hu ku au fu zu (by rw [e]; exact tu)
        rw [e] at this
        exact this
      · have eg : g (k + 1) = ins (ins (g k) (tA τ 19 q - 1)) (tA τ 20 q) := by rw [gs k x hx]; unfold lfS; rw [z1]; rfl
        obtain ⟨q1, q2, q3, q4⟩ := who x (List.mem_of_getElem? hx) q z1
        obtain ⟨t2, t3, t4⟩ : tg u r = 7 ∧ fI u 69 r = tA τ 19 q ∧ fI u 70 r = tA τ 20 q := by
          rcases z3.2 with y | y | y | y | y
          · exact y.2
          all_goals omega
        have rlz : r ≠ 0 := by have := z3.1; omega
        refine ⟨Or.inr (by rw [t2]; rfl), fun _ => by rw [t2]; decide, br1 ⟨rlz, by rw [t3]; omega⟩ ⟨by rw [umt]; decide, by rw [t2]; decide, umt, ?_⟩⟩
        rw [um96, t3, w32_s (by omega) (by omega)]
        refine putS u _ _ _ hu ku au fu zu tu (gsr k) (by omega) (fun u1 hu1 ku1 au1 fu1 fq1 zu1 tu1 => ?_)
        have or' := fq1.eob hu.2.2.2.1 (r := r) (by rw [t2]; decide) (fun y => by
          have := hu.2.2.2.2.1.2.1.2.2.1
          rw [List.mem_singleton.mp y, this] at t2
          cases t2)
        obtain ⟨-, umt1, um911, -, -, um961, -⟩ := id hu1.2.2.2.2.1.1
        have il1 := ins_len (l := g k) (v := tA τ 19 q - 1)
        have il2 := ins_len (l := ins (g k) (tA τ 19 q - 1)) (v := tA τ 20 q)
        refine bC_X18_borderMany_91 (call := wpC p (d + 3)) ⟨fun _ => by rw [ob.etg or', t2]; decide, br1 ⟨rlz, by rw [ob.efI or', t4]; omega⟩ ⟨by rw [umt1]; decide, by rw [ob.etg or', t2]; decide, umt1, ?_⟩⟩
        rw [um961, ob.efI or', t4]
        refine putS u1 _ _ _ hu1 ku1 au1 fu1 zu1 tu1 (ins_srt (gsr k)) (by omega) (fun u2 hu2 ku2 au2 fu2 fq2 zu2 tu2 => ?_)
        refine bC_X18_borderMany_123 (p := p) (call := wpC p (d + 3)) (Q := fun v w => Q (.inl (some (ai v))) w) (x0 := M) (x1 := A) (x2 := (rows.length : Nat)) (x3 := plo w F ps π) (x4 := -2147483648) (x5 := 2147483647) (fa ?_)
        rw [w32_s (by omega) (by omega), ← eg]
        have := ih (k + 1) (by omega) u2 hu2 ku2 au2 fu2 zu2 (by rw [eg]; exact tu2)
        exact this
  have := key rows.length 0 (by omega) w hW hK hA (Fr.refl _ _) rfl (fun i y hi => by rw [g0] at hi; simp at hi)
  rw [g0] at this
  exact this
end ZBord
