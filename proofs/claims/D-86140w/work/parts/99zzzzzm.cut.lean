/-! the component's trees, plainly: what is known cuts every test -/
section ZCut
variable {f : Nat} {τ : TW} {rs : List (Nat × Nat)}
theorem rgs_lo : ∀ (L : List Int) (lo : Int), srtd L → (∀ v, v ∈ L → lo ≤ v + 1) → ∀ b, b ∈ rgs lo L → lo ≤ b.1 := by
  intro L
  induction L with
  | nil =>
    intro lo _ _ b hb
    rw [List.mem_singleton.mp hb]
    exact Int.le_refl _
  | cons c L ih =>
    intro lo hs hl b hb
    have h1 := hl c (List.mem_cons_self ..)
    rcases List.mem_cons.mp hb with q | q
    · rw [q]; exact Int.le_refl _
    · have := ih (c + 1) hs.2 (fun v hv => by have := hs.1 v hv; omega) b q
      omega
/-- a part of the wholes is cut by no border -/
theorem rgs_cut : ∀ (L : List Int) (lo : Int), srtd L → (∀ v, v ∈ L → lo ≤ v + 1) → ∀ b, b ∈ rgs lo L → ∀ v, v ∈ L → v < b.1 ∨ b.2.1 ≤ v := by
  intro L
  induction L with
  | nil => intro lo _ _ b _ v hv; cases hv
  | cons c L ih =>
    intro lo hs hl b hb v hv
    have up : ∀ u, u ∈ L → c + 1 ≤ u + 1 := fun u hu => by have := hs.1 u hu; omega
    rcases List.mem_cons.mp hb with q | q
    · right
      rw [q]
      show c ≤ v
      rcases List.mem_cons.mp hv with z | z
      · omega
      · have := hs.1 v z; omega
    · rcases List.mem_cons.mp hv with z | z
      · left
        have := rgs_lo L (c + 1) hs.2 up b q
        omega
      · exact ih (c + 1) hs.2 up b q v z
theorem rgs_get : ∀ (L : List Int) (lo : Int) (i : Nat) (b : Br), (rgs lo L)[i]? = some b → (∃ c, (L ++ [2147483647])[i]? = some c ∧ b.2.1 = c) ∧ (i = 0 → b.1 = lo) ∧ (∀ j, i = j + 1 → ∃ c, L[j]? = some c ∧ b.1 = c + 1) ∧ b.2.2 = (0, 0) := by
  intro L
  induction L with
  | nil =>
    intro lo i b hb
    cases i with
    | zero =>
      have : (lo, 2147483647, 0, 0) = b := Option.some.inj hb
      rw [← this]
      exact ⟨⟨_, rfl, rfl⟩, fun _ => rfl, fun j hj => by omega, rfl⟩
    | succ i => cases hb
  | cons c L ih =>
    intro lo i b hb
    cases i with
    | zero =>
      have : (lo, c, 0, 0) = b := Option.some.inj hb
      rw [← this]
      exact ⟨⟨_, rfl, rfl⟩, fun _ => rfl, fun j hj => by omega, rfl⟩
    | succ i =>
      obtain ⟨⟨x, x1, x2⟩, y, z, u⟩ := ih (c + 1) i b hb
      refine ⟨⟨x, x1, x2⟩, fun q => by omega, fun j hj => ?_, u⟩
      have ej : j = i := by omega
      rw [ej]
      cases i with
      | zero => exact ⟨c, rfl, y rfl⟩
      | succ i =>
        obtain ⟨c', c1, c2⟩ := z i rfl
        exact ⟨c', c1, c2⟩
theorem lfq_some {P : Sp} {x : Nat × Nat} {π : Pa} {q : Nat} (h : lfq τ P x π = some q) : (π, q) ∈ tsR τ x.1 x.2 ∧ stn τ P (π, q) = 0 := by
  unfold lfq at h
  cases hh : (fil (fun e => e.1 = π ∧ stn τ P e = 0) (tsR τ x.1 x.2)).head? with
  | none => rw [hh] at h; cases h
  | some e =>
    rw [hh] at h
    have e2 : e.2 = q := Option.some.inj h
    obtain ⟨m1, m2, m3⟩ := mem_fil.mp (List.mem_of_mem_head? (by rw [hh]; rfl))
    have : e = (π, q) := by rw [← m2, ← e2]
    rw [← this]
    exact ⟨m1, m3⟩
theorem lfq_of {P : Sp} {x : Nat × Nat} {m : Nat} (hR : RP τ x.1 m) {e : Pa × Nat} (he : e ∈ tsR τ x.1 x.2) (h0 : stn τ P e = 0) : lfq τ P x e.1 = some e.2 := by
  cases h : lfq τ P x e.1 with
  | some q =>
    obtain ⟨m1, m2⟩ := lfq_some h
    exact congrArg some (congrArg Prod.snd (tsR_one hR m1 he rfl))
  | none =>
    unfold lfq at h
    have me : e ∈ fil (fun e' => e'.1 = e.1 ∧ stn τ P e' = 0) (tsR τ x.1 x.2) := mem_fil.mpr ⟨he, rfl, h0⟩
    cases hl : fil (fun e' => e'.1 = e.1 ∧ stn τ P e' = 0) (tsR τ x.1 x.2) with
    | nil => rw [hl] at me; cases me
    | cons y l => rw [hl] at h; cases h
theorem fold_all {C : Int → Prop} {P : Sp} {π : Pa} {stp : List Int → Nat → List Int} : ∀ (rows : List (Nat × Nat)), (∀ x, x ∈ rows → ∀ q, lfq τ P x π = some q → ∀ acc, (∀ v, v ∈ acc → C v) → ∀ v, v ∈ stp acc q → C v) → ∀ acc, (∀ v, v ∈ acc → C v) → ∀ v, v ∈ rows.foldl (lfS τ P π stp) acc → C v := by
  intro rows
  induction rows with
  | nil => intro _ acc ha v hv; exact ha v hv
  | cons x rows ih =>
    intro h acc ha v hv
    refine ih (fun y hy => h y (List.mem_cons_of_mem _ hy)) (lfS τ P π stp acc x) (fun u hu => ?_) v hv
    unfold lfS at hu
    cases hq : lfq τ P x π with
    | none => rw [hq] at hu; exact ha u hu
    | some q => rw [hq] at hu; exact h x (List.mem_cons_self ..) q hq acc ha u hu
theorem fold_kp {P : Sp} {π : Pa} {stp : List Int → Nat → List Int} (hm : ∀ acc q (v : Int), v ∈ acc → v ∈ stp acc q) {v : Int} : ∀ (rows : List (Nat × Nat)) (acc : List Int), v ∈ acc → v ∈ rows.foldl (lfS τ P π stp) acc := by
  intro rows
  induction rows with
  | nil => intro acc h; exact h
  | cons x rows ih =>
    intro acc h
    refine ih (lfS τ P π stp acc x) ?_
    unfold lfS
    cases lfq τ P x π with
    | none => exact h
    | some q => exact hm acc q v h
theorem fold_mem {P : Sp} {π : Pa} {stp : List Int → Nat → List Int} (hm : ∀ acc q (v : Int), v ∈ acc → v ∈ stp acc q) {v : Int} {x : Nat × Nat} {q : Nat} (hq : lfq τ P x π = some q) (hv : ∀ acc, v ∈ stp acc q) : ∀ (rows : List (Nat × Nat)) (acc : List Int), x ∈ rows → v ∈ rows.foldl (lfS τ P π stp) acc := by
  intro rows
  induction rows with
  | nil => intro acc h; cases h
  | cons y rows ih =>
    intro acc h
    show v ∈ rows.foldl (lfS τ P π stp) (lfS τ P π stp acc y)
    rcases List.mem_cons.mp h with z | z
    · refine fold_kp hm rows _ ?_
      rw [← z]
      unfold lfS
      rw [hq]
      exact hv acc
    · exact ih _ z
theorem stT_kp (acc : List Int) (q : Nat) (v : Int) (h : v ∈ acc) : v ∈ stT τ acc q := by
  unfold stT adT
  split
  · exact h
  · exact List.mem_append_left _ h
theorem stT_in (acc : List Int) (q : Nat) : tA τ 21 q ∈ stT τ acc q := by
  unfold stT adT
  split
  · assumption
  · exact List.mem_append_right _ (List.mem_singleton.mpr rfl)
theorem stW_kp (acc : List Int) (q : Nat) (v : Int) (h : v ∈ acc) : v ∈ stW τ acc q := by
  unfold stW
  rw [ins_mem, ins_mem]
  exact Or.inr (Or.inr h)
theorem fold_srt {P : Sp} {π : Pa} : ∀ (rows : List (Nat × Nat)) (acc : List Int), srtd acc → srtd (rows.foldl (lfS τ P π (stW τ)) acc) := by
  intro rows
  induction rows with
  | nil => intro acc h; exact h
  | cons x rows ih =>
    intro acc h
    refine ih (lfS τ P π (stW τ) acc x) ?_
    unfold lfS
    cases lfq τ P x π with
    | none => exact h
    | some q => exact ins_srt (ins_srt h)
theorem bos_srt (P : Sp) (rows : List (Nat × Nat)) (π : Pa) : srtd (bos τ P rows π) := by
  rw [bos_eq]
  exact fold_srt rows [] trivial
/-- tests of a whole lie within bounds -/
def WHo (τ : TW) (P : Sp) (rows : List (Nat × Nat)) (π : Pa) : Prop := ∀ x, x ∈ rows → ∀ q, lfq τ P x π = some q → tA τ 17 q = 1 ∧ -999999999 ≤ tA τ 19 q ∧ tA τ 19 q ≤ tA τ 20 q ∧ tA τ 20 q ≤ 999999999
theorem bos_rng {P : Sp} {rows : List (Nat × Nat)} {π : Pa} (h : WHo τ P rows π) : ∀ v, v ∈ bos τ P rows π → -1000000000 ≤ v ∧ v ≤ 999999999 := by
  rw [bos_eq]
  refine fold_all (C := fun v => -1000000000 ≤ v ∧ v ≤ 999999999) rows (fun x hx q hq acc ha v hv => ?_) [] (fun v hv => by cases hv)
  obtain ⟨h1, h2, h3, h4⟩ := h x hx q hq
  unfold stW at hv
  rw [ins_mem, ins_mem] at hv
  rcases hv with z | z | z
  · omega
  · omega
  · exact ha v z
/-- what is known decides a row's tests (O: texts that are out) -/
def DEC (τ : TW) (P : Sp) (O : List (Pa × Int)) (x : Nat × Nat) : Prop := ∀ e, e ∈ tsR τ x.1 x.2 → ∀ b, lkp P e.1 = some b → (tA τ 17 e.2 = 1 → (tA τ 19 e.2 ≤ b.1 ∧ b.2.1 ≤ tA τ 20 e.2) ∨ b.2.1 < tA τ 19 e.2 ∨ tA τ 20 e.2 < b.1) ∧ (tA τ 17 e.2 = 3 → b.2.2.2 = 1 → (e.1, tA τ 21 e.2) ∈ O)
theorem DEC.nil (O : List (Pa × Int)) (x : Nat × Nat) : DEC τ [] O x := fun _ _ _ h => by cases h
theorem DEC.inl {P : Sp} {O : List (Pa × Int)} {x : Nat × Nat} {g : Nat} (h : DEC τ P O x) : DEC τ (.inl g :: P) O x := h
/-- kinds of tests by sorts -/
theorem CX.k {x : Nat × Nat} (hC : CX τ f rs) (hx : x ∈ rs) {e : Pa × Nat} (he : e ∈ tsR τ x.1 x.2) : (tA τ 17 e.2 = 1 → srP τ f e.1 = 0 ∧ -999999999 ≤ tA τ 19 e.2 ∧ tA τ 19 e.2 ≤ tA τ 20 e.2 ∧ tA τ 20 e.2 ≤ 999999999) ∧ (tA τ 17 e.2 = 2 → srP τ f e.1 = 1 ∧ (tA τ 19 e.2 = 0 ∨ tA τ 19 e.2 = 1)) ∧ (tA τ 17 e.2 = 3 → srP τ f e.1 = 2) ∧ (tA τ 17 e.2 = 4 → 3 ≤ srP τ f e.1) ∧ (tA τ 17 e.2 = 5 → 3 ≤ srP τ f e.1) ∧ 1 ≤ tA τ 17 e.2 ∧ tA τ 17 e.2 ≤ 5 := by
  obtain ⟨t1, t2, t3, t4, -⟩ := hC.t hx he
  obtain ⟨-, -, m, g3, -⟩ := hC.2.2.2 x hx
  obtain ⟨n, hw⟩ := (tsR_ext g3 he).1.2.2.2.2.2
  obtain ⟨-, -, -, a1, a2, a3, a4, a5, -⟩ := hw
  rw [← t4]
  exact ⟨a1, a2, a3, a4, fun q => (a5 q).1, t2.1, t2.2⟩
theorem CX.who {P : Sp} {π : Pa} (hC : CX τ f rs) (h0 : srP τ f π = 0) {rows : List (Nat × Nat)} (hr : ∀ x, x ∈ rows → x ∈ rs) : WHo τ P rows π := fun x hx q hq => by
  obtain ⟨m1, m2⟩ := lfq_some hq
  obtain ⟨k1, k2, k3, k4, k5, k6⟩ := hC.k (hr x hx) m1
  simp only at k1 k2 k3 k4 k5 k6
  have e0 : srP τ f (π, q).1 = 0 := h0
  have q1 : tA τ 17 q = 1 := by
    rcases (by omega : tA τ 17 q = 1 ∨ tA τ 17 q = 2 ∨ tA τ 17 q = 3 ∨ tA τ 17 q = 4 ∨ tA τ 17 q = 5) with z | z | z | z | z
    · exact z
    · have := (k2 z).1; omega
    · have := k3 z; omega
    · have := k4 z; omega
    · have := k5 z; omega
  exact ⟨q1, (k1 q1).2⟩
/-- a step down decides the tests of its place -/
theorem DEC.step {P : Sp} {O O' : List (Pa × Int)} {x : Nat × Nat} {π : Pa} {b : Br} (hC : CX τ f rs) (hx : x ∈ rws τ rs P) (h : DEC τ P O x) (h0 : lkp P π = none) (hb : b ∈ brs τ P (rws τ rs P) π (srP τ f π)) (hO : ∀ y, y ∈ O → y ∈ O') (hT : srP τ f π = 2 → b.2.2.2 = 1 → ∀ t, t ∈ txs τ P (rws τ rs P) π → (π, t) ∈ O') : DEC τ (.inr (π, b) :: P) O' x := by
  intro e he b' hb'
  have hx' := (mem_fil.mp hx).1
  have hb2 : (if π = e.1 then some b else lkp P e.1) = some b' := hb'
  by_cases z : π = e.1
  · rw [if_pos z] at hb2
    have eb : b = b' := Option.some.inj hb2
    obtain ⟨-, -, m, g3, -⟩ := hC.2.2.2 x hx'
    have st0 : stn τ P e = 0 := stn_0.mpr (by rw [← z]; exact h0)
    have lq : lfq τ P x π = some e.2 := by rw [z]; exact lfq_of g3 he st0
    obtain ⟨k1, -, k3, -⟩ := hC.k hx' he
    rw [← z] at k1 k3
    rw [← eb]
    refine ⟨fun q => ?_, fun q q1 => ?_⟩
    · obtain ⟨s0, r1, r2, r3⟩ := k1 q
      have hb3 : b ∈ rgs (-2147483648) (bos τ P (rws τ rs P) π) := by
        unfold brs at hb
        rw [if_neg (by omega), if_neg (by omega), if_neg (by omega)] at hb
        exact hb
      have rng := bos_rng (τ := τ) (P := P) (hC.who (P := P) s0 (rows := rws τ rs P) (fun y hy => (mem_fil.mp hy).1))
      have cut := rgs_cut _ _ (bos_srt (τ := τ) P (rws τ rs P) π) (fun v hv => by have := rng v hv; omega) b hb3
      have c1 := cut (tA τ 19 e.2 - 1) (by
        rw [bos_eq]
        exact fold_mem stW_kp lq (fun acc => by unfold stW; rw [ins_mem, ins_mem]; exact Or.inr (Or.inl rfl)) _ [] hx)
      have c2 := cut (tA τ 20 e.2) (by
        rw [bos_eq]
        exact fold_mem stW_kp lq (fun acc => by unfold stW; rw [ins_mem]; exact Or.inl rfl) _ [] hx)
      omega
    · have := hT (k3 q) q1 (tA τ 21 e.2) (by
        rw [txs_eq]
        exact fold_mem stT_kp lq (fun acc => stT_in acc e.2) _ [] hx)
      rw [← z]
      exact this
  · rw [if_neg z] at hb2
    obtain ⟨d1, d2⟩ := h e he b' hb2
    exact ⟨d1, fun q q1 => hO _ (d2 q q1)⟩
end ZCut
