/-! a rule that was read is whole; rules lie apart -/
section ZRul
variable {p b e d f i : Nat} {w : CW} {τ : TW}
/-- rows of patterns of a rule -/
def wsR (τ : TW) (R : Nat) : Nat := ((cks τ R).map (wsz τ 7)).sum
theorem RuR.whole {x lo hi : Nat} (hK : KR p w τ) (h : RuR p w τ f i x lo hi) (h40 : tA τ 49 (16 * f + i : Nat) ≤ 40) : ∃ m : Nat, tA τ 43 f = m ∧ RP τ (16 * f + i) m ∧ RUL p w τ (16 * f + i) x m ∧ (lo + wsR τ (16 * f + i) ≤ hi ∧ hi ≤ np τ) ∧ ∀ j c : Nat, (cks τ (16 * f + i))[j]? = some c → tA τ 18 c = tA τ 44 (3 * f + j : Nat) := by
  obtain ⟨⟨a1, a2, a3, a4⟩, kn, -, ⟨m, N, c, Di, ⟨c1, c2, c3, c4, c5, c6⟩, ⟨d1, d2, d3, d4, d5⟩, e1, e2, e3⟩, g1, g2⟩ := h
  have hN : N ≤ np τ := by omega
  have ch : CHL τ (tA τ 47 (16 * f + i : Nat)) (lsN c 0 m) := CHL_ls m 0 (fun j _ hj => d1 j (by omega)) (fun hm => by rw [show 0 + m - 1 = m - 1 by omega]; exact d2) (fun j _ hj => by have := d3 j (by omega); omega) _ (fun q => by omega) (fun _ => c6)
  have ek : cks τ (16 * f + i) = lsN c 0 m := CHL.ch ch (by rw [lsN_len]; omega)
  have r1 : ∀ j, j < m → 1 ≤ tA τ 26 (c j) := fun j hj => (PRel.rows _ _ _ _ _ (d5 j hj)).1
  have epr := prF_pr r1 (by omega) m 0 (by omega)
  have e49 : tA τ 49 (16 * f + i : Nat) = (prN τ (lsN c 0 m) : Nat) := by
    have : prF τ c 0 = 1 := rfl
    rw [this, Int.one_mul] at epr
    omega
  have each40 : ∀ j, j < m → tA τ 26 (c j) ≤ 40 := fun j hj => by
    have hmem : c j ∈ lsN c 0 m := List.mem_of_getElem? (by have := lsN_at (c := c) (i := 0) hj; rw [Nat.zero_add] at this; exact this)
    have q1 := prN_mem (τ := τ) (cs := lsN c 0 m) (fun x hx => by
      obtain ⟨y, y1, y2, y3⟩ := lsN_mem hx
      have := rw_c (r1 y (by omega))
      have := r1 y (by omega)
      rw [y3]; omega) hmem
    have q2 := rw_c (r1 j hj)
    omega
  have hk4 : ∀ k, k < nK τ → tA τ 14 k ≤ 4 := fun k hk => (hK.2.2.2.2.1 k hk).2.2.2.2.2.2.2.1
  have each : ∀ j, j < m → WP τ 7 (c j) ∧ c j + wsz τ 7 (c j) ≤ nxt c m N j := fun j hj => PRel.wp hk4 _ _ _ _ _ (d5 j hj) (Nat.le_trans (nxt_leN d3 hj) hN) (each40 j hj)
  have sum : c 0 + ((lsN c 0 m).map (wsz τ 7)).sum ≤ N := by
    obtain ⟨m', hm'⟩ : ∃ m', m = m' + 1 := ⟨m - 1, by omega⟩
    have := wsz_ls (fun j hj => (each j hj).2) m' 0 (by omega)
    rw [← hm'] at this
    exact this
  have rp : RP τ (16 * f + i) m := by
    unfold RP
    rw [ek]
    refine ⟨ch, lsN_len _ _ _, ⟨c2, c3⟩, fun x hx => ?_, ⟨e49, h40⟩, by omega⟩
    obtain ⟨y, y1, y2, y3⟩ := lsN_mem hx
    rw [y3]
    exact (each y (by omega)).1
  refine ⟨m, c1, rp, ⟨a1, c4, c, nxt c m N, Di, _, ek, e2, rp, fun j hj => ⟨d5 j hj, Nat.le_trans (nxt_leN d3 hj) hN⟩⟩, ⟨by unfold wsR; rw [ek]; omega, c5.2.2⟩, fun j x hx => ?_⟩
  rw [ek] at hx
  obtain ⟨q1, q2⟩ := lsN_get hx
  rw [q2, Nat.zero_add]
  exact e1 j q1
/-- of the first n rules -/
def wsF (τ : TW) (f n : Nat) : Nat := ((List.range n).map (fun i => wsR τ (16 * f + i))).sum
theorem wsF_s (f n : Nat) : wsF τ f (n + 1) = wsF τ f n + wsR τ (16 * f + n) := by
  unfold wsF
  rw [List.range_succ, List.map_append, List.sum_append]
  simp
theorem FRs.ext {F k lo hi : Nat} (hK : KR p w τ) (h : FRs p w τ f F k lo hi) (h40 : ∀ i, i < k → tA τ 49 (16 * f + i : Nat) ≤ 40) : lo + wsF τ f k ≤ hi := by
  obtain ⟨-, -, -, s, ⟨s1, s2⟩, s3⟩ := h
  have key : ∀ n, n ≤ k → lo + wsF τ f n ≤ s n := by
    intro n
    induction n with
    | zero => intro _; exact s1
    | succ n ih =>
      intro hn
      have q1 := ih (by omega)
      obtain ⟨q2, q3⟩ := s3 n (by omega)
      obtain ⟨m, -, -, -, ⟨q4, -⟩, -⟩ := q3.whole hK (h40 n (by omega))
      rw [wsF_s]
      omega
  have := key k (Nat.le_refl _)
  omega
theorem allR_len {R m : Nat} (h : RP τ R m) : (allR τ R).length ≤ wsR τ R := by
  have q := flat_len (fun x : Nat × Nat => [(24, x.2)] :: sub τ 7 x.1 [(24, x.2)]) (fun x => wsz τ 7 x.1) (cks τ R).zipIdx (fun x hx => by
    have := sub_len 7 x.1 [(24, x.2)] (h.2.2.2.1 x.1 (mem_zip hx))
    simp only [List.length_cons]
    omega)
  have e := zipIdx_sum (n := 7) (wsz τ 7) (cks τ R) 0
  unfold allR wsR
  omega
theorem allF_len {m : Nat} : ∀ n, (∀ i, i < n → RP τ (16 * f + i) m) → (allF τ f n).length ≤ wsF τ f n := by
  intro n h
  exact flat_len (fun i => allR τ (16 * f + i)) (fun i => wsR τ (16 * f + i)) (List.range n) (fun x hx => allR_len (h x (List.mem_range.mp hx)))
theorem tsR_len2 {R m way : Nat} (h : RP τ R m) : (tsR τ R way).length ≤ wsR τ R := tsL_len (τ := τ) (n := 7) (k := 24) (π := []) (tst_len 7) (cks τ R) 0 way h.2.2.2.1
theorem off_all (rs : List (Nat × Nat)) : off τ rs rs.length = (rs.map (fun x => (tsR τ x.1 x.2).length)).sum := by
  unfold off
  rw [List.take_length]
theorem rowsK_mem {bare : Int} {x : Nat × Nat} : ∀ n, x ∈ rowsK τ f bare n ↔ ∃ k, k < n ∧ x.1 = 16 * f + k ∧ x.2 < (tA τ 49 (16 * f + k : Nat)).toNat ∧ (bare = 0 ∨ tA τ 53 (16 * f + k : Nat) = 0) := by
  intro n
  induction n with
  | zero => exact ⟨fun h => (by cases h), fun ⟨k, h, _⟩ => by omega⟩
  | succ n ih =>
    show x ∈ rowsK τ f bare n ++ _ ↔ _
    rw [List.mem_append, ih]
    constructor
    · rintro (⟨k, k1, k2⟩ | h)
      · exact ⟨k, by omega, k2⟩
      · split at h
        · cases h
        · rename_i z
          unfold rwsR at h
          obtain ⟨y, y1, y2⟩ := List.mem_map.mp h
          refine ⟨n, by omega, by rw [← y2], by rw [← y2]; exact List.mem_range.mp y1, ?_⟩
          by_cases q : bare = 0
          · exact Or.inl q
          · exact Or.inr (Classical.byContradiction (fun g => z ⟨q, g⟩))
    · rintro ⟨k, k1, k2, k3, k4⟩
      rcases Nat.lt_or_ge k n with y | y
      · exact Or.inl ⟨k, y, k2, k3, k4⟩
      · right
        have : k = n := by omega
        subst this
        rw [if_neg (fun z => by rcases k4 with q | q; exact z.1 q; exact z.2 q)]
        unfold rwsR
        exact List.mem_map.mpr ⟨x.2, List.mem_range.mpr k3, by rw [← k2]⟩
theorem rowsK_nodup {bare : Int} : ∀ n, (rowsK τ f bare n).Nodup := by
  intro n
  induction n with
  | zero => exact List.nodup_nil
  | succ n ih =>
    show (rowsK τ f bare n ++ _).Nodup
    rw [List.nodup_append]
    refine ⟨ih, ?_, fun a ha c hc => ?_⟩
    · split
      · exact List.nodup_nil
      · unfold rwsR
        exact List.pairwise_map.mpr (List.Pairwise.imp (fun h e => h (by injection e)) List.nodup_range)
    · obtain ⟨k, k1, k2, -⟩ := (rowsK_mem n).mp ha
      split at hc
      · cases hc
      · unfold rwsR at hc
        obtain ⟨y, y1, y2⟩ := List.mem_map.mp hc
        intro q
        rw [q, ← y2] at k2
        have : 16 * f + n = 16 * f + k := k2
        omega
theorem fil_non {α : Type} {c : α → Prop} : ∀ {l : List α}, (∀ x, x ∈ l → ¬ c x) → fil c l = [] := by
  intro l
  induction l with
  | nil => intro _; rfl
  | cons x l ih => intro h; rw [fil_cons_0 (h x (List.mem_cons_self ..))]; exact ih (fun y hy => h y (List.mem_cons_of_mem _ hy))
theorem fil_sel {α : Type} {c : α → Prop} : ∀ {l : List α}, (∀ x, x ∈ l → c x) → fil c l = l := by
  intro l
  induction l with
  | nil => intro _; rfl
  | cons x l ih => intro h; rw [fil_cons_1 (h x (List.mem_cons_self ..)), ih (fun y hy => h y (List.mem_cons_of_mem _ hy))]
theorem rowsK_fil (bare : Int) : ∀ n, rowsK τ f bare n = fil (fun x => bare = 0 ∨ tA τ 53 (x.1 : Nat) = 0) (rowsK τ f 0 n) := by
  intro n
  induction n with
  | zero => rfl
  | succ n ih =>
    show rowsK τ f bare n ++ (if bare ≠ 0 ∧ tA τ 53 (16 * f + n : Nat) ≠ 0 then [] else rwsR (16 * f + n) (tA τ 49 (16 * f + n : Nat)).toNat) = fil _ (rowsK τ f 0 n ++ (if (0 : Int) ≠ 0 ∧ tA τ 53 (16 * f + n : Nat) ≠ 0 then [] else rwsR (16 * f + n) (tA τ 49 (16 * f + n : Nat)).toNat))
    rw [fil_append, ← ih, if_neg (c := (0 : Int) ≠ 0 ∧ tA τ 53 (16 * f + n : Nat) ≠ 0) (fun z => z.1 rfl)]
    congr 1
    have hr : ∀ y, y ∈ rwsR (16 * f + n) (tA τ 49 (16 * f + n : Nat)).toNat → y.1 = 16 * f + n := fun y hy => by
      unfold rwsR at hy
      obtain ⟨z, -, z2⟩ := List.mem_map.mp hy
      rw [← z2]
    by_cases z : bare ≠ 0 ∧ tA τ 53 (16 * f + n : Nat) ≠ 0
    · rw [if_pos z]
      symm
      refine fil_non (fun y hy => ?_)
      rw [hr y hy]
      rintro (q | q)
      · exact z.1 q
      · exact z.2 q
    · rw [if_neg z]
      symm
      refine fil_sel (fun y hy => ?_)
      rw [hr y hy]
      by_cases q : bare = 0
      · exact Or.inl q
      · exact Or.inr (Classical.byContradiction (fun g => z ⟨q, g⟩))
theorem off_len {bare : Int} {m : Nat} : ∀ n, (∀ i, i < n → RP τ (16 * f + i) m) → off τ (rowsK τ f bare n) (rowsK τ f bare n).length ≤ 40 * wsF τ f n := by
  intro n
  induction n with
  | zero => intro _; exact Nat.zero_le _
  | succ n ih =>
    intro h
    have q1 := ih (fun i hi => h i (by omega))
    rw [off_all] at q1 ⊢
    have rp := h n (by omega)
    have e : (rowsK τ f bare (n + 1)) = rowsK τ f bare n ++ (if bare ≠ 0 ∧ tA τ 53 (16 * f + n : Nat) ≠ 0 then [] else rwsR (16 * f + n) (tA τ 49 (16 * f + n : Nat)).toNat) := rfl
    rw [e, List.map_append, List.sum_append, wsF_s]
    have key : ∀ k, ((rwsR (16 * f + n) k).map (fun x => (tsR τ x.1 x.2).length)).sum ≤ k * wsR τ (16 * f + n) := by
      intro k
      induction k with
      | zero => exact Nat.zero_le _
      | succ k ih =>
        rw [rwsR_succ, List.map_append, List.sum_append, Nat.succ_mul k (wsR τ (16 * f + n))]
        have := tsR_len2 (way := k) rp
        simp only [List.map_cons, List.map_nil, List.sum_cons, List.sum_nil]
        omega
    have h40 := rp.2.2.2.2.1.2
    have k1 := key (tA τ 49 (16 * f + n : Nat)).toNat
    have k2 : (tA τ 49 (16 * f + n : Nat)).toNat * wsR τ (16 * f + n) ≤ 40 * wsR τ (16 * f + n) := Nat.mul_le_mul_right _ (by omega)
    by_cases z : bare ≠ 0 ∧ tA τ 53 (16 * f + n : Nat) ≠ 0
    · rw [if_pos z, List.map_nil, List.sum_nil]
      omega
    · rw [if_neg z]
      exact Nat.le_trans (Nat.add_le_add q1 (Nat.le_trans k1 k2)) (by omega)
theorem KR.lfp (h : KR p w τ) : LfP τ := fun j k hj hk e => h.2.2.2.2.2.2.2 j k hj hk e
/-- the rows at hand are whole -/
theorem cx_rows {bare : Int} {m n : Nat} (hK : KR p w τ) (hnp : np τ ≤ 800) (f12 : f < 12) (n16 : n ≤ 16) (h : ∀ i, i < n → RP τ (16 * f + i) m ∧ ∀ j c : Nat, (cks τ (16 * f + i))[j]? = some c → tA τ 18 c = tA τ 44 (3 * f + j : Nat)) (h40 : (rowsK τ f 0 n).length ≤ 40) (hw : wsF τ f n ≤ np τ) : CX τ f (rowsK τ f bare n) := by
  refine ⟨⟨hK.un, hK.lfp, by have := hK.2.2.2.1; unfold nK; change (tI τ 10).toNat ≤ 24; have : tI τ 10 ≤ 24 := this; omega, hnp⟩, Nat.le_trans (rowsK_bare f bare n) h40, ?_, fun x hx => ?_⟩
  · have := off_len (τ := τ) (f := f) (bare := bare) n (fun i hi => (h i hi).1)
    omega
  · obtain ⟨k, k1, k2, k3, -⟩ := (rowsK_mem n).mp hx
    obtain ⟨r1, r2⟩ := h k k1
    rw [k2]
    have := r1.2.2.2.2.1.2
    exact ⟨by omega, by omega, m, r1, r2⟩
end ZRul
