/-! letters packed; the words -/
section ZPack
theorem shl8_or {v b : Int} (hv : 0 ≤ v) (hv2 : v < 36028797018963968) (hb : 0 ≤ b) (hb2 : b < 256) : l_or (l_shl v 8) b = 256 * v + b := by
  rw [l_or_def, l_shl_def, zj_of]
  have e : ((zi 8).toInt64 &&& 63) = 8 := by decide
  rw [e]
  have e2 : zj v <<< (8 : Int64) ||| zj b = zj (256 * v + b) := by
    apply Int64.toBitVec_inj.mp
    rw [Int64.toBitVec_or, Int64.toBitVec_shiftLeft]
    have e3 : (8 : Int64).toBitVec.smod 64 = 8#64 := by decide
    rw [e3]
    apply BitVec.eq_of_toNat_eq
    have n1 : ∀ x : Int, 0 ≤ x → x < 9223372036854775808 → (zj x).toBitVec.toNat = x.toNat := by
      intro x h0 h1
      show (BitVec.ofInt 64 x).toNat = _
      rw [BitVec.toNat_ofInt]
      omega
    rw [BitVec.toNat_or, BitVec.shiftLeft_eq', BitVec.toNat_shiftLeft, n1 v hv (by omega), n1 b hb (by omega), n1 _ (by omega) (by omega)]
    have e4 : (8#64).toNat = 8 := by decide
    rw [e4, Nat.shiftLeft_eq, Nat.mod_eq_of_lt (by omega), ← Nat.shiftLeft_eq, ← Nat.shiftLeft_add_eq_or_of_lt (by omega), Nat.shiftLeft_eq]
    omega
  rw [e2, zj_toInt (by unfold zrl; omega)]
/-- letters from k on -/
def sl (b : Nat → Int) (k n : Nat) : List Int := (List.range n).map fun i => b (k + i)
def pkL (t : List Int) : Int := t.foldl (fun v b => 256 * v + b) 0
theorem sl_len (b : Nat → Int) (k n : Nat) : (sl b k n).length = n := by simp [sl]
theorem sl_get (b : Nat → Int) (k n : Nat) {i : Nat} (h : i < n) : (sl b k n).getD i 0 = b (k + i) := by
  simp [sl, List.getD_eq_getElem?_getD, h]
theorem sl_succ (b : Nat → Int) (k n : Nat) : sl b k (n + 1) = sl b k n ++ [b (k + n)] := by
  simp [sl, List.range_succ]
theorem pkL_snoc (t : List Int) (c : Int) : pkL (t ++ [c]) = 256 * pkL t + c := by
  simp [pkL, List.foldl_append]
theorem p256 (n : Nat) (h : n ≤ 7) : (256 : Int) ^ n ≤ 256 ^ 7 := by
  have : ∀ k : Fin 8, (256 : Int) ^ k.val ≤ 256 ^ 7 := by decide
  exact this ⟨n, by omega⟩
theorem p10_8 (n : Nat) (h : n ≤ 8) : (10 : Int) ^ n ≤ 100000000 := by
  have : ∀ k : Fin 9, (10 : Int) ^ k.val ≤ 100000000 := by decide
  exact this ⟨n, by omega⟩
theorem p10_9 (n : Nat) (h : n ≤ 9) : (10 : Int) ^ n ≤ 1000000000 := by
  have : ∀ k : Fin 10, (10 : Int) ^ k.val ≤ 1000000000 := by decide
  exact this ⟨n, by omega⟩
theorem pkv_eq (b : Nat → Int) (k : Nat) : ∀ n, n ≤ 8 → (∀ i, i < n → 0 ≤ b (k + i) ∧ b (k + i) ≤ 127) → pk b k n = pkL (sl b k n) ∧ 0 ≤ pk b k n ∧ pk b k n < 256 ^ n ∧ (1 ≤ n → 2 * pk b k n < 256 ^ n) := by
  intro n
  induction n with
  | zero => intro _ _; exact ⟨rfl, Int.le_refl _, (by decide : (0 : Int) < 256 ^ 0), fun h => by omega⟩
  | succ n ih =>
    intro hn h
    obtain ⟨e1, e2, e3, e4⟩ := ih (by omega) (fun i hi => h i (by omega))
    have hb := h n (by omega)
    have hp : (256 : Int) ^ n ≤ 256 ^ 7 := p256 n (by omega)
    have hp2 : (256 : Int) ^ 7 = 72057594037927936 := by decide
    have hq : (256 : Int) ^ (n + 1) = 256 * 256 ^ n := by rw [Int.pow_succ, Int.mul_comm]
    have hlt : pk b k n < 36028797018963968 := by
      rcases n with _ | n
      · show (0 : Int) < _; decide
      · have := e4 (by omega); omega
    have e5 : pk b k (n + 1) = 256 * pk b k n + b (k + n) := shl8_or e2 hlt hb.1 (by omega)
    refine ⟨?_, ?_, ?_, fun _ => ?_⟩
    · rw [e5, sl_succ, pkL_snoc, e1]
    · omega
    · rw [e5, hq]; omega
    · rw [e5, hq]
      rcases n with _ | n
      · simp only [Int.pow_zero, Nat.add_zero] at *; omega
      · have := e4 (by omega); omega
theorem pkL_nn : ∀ t : List Int, (∀ c ∈ t, 1 ≤ c ∧ c ≤ 127) → 0 ≤ pkL t ∧ (t ≠ [] → 0 < pkL t) := by
  have : ∀ n, ∀ t : List Int, t.length = n → (∀ c ∈ t, 1 ≤ c ∧ c ≤ 127) → 0 ≤ pkL t ∧ (t ≠ [] → 0 < pkL t) := by
    intro n
    induction n with
    | zero => intro t ht _; rw [List.length_eq_zero_iff.mp ht]; exact ⟨Int.le_refl _, fun h => absurd rfl h⟩
    | succ n ih =>
      intro t ht hc
      have hne : t ≠ [] := by intro e; rw [e] at ht; cases ht
      have e := List.dropLast_concat_getLast hne
      have h1 := ih t.dropLast (by simp [ht]) (fun c h => hc c ((List.dropLast_sublist _).subset h))
      have h2 := hc _ (List.getLast_mem hne)
      have e2 : pkL t = 256 * pkL t.dropLast + t.getLast hne := by conv => lhs; rw [← e, pkL_snoc]
      constructor
      · omega
      · intro _; omega
  exact fun t => this _ t rfl
theorem pkL_inj : ∀ t u : List Int, (∀ c ∈ t, 1 ≤ c ∧ c ≤ 127) → (∀ c ∈ u, 1 ≤ c ∧ c ≤ 127) → pkL t = pkL u → t = u := by
  have : ∀ n, ∀ t u : List Int, t.length = n → (∀ c ∈ t, 1 ≤ c ∧ c ≤ 127) → (∀ c ∈ u, 1 ≤ c ∧ c ≤ 127) → pkL t = pkL u → t = u := by
    intro n
    induction n with
    | zero =>
      intro t u ht hc hd he
      rw [List.length_eq_zero_iff.mp ht] at he ⊢
      have := (pkL_nn u hd).2
      by_cases hu : u = []
      · exact hu.symm
      · have := this hu; rw [← he] at this; exact absurd this (by decide)
    | succ n ih =>
      intro t u ht hc hd he
      have hne : t ≠ [] := by intro e; rw [e] at ht; cases ht
      have hnu : u ≠ [] := by
        intro e; rw [e] at he
        have := (pkL_nn t hc).2 hne
        rw [he] at this; exact absurd this (by decide)
      have e := List.dropLast_concat_getLast hne
      have f := List.dropLast_concat_getLast hnu
      have h2 := hc _ (List.getLast_mem hne)
      have k2 := hd _ (List.getLast_mem hnu)
      have e2 : pkL t = 256 * pkL t.dropLast + t.getLast hne := by conv => lhs; rw [← e, pkL_snoc]
      have f2 : pkL u = 256 * pkL u.dropLast + u.getLast hnu := by conv => lhs; rw [← f, pkL_snoc]
      have g1 : t.getLast hne = u.getLast hnu := by omega
      have g2 : pkL t.dropLast = pkL u.dropLast := by omega
      have g3 := ih t.dropLast u.dropLast (by simp [ht]) (fun c h => hc c ((List.dropLast_sublist _).subset h)) (fun c h => hd c ((List.dropLast_sublist _).subset h)) g2
      rw [← e, ← f, g1, g3]
  exact fun t u => this _ t u rfl
/-- the words, by number -/
def wdL : List (List Int) := [[107,105,110,100],[117,110,100,101,114],[115,111,114,116],[105,102],[97,115],[119,104,111,108,101],[116,114,117,116,104],[116,101,120,116],[116,114,117,101],[102,97,108,115,101],[110,111,110,101]]
/-- all of them between bars -/
def wdS : List Int := [124,107,105,110,100,124,117,110,100,101,114,124,115,111,114,116,124,105,102,124,97,115,124,119,104,111,108,101,124,116,114,117,116,104,124,116,101,120,116,124,116,114,117,101,124,102,97,108,115,101,124,110,111,110,101,124]
theorem wdOf_inv (v : Int) : wdOf v = -1 ∨ ∃ i : Nat, i < 11 ∧ wdOf v = i ∧ v = pkL (wdL.getD i []) := by
  unfold wdOf
  by_cases h0 : v = 1802071652
  · rw [if_pos h0]; exact Or.inr ⟨0, by decide, rfl, h0.trans (by decide)⟩
  rw [if_neg h0]
  by_cases h1 : v = 504363246962
  · rw [if_pos h1]; exact Or.inr ⟨1, by decide, rfl, h1.trans (by decide)⟩
  rw [if_neg h1]
  by_cases h2 : v = 1936683636
  · rw [if_pos h2]; exact Or.inr ⟨2, by decide, rfl, h2.trans (by decide)⟩
  rw [if_neg h2]
  by_cases h3 : v = 26982
  · rw [if_pos h3]; exact Or.inr ⟨3, by decide, rfl, h3.trans (by decide)⟩
  rw [if_neg h3]
  by_cases h4 : v = 24947
  · rw [if_pos h4]; exact Or.inr ⟨4, by decide, rfl, h4.trans (by decide)⟩
  rw [if_neg h4]
  by_cases h5 : v = 512853240933
  · rw [if_pos h5]; exact Or.inr ⟨5, by decide, rfl, h5.trans (by decide)⟩
  rw [if_neg h5]
  by_cases h6 : v = 500136506472
  · rw [if_pos h6]; exact Or.inr ⟨6, by decide, rfl, h6.trans (by decide)⟩
  rw [if_neg h6]
  by_cases h7 : v = 1952807028
  · rw [if_pos h7]; exact Or.inr ⟨7, by decide, rfl, h7.trans (by decide)⟩
  rw [if_neg h7]
  by_cases h8 : v = 1953658213
  · rw [if_pos h8]; exact Or.inr ⟨8, by decide, rfl, h8.trans (by decide)⟩
  rw [if_neg h8]
  by_cases h9 : v = 439721161573
  · rw [if_pos h9]; exact Or.inr ⟨9, by decide, rfl, h9.trans (by decide)⟩
  rw [if_neg h9]
  by_cases h10 : v = 1852796517
  · rw [if_pos h10]; exact Or.inr ⟨10, by decide, rfl, h10.trans (by decide)⟩
  rw [if_neg h10]
  exact Or.inl rfl
theorem wdOf_eq (t : List Int) (h : ∀ c ∈ t, 1 ≤ c ∧ c ≤ 127) (i : Nat) (hi : i < 11) : wdOf (pkL t) = i ↔ t = wdL.getD i [] := by
  have hk : ∀ i : Fin 11, (∀ c ∈ wdL.getD i.val [], 1 ≤ c ∧ c ≤ 127) ∧ wdOf (pkL (wdL.getD i.val [])) = (i.val : Int) := by decide
  constructor
  · intro e
    rcases wdOf_inv (pkL t) with z | ⟨j, hj, z1, z2⟩
    · rw [z] at e; omega
    · have : j = i := by omega
      rw [this] at z2
      exact pkL_inj _ _ h (hk ⟨i, hi⟩).1 z2
  · intro e
    rw [e]
    exact (hk ⟨i, hi⟩).2
theorem wdOf_rg (v : Int) : wdOf v = -1 ∨ ∃ i : Nat, i < 11 ∧ wdOf v = i := by
  rcases wdOf_inv v with z | ⟨j, hj, z1, _⟩
  · exact Or.inl z
  · exact Or.inr ⟨j, hj, z1⟩
/-- a word between bars stands there exactly if it is one of them -/
theorem wdS_sub (t : List Int) (h : ∀ c ∈ t, 1 ≤ c ∧ c ≤ 123) (h1 : 1 ≤ t.length) (h8 : t.length ≤ 8) : (∃ k, subAt wdS ([124] ++ t ++ [124]) k) ↔ 0 ≤ wdOf (pkL t) := by
  have fin : ∀ k : Fin 56, ∀ n : Fin 9, 1 ≤ n.val → k.val + n.val + 2 ≤ 56 → wdS.getD k.val 0 = 124 → wdS.getD (k.val + n.val + 1) 0 = 124 → ((List.range n.val).all fun i => decide (wdS.getD (k.val + 1 + i) 0 ≠ 124)) = true → 0 ≤ wdOf (pkL ((List.range n.val).map fun i => wdS.getD (k.val + 1 + i) 0)) := by decide +kernel
  have hg : ∀ i, i < t.length → ([124] ++ t ++ [124]).getD (1 + i) 0 = t.getD i 0 := by
    intro i hi
    simp [List.getD_eq_getElem?_getD, List.getElem?_append, hi, Nat.add_comm 1 i]
  have hl : ([124] ++ t ++ [124]).getD (t.length + 1) 0 = 124 := by
    simp [List.getD_eq_getElem?_getD, List.getElem?_append]
  have hlen : ([124] ++ t ++ [124]).length = t.length + 2 := by simp
  constructor
  · rintro ⟨k, hk, hs⟩
    rw [hlen] at hk hs
    have hk56 : wdS.length = 56 := by decide
    have e0 : wdS.getD k 0 = 124 := hs 0 (by omega)
    have en : wdS.getD (k + t.length + 1) 0 = 124 := by
      have := hs (t.length + 1) (by omega)
      rw [hl] at this
      rw [← this]; congr 1
    have ei : ∀ i, i < t.length → wdS.getD (k + 1 + i) 0 = t.getD i 0 := by
      intro i hi
      have := hs (1 + i) (by omega)
      rw [hg i hi] at this
      rw [← this]; congr 1; omega
    have et : ((List.range t.length).map fun i => wdS.getD (k + 1 + i) 0) = t := by
      apply List.ext_getElem
      · simp
      · intro i h1 h2
        simp only [List.getElem_map, List.getElem_range]
        rw [ei i h2]
        simp [List.getD_eq_getElem?_getD, h2]
    have := fin ⟨k, by omega⟩ ⟨t.length, by omega⟩ h1 (by show k + t.length + 2 ≤ 56; omega) e0 en (by
      rw [List.all_eq_true]
      intro i hi
      have hi := List.mem_range.mp hi
      have h3 := h (t.getD i 0) (by
        have h5 : t.getD i 0 = t[i] := by simp [List.getD_eq_getElem?_getD, hi]
        rw [h5]; exact List.getElem_mem hi)
      rw [decide_eq_true_eq]
      show wdS.getD (k + 1 + i) 0 ≠ 124
      rw [ei i hi]; omega)
    simp only at this
    rw [et] at this
    exact this
  · intro hw
    rcases wdOf_rg (pkL t) with e | ⟨i, hi, e⟩
    · rw [e] at hw; exact absurd hw (by decide)
    · have := (wdOf_eq t (fun c hc => by have := h c hc; omega) i hi).mp e
      rw [this]
      have key : ∀ i : Fin 11, ∃ k : Fin 56, k.val + ([124] ++ wdL.getD i.val [] ++ [124]).length ≤ wdS.length ∧ ((List.range ([124] ++ wdL.getD i.val [] ++ [124]).length).all fun j => decide (wdS.getD (k.val + j) 0 = ([124] ++ wdL.getD i.val [] ++ [124]).getD j 0)) = true := by decide +kernel
      obtain ⟨k, hk, ha⟩ := key ⟨i, hi⟩
      refine ⟨k.val, hk, fun j hj => ?_⟩
      have := List.all_eq_true.mp ha j (List.mem_range.mpr hj)
      exact of_decide_eq_true this
end ZPack
