/-! every method of the component is as its weakest precondition says, at every depth; printed by tools/comp.py -/
section ZSC
theorem gC_X0_feed {d p : Nat} {D : CD} {l : Launch} (hp : D.K.1 = p) (hl : l.stackTraces = false) (S : SdC d D p l) : ∀ (as : List ZA) (w : CW) (Q : ZRes → CW → Prop), (0 ≤ d ∧ eC_X0_feed p (wpC p d) as w Q) → zoks as → ZMX l (KnC D) (ZC D) yX0_feed (Cond.code yX0_feed cX0_feed 5 (Option.some Jvm.ClassFile.FieldType.int)) (d + 1) D.lim as w Q := by
  intro as w Q h hok
  obtain ⟨hk, h⟩ := h
  unfold eC_X0_feed at h
  split at h
  · obtain ⟨hx, h⟩ := h
    subst hx
    refine zx_body (by decide) (Or.inl ⟨rfl, rfl⟩) KnC.warm (Nat.le_of_ble_eq_true rfl) (fun Γ hΓ hQ G M => ?_)
    subst hΓ
    subst hQ
    exact zv_pick [0, 1, 3] rfl (cpC_X0_feed_0 hp G M S hl hk (hok _ (List.mem_cons_of_mem _ (List.mem_cons_self))) (hok _ (List.mem_cons_of_mem _ (List.mem_cons_of_mem _ (List.mem_cons_self)))) h)
  · exact h.elim
theorem gC_X0_isIn {d p : Nat} {D : CD} {l : Launch} (hp : D.K.1 = p) (hl : l.stackTraces = false) (S : SdC d D p l) : ∀ (as : List ZA) (w : CW) (Q : ZRes → CW → Prop), (0 ≤ d ∧ eC_X0_isIn p (wpC p d) as w Q) → zoks as → ZMX l (KnC D) (ZC D) yX0_isIn (Cond.code yX0_isIn cX0_isIn 6 (Option.some Jvm.ClassFile.FieldType.boolean)) (d + 1) D.lim as w Q := by
  intro as w Q h hok
  obtain ⟨hk, h⟩ := h
  unfold eC_X0_isIn at h
  split at h
  · refine zx_body (by decide) (Or.inl ⟨rfl, rfl⟩) KnC.warm (Nat.le_of_ble_eq_true rfl) (fun Γ hΓ hQ G M => ?_)
    subst hΓ
    subst hQ
    exact zv_pick [0, 2, 4] rfl (cpC_X0_isIn_0 hp G M S hl hk (hok _ List.mem_cons_self) (hok _ (List.mem_cons_of_mem _ (List.mem_cons_self))) (hok _ (List.mem_cons_of_mem _ (List.mem_cons_of_mem _ (List.mem_cons_self)))) h)
  · exact h.elim
theorem gC_X0_read {d p : Nat} {D : CD} {l : Launch} (hp : D.K.1 = p) (hl : l.stackTraces = false) (S : SdC d D p l) : ∀ (as : List ZA) (w : CW) (Q : ZRes → CW → Prop), (0 ≤ d ∧ eC_X0_read p (wpC p d) as w Q) → zoks as → ZMX l (KnC D) (ZC D) yX0_read (Cond.codeWith yX0_read cX0_read 3 (Option.some Jvm.ClassFile.FieldType.int) [(15, 127, 130, 61), (15, 127, 154, 443)]) (d + 1) D.lim as w Q := by
  intro as w Q h hok
  obtain ⟨hk, h⟩ := h
  unfold eC_X0_read at h
  split at h
  · obtain ⟨hx, h⟩ := h
    subst hx
    refine zx_body (by decide) (Or.inr rfl) KnC.warm (Nat.le_of_ble_eq_true rfl) (fun Γ hΓ hQ G M => ?_)
    subst hΓ
    subst hQ
    exact zv_pick [0] rfl (cpC_X0_read_0 hp G M S hl hk h)
  · exact h.elim
theorem gC_X0_begin {d p : Nat} {D : CD} {l : Launch} (hp : D.K.1 = p) (hl : l.stackTraces = false) (S : SdC d D p l) : ∀ (as : List ZA) (w : CW) (Q : ZRes → CW → Prop), (0 ≤ d ∧ eC_X0_begin p (wpC p d) as w Q) → zoks as → ZMX l (KnC D) (ZC D) yX0_begin (Cond.code yX0_begin cX0_begin 1 (Option.none : Option Jvm.ClassFile.FieldType)) (d + 1) D.lim as w Q := by
  intro as w Q h hok
  obtain ⟨hk, h⟩ := h
  unfold eC_X0_begin at h
  split at h
  · obtain ⟨hx, h⟩ := h
    subst hx
    refine zx_body (by decide) (Or.inl ⟨rfl, rfl⟩) KnC.warm (Nat.le_of_ble_eq_true rfl) (fun Γ hΓ hQ G M => ?_)
    subst hΓ
    subst hQ
    exact zv_pick [0] rfl (cpC_X0_begin_0 hp G M S hl hk h)
  · exact h.elim
theorem gC_X0_next {d p : Nat} {D : CD} {l : Launch} (hp : D.K.1 = p) (hl : l.stackTraces = false) (S : SdC d D p l) : ∀ (as : List ZA) (w : CW) (Q : ZRes → CW → Prop), (0 ≤ d ∧ eC_X0_next p (wpC p d) as w Q) → zoks as → ZMX l (KnC D) (ZC D) yX0_next (Cond.code yX0_next cX0_next 3 (Option.none : Option Jvm.ClassFile.FieldType)) (d + 1) D.lim as w Q := by
  intro as w Q h hok
  obtain ⟨hk, h⟩ := h
  unfold eC_X0_next at h
  split at h
  · obtain ⟨hx, h⟩ := h
    subst hx
    refine zx_body (by decide) (Or.inl ⟨rfl, rfl⟩) KnC.warm (Nat.le_of_ble_eq_true rfl) (fun Γ hΓ hQ G M => ?_)
    subst hΓ
    subst hQ
    exact zv_pick [0] rfl (cpC_X0_next_0 hp G M S hl hk h)
  · exact h.elim
theorem gC_X0_blanks {d p : Nat} {D : CD} {l : Launch} (hp : D.K.1 = p) (hl : l.stackTraces = false) (S : SdC d D p l) : ∀ (as : List ZA) (w : CW) (Q : ZRes → CW → Prop), (0 ≤ d ∧ eC_X0_blanks p (wpC p d) as w Q) → zoks as → ZMX l (KnC D) (ZC D) yX0_blanks (Cond.code yX0_blanks cX0_blanks 1 (Option.none : Option Jvm.ClassFile.FieldType)) (d + 1) D.lim as w Q := by
  intro as w Q h hok
  obtain ⟨hk, h⟩ := h
  unfold eC_X0_blanks at h
  split at h
  · obtain ⟨hx, h⟩ := h
    subst hx
    refine zx_body (by decide) (Or.inl ⟨rfl, rfl⟩) KnC.warm (Nat.le_of_ble_eq_true rfl) (fun Γ hΓ hQ G M => ?_)
    subst hΓ
    subst hQ
    exact zv_pick [0] rfl (cpC_X0_blanks_0 hp G M S hl hk h)
  · exact h.elim
theorem gC_X0_unit {d p : Nat} {D : CD} {l : Launch} (hp : D.K.1 = p) (hl : l.stackTraces = false) (S : SdC d D p l) : ∀ (as : List ZA) (w : CW) (Q : ZRes → CW → Prop), (0 ≤ d ∧ eC_X0_unit p (wpC p d) as w Q) → zoks as → ZMX l (KnC D) (ZC D) yX0_unit (Cond.code yX0_unit cX0_unit 2 (Option.some Jvm.ClassFile.FieldType.int)) (d + 1) D.lim as w Q := by
  intro as w Q h hok
  obtain ⟨hk, h⟩ := h
  unfold eC_X0_unit at h
  split at h
  · obtain ⟨hx, h⟩ := h
    subst hx
    refine zx_body (by decide) (Or.inl ⟨rfl, rfl⟩) KnC.warm (Nat.le_of_ble_eq_true rfl) (fun Γ hΓ hQ G M => ?_)
    subst hΓ
    subst hQ
    exact zv_pick [0, 1] rfl (cpC_X0_unit_0 hp G M S hl hk (hok _ (List.mem_cons_of_mem _ (List.mem_cons_self))) h)
  · exact h.elim
theorem gC_X0_isSmall {d p : Nat} {D : CD} {l : Launch} (hp : D.K.1 = p) (hl : l.stackTraces = false) (S : SdC d D p l) : ∀ (as : List ZA) (w : CW) (Q : ZRes → CW → Prop), (0 ≤ d ∧ eC_X0_isSmall p (wpC p d) as w Q) → zoks as → ZMX l (KnC D) (ZC D) yX0_isSmall (Cond.code yX0_isSmall cX0_isSmall 1 (Option.some Jvm.ClassFile.FieldType.boolean)) (d + 1) D.lim as w Q := by
  intro as w Q h hok
  obtain ⟨hk, h⟩ := h
  unfold eC_X0_isSmall at h
  split at h
  · refine zx_body (by decide) (Or.inl ⟨rfl, rfl⟩) KnC.warm (Nat.le_of_ble_eq_true rfl) (fun Γ hΓ hQ G M => ?_)
    subst hΓ
    subst hQ
    exact zv_pick [0] rfl (cpC_X0_isSmall_0 hp G M S hl hk (hok _ List.mem_cons_self) h)
  · exact h.elim
theorem gC_X0_readLetters {d p : Nat} {D : CD} {l : Launch} (hp : D.K.1 = p) (hl : l.stackTraces = false) (S : SdC d D p l) : ∀ (as : List ZA) (w : CW) (Q : ZRes → CW → Prop), (0 ≤ d ∧ eC_X0_readLetters p (wpC p d) as w Q) → zoks as → ZMX l (KnC D) (ZC D) yX0_readLetters (Cond.code yX0_readLetters cX0_readLetters 5 (Option.none : Option Jvm.ClassFile.FieldType)) (d + 1) D.lim as w Q := by
  intro as w Q h hok
  obtain ⟨hk, h⟩ := h
  unfold eC_X0_readLetters at h
  split at h
  · obtain ⟨hx, h⟩ := h
    subst hx
    refine zx_body (by decide) (Or.inl ⟨rfl, rfl⟩) KnC.warm (Nat.le_of_ble_eq_true rfl) (fun Γ hΓ hQ G M => ?_)
    subst hΓ
    subst hQ
    exact zv_pick [0, 1] rfl (cpC_X0_readLetters_0 hp G M S hl hk (hok _ (List.mem_cons_of_mem _ (List.mem_cons_self))) h)
  · exact h.elim
theorem gC_X0_isFigure {d p : Nat} {D : CD} {l : Launch} (hp : D.K.1 = p) (hl : l.stackTraces = false) (S : SdC d D p l) : ∀ (as : List ZA) (w : CW) (Q : ZRes → CW → Prop), (0 ≤ d ∧ eC_X0_isFigure p (wpC p d) as w Q) → zoks as → ZMX l (KnC D) (ZC D) yX0_isFigure (Cond.code yX0_isFigure cX0_isFigure 1 (Option.some Jvm.ClassFile.FieldType.boolean)) (d + 1) D.lim as w Q := by
  intro as w Q h hok
  obtain ⟨hk, h⟩ := h
  unfold eC_X0_isFigure at h
  split at h
  · refine zx_body (by decide) (Or.inl ⟨rfl, rfl⟩) KnC.warm (Nat.le_of_ble_eq_true rfl) (fun Γ hΓ hQ G M => ?_)
    subst hΓ
    subst hQ
    exact zv_pick [0] rfl (cpC_X0_isFigure_0 hp G M S hl hk (hok _ List.mem_cons_self) h)
  · exact h.elim
theorem gC_X0_need {d p : Nat} {D : CD} {l : Launch} (hp : D.K.1 = p) (hl : l.stackTraces = false) (S : SdC d D p l) : ∀ (as : List ZA) (w : CW) (Q : ZRes → CW → Prop), (0 ≤ d ∧ eC_X0_need p (wpC p d) as w Q) → zoks as → ZMX l (KnC D) (ZC D) yX0_need (Cond.code yX0_need cX0_need 4 (Option.none : Option Jvm.ClassFile.FieldType)) (d + 1) D.lim as w Q := by
  intro as w Q h hok
  obtain ⟨hk, h⟩ := h
  unfold eC_X0_need at h
  split at h
  · obtain ⟨hx, h⟩ := h
    subst hx
    refine zx_body (by decide) (Or.inl ⟨rfl, rfl⟩) KnC.warm (Nat.le_of_ble_eq_true rfl) (fun Γ hΓ hQ G M => ?_)
    subst hΓ
    subst hQ
    exact zv_pick [1, 2, 3] rfl (cpC_X0_need_0 hp G M S hl hk (hok _ (List.mem_cons_of_mem _ (List.mem_cons_self))) (hok _ (List.mem_cons_of_mem _ (List.mem_cons_of_mem _ (List.mem_cons_self)))) (hok _ (List.mem_cons_of_mem _ (List.mem_cons_of_mem _ (List.mem_cons_of_mem _ (List.mem_cons_self))))) h)
  · exact h.elim
theorem gC_X0_quoted {d p : Nat} {D : CD} {l : Launch} (hp : D.K.1 = p) (hl : l.stackTraces = false) (S : SdC d D p l) : ∀ (as : List ZA) (w : CW) (Q : ZRes → CW → Prop), (0 ≤ d ∧ eC_X0_quoted p (wpC p d) as w Q) → zoks as → ZMX l (KnC D) (ZC D) yX0_quoted (Cond.code yX0_quoted cX0_quoted 2 (Option.none : Option Jvm.ClassFile.FieldType)) (d + 1) D.lim as w Q := by
  intro as w Q h hok
  obtain ⟨hk, h⟩ := h
  unfold eC_X0_quoted at h
  split at h
  · obtain ⟨hx, h⟩ := h
    subst hx
    refine zx_body (by decide) (Or.inl ⟨rfl, rfl⟩) KnC.warm (Nat.le_of_ble_eq_true rfl) (fun Γ hΓ hQ G M => ?_)
    subst hΓ
    subst hQ
    exact zv_pick [0] rfl (cpC_X0_quoted_0 hp G M S hl hk h)
  · exact h.elim
theorem gC_X0_isWord {d p : Nat} {D : CD} {l : Launch} (hp : D.K.1 = p) (hl : l.stackTraces = false) (S : SdC d D p l) : ∀ (as : List ZA) (w : CW) (Q : ZRes → CW → Prop), (0 ≤ d ∧ eC_X0_isWord p (wpC p d) as w Q) → zoks as → ZMX l (KnC D) (ZC D) yX0_isWord (Cond.code yX0_isWord cX0_isWord 4 (Option.some Jvm.ClassFile.FieldType.boolean)) (d + 1) D.lim as w Q := by
  intro as w Q h hok
  obtain ⟨hk, h⟩ := h
  unfold eC_X0_isWord at h
  split at h
  · obtain ⟨hx, h⟩ := h
    subst hx
    refine zx_body (by decide) (Or.inl ⟨rfl, rfl⟩) KnC.warm (Nat.le_of_ble_eq_true rfl) (fun Γ hΓ hQ G M => ?_)
    subst hΓ
    subst hQ
    exact zv_pick [0, 1] rfl (cpC_X0_isWord_0 hp G M S hl hk h)
  · exact h.elim
theorem gC_X0_readKind {d p : Nat} {D : CD} {l : Launch} (hp : D.K.1 = p) (hl : l.stackTraces = false) (S : SdC d D p l) : ∀ (as : List ZA) (w : CW) (Q : ZRes → CW → Prop), (0 ≤ d ∧ eC_X0_readKind p (wpC p d) as w Q) → zoks as → ZMX l (KnC D) (ZC D) yX0_readKind (Cond.code yX0_readKind cX0_readKind 7 (Option.none : Option Jvm.ClassFile.FieldType)) (d + 1) D.lim as w Q := by
  intro as w Q h hok
  obtain ⟨hk, h⟩ := h
  unfold eC_X0_readKind at h
  split at h
  · obtain ⟨hx, h⟩ := h
    subst hx
    refine zx_body (by decide) (Or.inl ⟨rfl, rfl⟩) KnC.warm (Nat.le_of_ble_eq_true rfl) (fun Γ hΓ hQ G M => ?_)
    subst hΓ
    subst hQ
    exact zv_pick [0, 1] rfl (cpC_X0_readKind_0 hp G M S hl hk (hok _ (List.mem_cons_of_mem _ (List.mem_cons_self))) h)
  · exact h.elim
theorem gC_X0_want {d p : Nat} {D : CD} {l : Launch} (hp : D.K.1 = p) (hl : l.stackTraces = false) (S : SdC d D p l) : ∀ (as : List ZA) (w : CW) (Q : ZRes → CW → Prop), (0 ≤ d ∧ eC_X0_want p (wpC p d) as w Q) → zoks as → ZMX l (KnC D) (ZC D) yX0_want (Cond.code yX0_want cX0_want 2 (Option.none : Option Jvm.ClassFile.FieldType)) (d + 1) D.lim as w Q := by
  intro as w Q h hok
  obtain ⟨hk, h⟩ := h
  unfold eC_X0_want at h
  split at h
  · obtain ⟨hx, h⟩ := h
    subst hx
    refine zx_body (by decide) (Or.inl ⟨rfl, rfl⟩) KnC.warm (Nat.le_of_ble_eq_true rfl) (fun Γ hΓ hQ G M => ?_)
    subst hΓ
    subst hQ
    exact zv_pick [0, 1] rfl (cpC_X0_want_0 hp G M S hl hk (hok _ (List.mem_cons_of_mem _ (List.mem_cons_self))) h)
  · exact h.elim
theorem gC_X0_named {d p : Nat} {D : CD} {l : Launch} (hp : D.K.1 = p) (hl : l.stackTraces = false) (S : SdC d D p l) : ∀ (as : List ZA) (w : CW) (Q : ZRes → CW → Prop), (0 ≤ d ∧ eC_X0_named p (wpC p d) as w Q) → zoks as → ZMX l (KnC D) (ZC D) yX0_named (Cond.code yX0_named cX0_named 4 (Option.some (Jvm.ClassFile.FieldType.object "LetterPost$Kind"))) (d + 1) D.lim as w Q := by
  intro as w Q h hok
  obtain ⟨hk, h⟩ := h
  unfold eC_X0_named at h
  split at h
  · obtain ⟨hx, h⟩ := h
    subst hx
    refine zx_body (by decide) (Or.inl ⟨rfl, rfl⟩) KnC.warm (Nat.le_of_ble_eq_true rfl) (fun Γ hΓ hQ G M => ?_)
    subst hΓ
    subst hQ
    exact zv_pick [0, 1] rfl (cpC_X0_named_0 hp G M S hl hk (hok _ (List.mem_cons_of_mem _ (List.mem_cons_self))) h)
  · exact h.elim
theorem gC_X0_isSign {d p : Nat} {D : CD} {l : Launch} (hp : D.K.1 = p) (hl : l.stackTraces = false) (S : SdC d D p l) : ∀ (as : List ZA) (w : CW) (Q : ZRes → CW → Prop), (0 ≤ d ∧ eC_X0_isSign p (wpC p d) as w Q) → zoks as → ZMX l (KnC D) (ZC D) yX0_isSign (Cond.code yX0_isSign cX0_isSign 2 (Option.some Jvm.ClassFile.FieldType.boolean)) (d + 1) D.lim as w Q := by
  intro as w Q h hok
  obtain ⟨hk, h⟩ := h
  unfold eC_X0_isSign at h
  split at h
  · obtain ⟨hx, h⟩ := h
    subst hx
    refine zx_body (by decide) (Or.inl ⟨rfl, rfl⟩) KnC.warm (Nat.le_of_ble_eq_true rfl) (fun Γ hΓ hQ G M => ?_)
    subst hΓ
    subst hQ
    exact zv_pick [0, 1] rfl (cpC_X0_isSign_0 hp G M S hl hk (hok _ (List.mem_cons_of_mem _ (List.mem_cons_self))) h)
  · exact h.elim
theorem gC_X0_readSort {d p : Nat} {D : CD} {l : Launch} (hp : D.K.1 = p) (hl : l.stackTraces = false) (S : SdC d D p l) : ∀ (as : List ZA) (w : CW) (Q : ZRes → CW → Prop), (0 ≤ d ∧ eC_X0_readSort p (wpC p d) as w Q) → zoks as → ZMX l (KnC D) (ZC D) yX0_readSort (Cond.code yX0_readSort cX0_readSort 3 (Option.some Jvm.ClassFile.FieldType.int)) (d + 1) D.lim as w Q := by
  intro as w Q h hok
  obtain ⟨hk, h⟩ := h
  unfold eC_X0_readSort at h
  split at h
  · obtain ⟨hx, h⟩ := h
    subst hx
    refine zx_body (by decide) (Or.inl ⟨rfl, rfl⟩) KnC.warm (Nat.le_of_ble_eq_true rfl) (fun Γ hΓ hQ G M => ?_)
    subst hΓ
    subst hQ
    exact zv_pick [0] rfl (cpC_X0_readSort_0 hp G M S hl hk h)
  · exact h.elim
theorem gC_X0_skip {d p : Nat} {D : CD} {l : Launch} (hp : D.K.1 = p) (hl : l.stackTraces = false) (S : SdC d D p l) : ∀ (as : List ZA) (w : CW) (Q : ZRes → CW → Prop), (0 ≤ d ∧ eC_X0_skip p (wpC p d) as w Q) → zoks as → ZMX l (KnC D) (ZC D) yX0_skip (Cond.code yX0_skip cX0_skip 2 (Option.none : Option Jvm.ClassFile.FieldType)) (d + 1) D.lim as w Q := by
  intro as w Q h hok
  obtain ⟨hk, h⟩ := h
  unfold eC_X0_skip at h
  split at h
  · obtain ⟨hx, h⟩ := h
    subst hx
    refine zx_body (by decide) (Or.inl ⟨rfl, rfl⟩) KnC.warm (Nat.le_of_ble_eq_true rfl) (fun Γ hΓ hQ G M => ?_)
    subst hΓ
    subst hQ
    exact zv_pick [0, 1] rfl (cpC_X0_skip_0 hp G M S hl hk (hok _ (List.mem_cons_of_mem _ (List.mem_cons_self))) h)
  · exact h.elim
theorem gC_X0_readFunction {d p : Nat} {D : CD} {l : Launch} (hp : D.K.1 = p) (hl : l.stackTraces = false) (S : SdC d D p l) : ∀ (as : List ZA) (w : CW) (Q : ZRes → CW → Prop), (0 ≤ d ∧ eC_X0_readFunction p (wpC p d) as w Q) → zoks as → ZMX l (KnC D) (ZC D) yX0_readFunction (Cond.code yX0_readFunction cX0_readFunction 3 (Option.none : Option Jvm.ClassFile.FieldType)) (d + 1) D.lim as w Q := by
  intro as w Q h hok
  obtain ⟨hk, h⟩ := h
  unfold eC_X0_readFunction at h
  split at h
  · obtain ⟨hx, h⟩ := h
    subst hx
    refine zx_body (by decide) (Or.inl ⟨rfl, rfl⟩) KnC.warm (Nat.le_of_ble_eq_true rfl) (fun Γ hΓ hQ G M => ?_)
    subst hΓ
    subst hQ
    exact zv_pick [0] rfl (cpC_X0_readFunction_0 hp G M S hl hk h)
  · exact h.elim
theorem gC_X0_functionOf {d p : Nat} {D : CD} {l : Launch} (hp : D.K.1 = p) (hl : l.stackTraces = false) (S : SdC d D p l) : ∀ (as : List ZA) (w : CW) (Q : ZRes → CW → Prop), (0 ≤ d ∧ eC_X0_functionOf p (wpC p d) as w Q) → zoks as → ZMX l (KnC D) (ZC D) yX0_functionOf (Cond.code yX0_functionOf cX0_functionOf 4 (Option.some (Jvm.ClassFile.FieldType.object "LetterPost$Function"))) (d + 1) D.lim as w Q := by
  intro as w Q h hok
  obtain ⟨hk, h⟩ := h
  unfold eC_X0_functionOf at h
  split at h
  · obtain ⟨hx, h⟩ := h
    subst hx
    refine zx_body (by decide) (Or.inl ⟨rfl, rfl⟩) KnC.warm (Nat.le_of_ble_eq_true rfl) (fun Γ hΓ hQ G M => ?_)
    subst hΓ
    subst hQ
    exact zv_pick [0, 1] rfl (cpC_X0_functionOf_0 hp G M S hl hk (hok _ (List.mem_cons_of_mem _ (List.mem_cons_self))) h)
  · exact h.elim
theorem gC_X0_rule {d p : Nat} {D : CD} {l : Launch} (hp : D.K.1 = p) (hl : l.stackTraces = false) (S : SdC d D p l) : ∀ (as : List ZA) (w : CW) (Q : ZRes → CW → Prop), (0 ≤ d ∧ eC_X0_rule p (wpC p d) as w Q) → zoks as → ZMX l (KnC D) (ZC D) yX0_rule (Cond.code yX0_rule cX0_rule 4 (Option.none : Option Jvm.ClassFile.FieldType)) (d + 1) D.lim as w Q := by
  intro as w Q h hok
  obtain ⟨hk, h⟩ := h
  unfold eC_X0_rule at h
  split at h
  · obtain ⟨hx, h⟩ := h
    subst hx
    refine zx_body (by decide) (Or.inl ⟨rfl, rfl⟩) KnC.warm (Nat.le_of_ble_eq_true rfl) (fun Γ hΓ hQ G M => ?_)
    subst hΓ
    subst hQ
    exact zv_pick [0, 1] rfl (cpC_X0_rule_0 hp G M S hl hk h)
  · exact h.elim
theorem gC_X0_pattern {d p : Nat} {D : CD} {l : Launch} (hp : D.K.1 = p) (hl : l.stackTraces = false) (S : SdC d D p l) : ∀ (as : List ZA) (w : CW) (Q : ZRes → CW → Prop), (0 ≤ d ∧ eC_X0_pattern p (wpC p d) as w Q) → zoks as → ZMX l (KnC D) (ZC D) yX0_pattern (Cond.code yX0_pattern cX0_pattern 6 (Option.some (Jvm.ClassFile.FieldType.object "LetterPost$Pattern"))) (d + 1) D.lim as w Q := by
  intro as w Q h hok
  obtain ⟨hk, h⟩ := h
  unfold eC_X0_pattern at h
  split at h
  · obtain ⟨hx, h⟩ := h
    subst hx
    refine zx_body (by decide) (Or.inl ⟨rfl, rfl⟩) KnC.warm (Nat.le_of_ble_eq_true rfl) (fun Γ hΓ hQ G M => ?_)
    subst hΓ
    subst hQ
    exact zv_pick [0, 1] rfl (cpC_X0_pattern_0 hp G M S hl hk (hok _ (List.mem_cons_of_mem _ (List.mem_cons_self))) h)
  · exact h.elim
theorem gC_X0_plain {d p : Nat} {D : CD} {l : Launch} (hp : D.K.1 = p) (hl : l.stackTraces = false) (S : SdC d D p l) : ∀ (as : List ZA) (w : CW) (Q : ZRes → CW → Prop), (0 ≤ d ∧ eC_X0_plain p (wpC p d) as w Q) → zoks as → ZMX l (KnC D) (ZC D) yX0_plain (Cond.code yX0_plain cX0_plain 6 (Option.some (Jvm.ClassFile.FieldType.object "LetterPost$Pattern"))) (d + 1) D.lim as w Q := by
  intro as w Q h hok
  obtain ⟨hk, h⟩ := h
  unfold eC_X0_plain at h
  split at h
  · obtain ⟨hx, h⟩ := h
    subst hx
    refine zx_body (by decide) (Or.inl ⟨rfl, rfl⟩) KnC.warm (Nat.le_of_ble_eq_true rfl) (fun Γ hΓ hQ G M => ?_)
    subst hΓ
    subst hQ
    exact zv_pick [0, 1, 2] rfl (cpC_X0_plain_0 hp G M S hl hk (hok _ (List.mem_cons_of_mem _ (List.mem_cons_self))) (hok _ (List.mem_cons_of_mem _ (List.mem_cons_of_mem _ (List.mem_cons_self)))) h)
  · exact h.elim
theorem gC_X0_nameAt {d p : Nat} {D : CD} {l : Launch} (hp : D.K.1 = p) (hl : l.stackTraces = false) (S : SdC d D p l) : ∀ (as : List ZA) (w : CW) (Q : ZRes → CW → Prop), (0 ≤ d ∧ eC_X0_nameAt p (wpC p d) as w Q) → zoks as → ZMX l (KnC D) (ZC D) yX0_nameAt (Cond.code yX0_nameAt cX0_nameAt 3 (Option.some Jvm.ClassFile.FieldType.int)) (d + 1) D.lim as w Q := by
  intro as w Q h hok
  obtain ⟨hk, h⟩ := h
  unfold eC_X0_nameAt at h
  split at h
  · obtain ⟨hx, h⟩ := h
    subst hx
    refine zx_body (by decide) (Or.inl ⟨rfl, rfl⟩) KnC.warm (Nat.le_of_ble_eq_true rfl) (fun Γ hΓ hQ G M => ?_)
    subst hΓ
    subst hQ
    exact zv_pick [0] rfl (cpC_X0_nameAt_0 hp G M S hl hk h)
  · exact h.elim
theorem gC_X0_bind {d p : Nat} {D : CD} {l : Launch} (hp : D.K.1 = p) (hl : l.stackTraces = false) (S : SdC d D p l) : ∀ (as : List ZA) (w : CW) (Q : ZRes → CW → Prop), (0 ≤ d ∧ eC_X0_bind p (wpC p d) as w Q) → zoks as → ZMX l (KnC D) (ZC D) yX0_bind (Cond.code yX0_bind cX0_bind 3 (Option.some Jvm.ClassFile.FieldType.int)) (d + 1) D.lim as w Q := by
  intro as w Q h hok
  obtain ⟨hk, h⟩ := h
  unfold eC_X0_bind at h
  split at h
  · obtain ⟨hx, h⟩ := h
    subst hx
    refine zx_body (by decide) (Or.inl ⟨rfl, rfl⟩) KnC.warm (Nat.le_of_ble_eq_true rfl) (fun Γ hΓ hQ G M => ?_)
    subst hΓ
    subst hQ
    exact zv_pick [0, 1, 2] rfl (cpC_X0_bind_0 hp G M S hl hk (hok _ (List.mem_cons_of_mem _ (List.mem_cons_self))) (hok _ (List.mem_cons_of_mem _ (List.mem_cons_of_mem _ (List.mem_cons_self)))) h)
  · exact h.elim
theorem gC_X0_range {d p : Nat} {D : CD} {l : Launch} (hp : D.K.1 = p) (hl : l.stackTraces = false) (S : SdC d D p l) : ∀ (as : List ZA) (w : CW) (Q : ZRes → CW → Prop), (0 ≤ d ∧ eC_X0_range p (wpC p d) as w Q) → zoks as → ZMX l (KnC D) (ZC D) yX0_range (Cond.code yX0_range cX0_range 4 (Option.some (Jvm.ClassFile.FieldType.object "LetterPost$Pattern"))) (d + 1) D.lim as w Q := by
  intro as w Q h hok
  obtain ⟨hk, h⟩ := h
  unfold eC_X0_range at h
  split at h
  · obtain ⟨hx, h⟩ := h
    subst hx
    refine zx_body (by decide) (Or.inl ⟨rfl, rfl⟩) KnC.warm (Nat.le_of_ble_eq_true rfl) (fun Γ hΓ hQ G M => ?_)
    subst hΓ
    subst hQ
    exact zv_pick [0, 1] rfl (cpC_X0_range_0 hp G M S hl hk (hok _ (List.mem_cons_of_mem _ (List.mem_cons_self))) h)
  · exact h.elim
theorem gC_X0_readWhole {d p : Nat} {D : CD} {l : Launch} (hp : D.K.1 = p) (hl : l.stackTraces = false) (S : SdC d D p l) : ∀ (as : List ZA) (w : CW) (Q : ZRes → CW → Prop), (0 ≤ d ∧ eC_X0_readWhole p (wpC p d) as w Q) → zoks as → ZMX l (KnC D) (ZC D) yX0_readWhole (Cond.code yX0_readWhole cX0_readWhole 2 (Option.some Jvm.ClassFile.FieldType.int)) (d + 1) D.lim as w Q := by
  intro as w Q h hok
  obtain ⟨hk, h⟩ := h
  unfold eC_X0_readWhole at h
  split at h
  · obtain ⟨hx, h⟩ := h
    subst hx
    refine zx_body (by decide) (Or.inl ⟨rfl, rfl⟩) KnC.warm (Nat.le_of_ble_eq_true rfl) (fun Γ hΓ hQ G M => ?_)
    subst hΓ
    subst hQ
    exact zv_pick [0] rfl (cpC_X0_readWhole_0 hp G M S hl hk h)
  · exact h.elim
theorem gC_X0_signed {d p : Nat} {D : CD} {l : Launch} (hp : D.K.1 = p) (hl : l.stackTraces = false) (S : SdC d D p l) : ∀ (as : List ZA) (w : CW) (Q : ZRes → CW → Prop), (0 ≤ d ∧ eC_X0_signed p (wpC p d) as w Q) → zoks as → ZMX l (KnC D) (ZC D) yX0_signed (Cond.code yX0_signed cX0_signed 2 (Option.some Jvm.ClassFile.FieldType.int)) (d + 1) D.lim as w Q := by
  intro as w Q h hok
  obtain ⟨hk, h⟩ := h
  unfold eC_X0_signed at h
  split at h
  · obtain ⟨hx, h⟩ := h
    subst hx
    refine zx_body (by decide) (Or.inl ⟨rfl, rfl⟩) KnC.warm (Nat.le_of_ble_eq_true rfl) (fun Γ hΓ hQ G M => ?_)
    subst hΓ
    subst hQ
    exact zv_pick [0] rfl (cpC_X0_signed_0 hp G M S hl hk h)
  · exact h.elim
theorem gC_X0_kinded {d p : Nat} {D : CD} {l : Launch} (hp : D.K.1 = p) (hl : l.stackTraces = false) (S : SdC d D p l) : ∀ (as : List ZA) (w : CW) (Q : ZRes → CW → Prop), (0 ≤ d ∧ eC_X0_kinded p (wpC p d) as w Q) → zoks as → ZMX l (KnC D) (ZC D) yX0_kinded (Cond.code yX0_kinded cX0_kinded 6 (Option.some (Jvm.ClassFile.FieldType.object "LetterPost$Pattern"))) (d + 1) D.lim as w Q := by
  intro as w Q h hok
  obtain ⟨hk, h⟩ := h
  unfold eC_X0_kinded at h
  split at h
  · obtain ⟨hx, h⟩ := h
    subst hx
    refine zx_body (by decide) (Or.inl ⟨rfl, rfl⟩) KnC.warm (Nat.le_of_ble_eq_true rfl) (fun Γ hΓ hQ G M => ?_)
    subst hΓ
    subst hQ
    exact zv_pick [0, 1, 2] rfl (cpC_X0_kinded_0 hp G M S hl hk (hok _ (List.mem_cons_of_mem _ (List.mem_cons_self))) (hok _ (List.mem_cons_of_mem _ (List.mem_cons_of_mem _ (List.mem_cons_self)))) h)
  · exact h.elim
theorem gC_X0_isKind {d p : Nat} {D : CD} {l : Launch} (hp : D.K.1 = p) (hl : l.stackTraces = false) (S : SdC d D p l) : ∀ (as : List ZA) (w : CW) (Q : ZRes → CW → Prop), (0 ≤ d ∧ eC_X0_isKind p (wpC p d) as w Q) → zoks as → ZMX l (KnC D) (ZC D) yX0_isKind (Cond.code yX0_isKind cX0_isKind 1 (Option.some Jvm.ClassFile.FieldType.boolean)) (d + 1) D.lim as w Q := by
  intro as w Q h hok
  obtain ⟨hk, h⟩ := h
  unfold eC_X0_isKind at h
  split at h
  · refine zx_body (by decide) (Or.inl ⟨rfl, rfl⟩) KnC.warm (Nat.le_of_ble_eq_true rfl) (fun Γ hΓ hQ G M => ?_)
    subst hΓ
    subst hQ
    exact zv_pick [0] rfl (cpC_X0_isKind_0 hp G M S hl hk (hok _ List.mem_cons_self) h)
  · exact h.elim
theorem gC_X0_kindOf {d p : Nat} {D : CD} {l : Launch} (hp : D.K.1 = p) (hl : l.stackTraces = false) (S : SdC d D p l) : ∀ (as : List ZA) (w : CW) (Q : ZRes → CW → Prop), (0 ≤ d ∧ eC_X0_kindOf p (wpC p d) as w Q) → zoks as → ZMX l (KnC D) (ZC D) yX0_kindOf (Cond.code yX0_kindOf cX0_kindOf 2 (Option.some (Jvm.ClassFile.FieldType.object "LetterPost$Kind"))) (d + 1) D.lim as w Q := by
  intro as w Q h hok
  obtain ⟨hk, h⟩ := h
  unfold eC_X0_kindOf at h
  split at h
  · obtain ⟨hx, h⟩ := h
    subst hx
    refine zx_body (by decide) (Or.inl ⟨rfl, rfl⟩) KnC.warm (Nat.le_of_ble_eq_true rfl) (fun Γ hΓ hQ G M => ?_)
    subst hΓ
    subst hQ
    exact zv_pick [0, 1] rfl (cpC_X0_kindOf_0 hp G M S hl hk (hok _ (List.mem_cons_of_mem _ (List.mem_cons_self))) h)
  · exact h.elim
theorem gC_X0_either {d p : Nat} {D : CD} {l : Launch} (hp : D.K.1 = p) (hl : l.stackTraces = false) (S : SdC d D p l) : ∀ (as : List ZA) (w : CW) (Q : ZRes → CW → Prop), (0 ≤ d ∧ eC_X0_either p (wpC p d) as w Q) → zoks as → ZMX l (KnC D) (ZC D) yX0_either (Cond.code yX0_either cX0_either 13 (Option.some (Jvm.ClassFile.FieldType.object "LetterPost$Pattern"))) (d + 1) D.lim as w Q := by
  intro as w Q h hok
  obtain ⟨hk, h⟩ := h
  unfold eC_X0_either at h
  split at h
  · obtain ⟨hx, h⟩ := h
    subst hx
    refine zx_body (by decide) (Or.inl ⟨rfl, rfl⟩) KnC.warm (Nat.le_of_ble_eq_true rfl) (fun Γ hΓ hQ G M => ?_)
    subst hΓ
    subst hQ
    exact zv_pick [0, 1] rfl (cpC_X0_either_0 hp G M S hl hk (hok _ (List.mem_cons_of_mem _ (List.mem_cons_self))) h)
  · exact h.elim
theorem gC_X0_binds {d p : Nat} {D : CD} {l : Launch} (hp : D.K.1 = p) (hl : l.stackTraces = false) (S : SdC d D p l) : ∀ (as : List ZA) (w : CW) (Q : ZRes → CW → Prop), (0 ≤ d ∧ eC_X0_binds p (wpC p d) as w Q) → zoks as → ZMX l (KnC D) (ZC D) yX0_binds (Cond.code yX0_binds cX0_binds 2 (Option.some Jvm.ClassFile.FieldType.int)) (d + 1) D.lim as w Q := by
  intro as w Q h hok
  obtain ⟨hk, h⟩ := h
  unfold eC_X0_binds at h
  split at h
  · obtain ⟨hx, h⟩ := h
    subst hx
    refine zx_body (by decide) (Or.inl ⟨rfl, rfl⟩) KnC.warm (Nat.le_of_ble_eq_true rfl) (fun Γ hΓ hQ G M => ?_)
    subst hΓ
    subst hQ
    exact zv_pick [0, 1] rfl (cpC_X0_binds_0 hp G M S hl hk (hok _ (List.mem_cons_of_mem _ (List.mem_cons_self))) h)
  · exact h.elim
theorem gC_X0_guard {d p : Nat} {D : CD} {l : Launch} (hp : D.K.1 = p) (hl : l.stackTraces = false) (S : SdC d D p l) : ∀ (as : List ZA) (w : CW) (Q : ZRes → CW → Prop), (0 ≤ d ∧ eC_X0_guard p (wpC p d) as w Q) → zoks as → ZMX l (KnC D) (ZC D) yX0_guard (Cond.code yX0_guard cX0_guard 2 (Option.some (Jvm.ClassFile.FieldType.object "LetterPost$Guard"))) (d + 1) D.lim as w Q := by
  intro as w Q h hok
  obtain ⟨hk, h⟩ := h
  unfold eC_X0_guard at h
  split at h
  · obtain ⟨hx, h⟩ := h
    subst hx
    refine zx_body (by decide) (Or.inl ⟨rfl, rfl⟩) KnC.warm (Nat.le_of_ble_eq_true rfl) (fun Γ hΓ hQ G M => ?_)
    subst hΓ
    subst hQ
    exact zv_pick [0] rfl (cpC_X0_guard_0 hp G M S hl hk h)
  · exact h.elim
theorem gC_X0_sum {d p : Nat} {D : CD} {l : Launch} (hp : D.K.1 = p) (hl : l.stackTraces = false) (S : SdC d D p l) : ∀ (as : List ZA) (w : CW) (Q : ZRes → CW → Prop), (0 ≤ d ∧ eC_X0_sum p (wpC p d) as w Q) → zoks as → ZMX l (KnC D) (ZC D) yX0_sum (Cond.code yX0_sum cX0_sum 3 (Option.none : Option Jvm.ClassFile.FieldType)) (d + 1) D.lim as w Q := by
  intro as w Q h hok
  obtain ⟨hk, h⟩ := h
  unfold eC_X0_sum at h
  split at h
  · obtain ⟨hx, h⟩ := h
    subst hx
    refine zx_body (by decide) (Or.inl ⟨rfl, rfl⟩) KnC.warm (Nat.le_of_ble_eq_true rfl) (fun Γ hΓ hQ G M => ?_)
    subst hΓ
    subst hQ
    exact zv_pick [0, 1, 2] rfl (cpC_X0_sum_0 hp G M S hl hk (hok _ (List.mem_cons_of_mem _ (List.mem_cons_of_mem _ (List.mem_cons_self)))) h)
  · exact h.elim
theorem gC_X0_term {d p : Nat} {D : CD} {l : Launch} (hp : D.K.1 = p) (hl : l.stackTraces = false) (S : SdC d D p l) : ∀ (as : List ZA) (w : CW) (Q : ZRes → CW → Prop), (0 ≤ d ∧ eC_X0_term p (wpC p d) as w Q) → zoks as → ZMX l (KnC D) (ZC D) yX0_term (Cond.code yX0_term cX0_term 3 (Option.none : Option Jvm.ClassFile.FieldType)) (d + 1) D.lim as w Q := by
  intro as w Q h hok
  obtain ⟨hk, h⟩ := h
  unfold eC_X0_term at h
  split at h
  · obtain ⟨hx, h⟩ := h
    subst hx
    refine zx_body (by decide) (Or.inl ⟨rfl, rfl⟩) KnC.warm (Nat.le_of_ble_eq_true rfl) (fun Γ hΓ hQ G M => ?_)
    subst hΓ
    subst hQ
    exact zv_pick [0, 1, 2] rfl (cpC_X0_term_0 hp G M S hl hk (hok _ (List.mem_cons_of_mem _ (List.mem_cons_of_mem _ (List.mem_cons_self)))) h)
  · exact h.elim
theorem gC_X0_wholeName {d p : Nat} {D : CD} {l : Launch} (hp : D.K.1 = p) (hl : l.stackTraces = false) (S : SdC d D p l) : ∀ (as : List ZA) (w : CW) (Q : ZRes → CW → Prop), (0 ≤ d ∧ eC_X0_wholeName p (wpC p d) as w Q) → zoks as → ZMX l (KnC D) (ZC D) yX0_wholeName (Cond.code yX0_wholeName cX0_wholeName 2 (Option.some Jvm.ClassFile.FieldType.int)) (d + 1) D.lim as w Q := by
  intro as w Q h hok
  obtain ⟨hk, h⟩ := h
  unfold eC_X0_wholeName at h
  split at h
  · obtain ⟨hx, h⟩ := h
    subst hx
    refine zx_body (by decide) (Or.inl ⟨rfl, rfl⟩) KnC.warm (Nat.le_of_ble_eq_true rfl) (fun Γ hΓ hQ G M => ?_)
    subst hΓ
    subst hQ
    exact zv_pick [0] rfl (cpC_X0_wholeName_0 hp G M S hl hk h)
  · exact h.elim
theorem gC_X0_known {d p : Nat} {D : CD} {l : Launch} (hp : D.K.1 = p) (hl : l.stackTraces = false) (S : SdC d D p l) : ∀ (as : List ZA) (w : CW) (Q : ZRes → CW → Prop), (0 ≤ d ∧ eC_X0_known p (wpC p d) as w Q) → zoks as → ZMX l (KnC D) (ZC D) yX0_known (Cond.code yX0_known cX0_known 2 (Option.some Jvm.ClassFile.FieldType.int)) (d + 1) D.lim as w Q := by
  intro as w Q h hok
  obtain ⟨hk, h⟩ := h
  unfold eC_X0_known at h
  split at h
  · obtain ⟨hx, h⟩ := h
    subst hx
    refine zx_body (by decide) (Or.inl ⟨rfl, rfl⟩) KnC.warm (Nat.le_of_ble_eq_true rfl) (fun Γ hΓ hQ G M => ?_)
    subst hΓ
    subst hQ
    exact zv_pick [0] rfl (cpC_X0_known_0 hp G M S hl hk h)
  · exact h.elim
theorem gC_X0_answer {d p : Nat} {D : CD} {l : Launch} (hp : D.K.1 = p) (hl : l.stackTraces = false) (S : SdC d D p l) : ∀ (as : List ZA) (w : CW) (Q : ZRes → CW → Prop), (0 ≤ d ∧ eC_X0_answer p (wpC p d) as w Q) → zoks as → ZMX l (KnC D) (ZC D) yX0_answer (Cond.code yX0_answer cX0_answer 5 (Option.none : Option Jvm.ClassFile.FieldType)) (d + 1) D.lim as w Q := by
  intro as w Q h hok
  obtain ⟨hk, h⟩ := h
  unfold eC_X0_answer at h
  split at h
  · obtain ⟨hx, h⟩ := h
    subst hx
    refine zx_body (by decide) (Or.inl ⟨rfl, rfl⟩) KnC.warm (Nat.le_of_ble_eq_true rfl) (fun Γ hΓ hQ G M => ?_)
    subst hΓ
    subst hQ
    exact zv_pick [0, 1] rfl (cpC_X0_answer_0 hp G M S hl hk h)
  · exact h.elim
theorem gC_X0_isCall {d p : Nat} {D : CD} {l : Launch} (hp : D.K.1 = p) (hl : l.stackTraces = false) (S : SdC d D p l) : ∀ (as : List ZA) (w : CW) (Q : ZRes → CW → Prop), (0 ≤ d ∧ eC_X0_isCall p (wpC p d) as w Q) → zoks as → ZMX l (KnC D) (ZC D) yX0_isCall (Cond.code yX0_isCall cX0_isCall 2 (Option.some Jvm.ClassFile.FieldType.boolean)) (d + 1) D.lim as w Q := by
  intro as w Q h hok
  obtain ⟨hk, h⟩ := h
  unfold eC_X0_isCall at h
  split at h
  · obtain ⟨hx, h⟩ := h
    subst hx
    refine zx_body (by decide) (Or.inl ⟨rfl, rfl⟩) KnC.warm (Nat.le_of_ble_eq_true rfl) (fun Γ hΓ hQ G M => ?_)
    subst hΓ
    subst hQ
    exact zv_pick [0] rfl (cpC_X0_isCall_0 hp G M S hl hk h)
  · exact h.elim
theorem gC_X0_settle {d p : Nat} {D : CD} {l : Launch} (hp : D.K.1 = p) (hl : l.stackTraces = false) (S : SdC d D p l) : ∀ (as : List ZA) (w : CW) (Q : ZRes → CW → Prop), (0 ≤ d ∧ eC_X0_settle p (wpC p d) as w Q) → zoks as → ZMX l (KnC D) (ZC D) yX0_settle (Cond.code yX0_settle cX0_settle 5 (Option.none : Option Jvm.ClassFile.FieldType)) (d + 1) D.lim as w Q := by
  intro as w Q h hok
  obtain ⟨hk, h⟩ := h
  unfold eC_X0_settle at h
  split at h
  · obtain ⟨hx, h⟩ := h
    subst hx
    refine zx_body (by decide) (Or.inl ⟨rfl, rfl⟩) KnC.warm (Nat.le_of_ble_eq_true rfl) (fun Γ hΓ hQ G M => ?_)
    subst hΓ
    subst hQ
    exact zv_pick [0] rfl (cpC_X0_settle_0 hp G M S hl hk h)
  · exact h.elim
theorem gC_X0_settleCall {d p : Nat} {D : CD} {l : Launch} (hp : D.K.1 = p) (hl : l.stackTraces = false) (S : SdC d D p l) : ∀ (as : List ZA) (w : CW) (Q : ZRes → CW → Prop), (0 ≤ d ∧ eC_X0_settleCall p (wpC p d) as w Q) → zoks as → ZMX l (KnC D) (ZC D) yX0_settleCall (Cond.code yX0_settleCall cX0_settleCall 6 (Option.none : Option Jvm.ClassFile.FieldType)) (d + 1) D.lim as w Q := by
  intro as w Q h hok
  obtain ⟨hk, h⟩ := h
  unfold eC_X0_settleCall at h
  split at h
  · obtain ⟨hx, h⟩ := h
    subst hx
    refine zx_body (by decide) (Or.inl ⟨rfl, rfl⟩) KnC.warm (Nat.le_of_ble_eq_true rfl) (fun Γ hΓ hQ G M => ?_)
    subst hΓ
    subst hQ
    exact zv_pick [0, 1] rfl (cpC_X0_settleCall_0 hp G M S hl hk h)
  · exact h.elim
theorem gC_X0_product {d p : Nat} {D : CD} {l : Launch} (hp : D.K.1 = p) (hl : l.stackTraces = false) (S : SdC d D p l) : ∀ (as : List ZA) (w : CW) (Q : ZRes → CW → Prop), (0 ≤ d ∧ eC_X0_product p (wpC p d) as w Q) → zoks as → ZMX l (KnC D) (ZC D) yX0_product (Cond.code yX0_product cX0_product 6 (Option.some Jvm.ClassFile.FieldType.int)) (d + 1) D.lim as w Q := by
  intro as w Q h hok
  obtain ⟨hk, h⟩ := h
  unfold eC_X0_product at h
  split at h
  · refine zx_body (by decide) (Or.inl ⟨rfl, rfl⟩) KnC.warm (Nat.le_of_ble_eq_true rfl) (fun Γ hΓ hQ G M => ?_)
    subst hΓ
    subst hQ
    exact zv_pick [0] rfl (cpC_X0_product_0 hp G M S hl hk h)
  · exact h.elim
theorem gC_X0_clear {d p : Nat} {D : CD} {l : Launch} (hp : D.K.1 = p) (hl : l.stackTraces = false) (S : SdC d D p l) : ∀ (as : List ZA) (w : CW) (Q : ZRes → CW → Prop), (0 ≤ d ∧ eC_X0_clear p (wpC p d) as w Q) → zoks as → ZMX l (KnC D) (ZC D) yX0_clear (Cond.code yX0_clear cX0_clear 2 (Option.none : Option Jvm.ClassFile.FieldType)) (d + 1) D.lim as w Q := by
  intro as w Q h hok
  obtain ⟨hk, h⟩ := h
  unfold eC_X0_clear at h
  split at h
  · obtain ⟨hx, h⟩ := h
    subst hx
    refine zx_body (by decide) (Or.inl ⟨rfl, rfl⟩) KnC.warm (Nat.le_of_ble_eq_true rfl) (fun Γ hΓ hQ G M => ?_)
    subst hΓ
    subst hQ
    exact zv_pick [0] rfl (cpC_X0_clear_0 hp G M S hl hk h)
  · exact h.elim
theorem gC_X0_fault {d p : Nat} {D : CD} {l : Launch} (hp : D.K.1 = p) (hl : l.stackTraces = false) (S : SdC d D p l) : ∀ (as : List ZA) (w : CW) (Q : ZRes → CW → Prop), (0 ≤ d ∧ eC_X0_fault p (wpC p d) as w Q) → zoks as → ZMX l (KnC D) (ZC D) yX0_fault (Cond.code yX0_fault cX0_fault 1 (Option.some Jvm.ClassFile.FieldType.int)) (d + 1) D.lim as w Q := by
  intro as w Q h hok
  obtain ⟨hk, h⟩ := h
  unfold eC_X0_fault at h
  split at h
  · obtain ⟨hx, h⟩ := h
    subst hx
    refine zx_body (by decide) (Or.inl ⟨rfl, rfl⟩) KnC.warm (Nat.le_of_ble_eq_true rfl) (fun Γ hΓ hQ G M => ?_)
    subst hΓ
    subst hQ
    exact zv_pick [0] rfl (cpC_X0_fault_0 hp G M S hl hk h)
  · exact h.elim
theorem gC_X0_add {d p : Nat} {D : CD} {l : Launch} (hp : D.K.1 = p) (hl : l.stackTraces = false) (S : SdC d D p l) : ∀ (as : List ZA) (w : CW) (Q : ZRes → CW → Prop), (0 ≤ d ∧ eC_X0_add p (wpC p d) as w Q) → zoks as → ZMX l (KnC D) (ZC D) yX0_add (Cond.codeWith yX0_add cX0_add 4 (Option.some Jvm.ClassFile.FieldType.int) [(20, 76, 79, 61)]) (d + 1) D.lim as w Q := by
  intro as w Q h hok
  obtain ⟨hk, h⟩ := h
  unfold eC_X0_add at h
  split at h
  · obtain ⟨hx, h⟩ := h
    subst hx
    refine zx_body (by decide) (Or.inr rfl) KnC.warm (Nat.le_of_ble_eq_true rfl) (fun Γ hΓ hQ G M => ?_)
    subst hΓ
    subst hQ
    exact zv_pick [0] rfl (cpC_X0_add_0 hp G M S hl hk h)
  · exact h.elim
theorem gC_X0_remake {d p : Nat} {D : CD} {l : Launch} (hp : D.K.1 = p) (hl : l.stackTraces = false) (S : SdC d D p l) : ∀ (as : List ZA) (w : CW) (Q : ZRes → CW → Prop), (0 ≤ d ∧ eC_X0_remake p (wpC p d) as w Q) → zoks as → ZMX l (KnC D) (ZC D) yX0_remake (Cond.codeWith yX0_remake cX0_remake 5 (Option.some Jvm.ClassFile.FieldType.int) [(29, 41, 42, 443)]) (d + 1) D.lim as w Q := by
  intro as w Q h hok
  obtain ⟨hk, h⟩ := h
  unfold eC_X0_remake at h
  split at h
  · obtain ⟨hx, h⟩ := h
    subst hx
    refine zx_body (by decide) (Or.inr rfl) KnC.warm (Nat.le_of_ble_eq_true rfl) (fun Γ hΓ hQ G M => ?_)
    subst hΓ
    subst hQ
    exact zv_pick [0, 1, 2] rfl (cpC_X0_remake_0 hp G M S hl hk (hok _ (List.mem_cons_of_mem _ (List.mem_cons_self))) (hok _ (List.mem_cons_of_mem _ (List.mem_cons_of_mem _ (List.mem_cons_self)))) h)
  · exact h.elim
theorem gC_X0_isFunction {d p : Nat} {D : CD} {l : Launch} (hp : D.K.1 = p) (hl : l.stackTraces = false) (S : SdC d D p l) : ∀ (as : List ZA) (w : CW) (Q : ZRes → CW → Prop), (0 ≤ d ∧ eC_X0_isFunction p (wpC p d) as w Q) → zoks as → ZMX l (KnC D) (ZC D) yX0_isFunction (Cond.code yX0_isFunction cX0_isFunction 2 (Option.some Jvm.ClassFile.FieldType.boolean)) (d + 1) D.lim as w Q := by
  intro as w Q h hok
  obtain ⟨hk, h⟩ := h
  unfold eC_X0_isFunction at h
  split at h
  · obtain ⟨hx, h⟩ := h
    subst hx
    refine zx_body (by decide) (Or.inl ⟨rfl, rfl⟩) KnC.warm (Nat.le_of_ble_eq_true rfl) (fun Γ hΓ hQ G M => ?_)
    subst hΓ
    subst hQ
    exact zv_pick [0, 1] rfl (cpC_X0_isFunction_0 hp G M S hl hk (hok _ (List.mem_cons_of_mem _ (List.mem_cons_self))) h)
  · exact h.elim
theorem gC_X0_kind {d p : Nat} {D : CD} {l : Launch} (hp : D.K.1 = p) (hl : l.stackTraces = false) (S : SdC d D p l) : ∀ (as : List ZA) (w : CW) (Q : ZRes → CW → Prop), (0 ≤ d ∧ eC_X0_kind p (wpC p d) as w Q) → zoks as → ZMX l (KnC D) (ZC D) yX0_kind (Cond.code yX0_kind cX0_kind 4 (Option.some Jvm.ClassFile.FieldType.int)) (d + 1) D.lim as w Q := by
  intro as w Q h hok
  obtain ⟨hk, h⟩ := h
  unfold eC_X0_kind at h
  split at h
  · obtain ⟨hx, h⟩ := h
    subst hx
    refine zx_body (by decide) (Or.inl ⟨rfl, rfl⟩) KnC.warm (Nat.le_of_ble_eq_true rfl) (fun Γ hΓ hQ G M => ?_)
    subst hΓ
    subst hQ
    exact zv_pick [0, 1, 2] rfl (cpC_X0_kind_0 hp G M S hl hk (hok _ (List.mem_cons_of_mem _ (List.mem_cons_self))) (hok _ (List.mem_cons_of_mem _ (List.mem_cons_of_mem _ (List.mem_cons_self)))) h)
  · exact h.elim
theorem gC_X0_kindNamed {d p : Nat} {D : CD} {l : Launch} (hp : D.K.1 = p) (hl : l.stackTraces = false) (S : SdC d D p l) : ∀ (as : List ZA) (w : CW) (Q : ZRes → CW → Prop), (0 ≤ d ∧ eC_X0_kindNamed p (wpC p d) as w Q) → zoks as → ZMX l (KnC D) (ZC D) yX0_kindNamed (Cond.code yX0_kindNamed cX0_kindNamed 4 (Option.some Jvm.ClassFile.FieldType.int)) (d + 1) D.lim as w Q := by
  intro as w Q h hok
  obtain ⟨hk, h⟩ := h
  unfold eC_X0_kindNamed at h
  split at h
  · obtain ⟨hx, h⟩ := h
    subst hx
    refine zx_body (by decide) (Or.inl ⟨rfl, rfl⟩) KnC.warm (Nat.le_of_ble_eq_true rfl) (fun Γ hΓ hQ G M => ?_)
    subst hΓ
    subst hQ
    exact zv_pick [0, 1] rfl (cpC_X0_kindNamed_0 hp G M S hl hk (hok _ (List.mem_cons_of_mem _ (List.mem_cons_self))) h)
  · exact h.elim
theorem gC_X0_function {d p : Nat} {D : CD} {l : Launch} (hp : D.K.1 = p) (hl : l.stackTraces = false) (S : SdC d D p l) : ∀ (as : List ZA) (w : CW) (Q : ZRes → CW → Prop), (0 ≤ d ∧ eC_X0_function p (wpC p d) as w Q) → zoks as → ZMX l (KnC D) (ZC D) yX0_function (Cond.code yX0_function cX0_function 4 (Option.some Jvm.ClassFile.FieldType.int)) (d + 1) D.lim as w Q := by
  intro as w Q h hok
  obtain ⟨hk, h⟩ := h
  unfold eC_X0_function at h
  split at h
  · obtain ⟨hx, h⟩ := h
    subst hx
    refine zx_body (by decide) (Or.inl ⟨rfl, rfl⟩) KnC.warm (Nat.le_of_ble_eq_true rfl) (fun Γ hΓ hQ G M => ?_)
    subst hΓ
    subst hQ
    exact zv_pick [0, 1, 2] rfl (cpC_X0_function_0 hp G M S hl hk (hok _ (List.mem_cons_of_mem _ (List.mem_cons_self))) (hok _ (List.mem_cons_of_mem _ (List.mem_cons_of_mem _ (List.mem_cons_self)))) h)
  · exact h.elim
theorem gC_X0_node {d p : Nat} {D : CD} {l : Launch} (hp : D.K.1 = p) (hl : l.stackTraces = false) (S : SdC d D p l) : ∀ (as : List ZA) (w : CW) (Q : ZRes → CW → Prop), (0 ≤ d ∧ eC_X0_node p (wpC p d) as w Q) → zoks as → ZMX l (KnC D) (ZC D) yX0_node (Cond.code yX0_node cX0_node 5 (Option.some Jvm.ClassFile.FieldType.int)) (d + 1) D.lim as w Q := by
  intro as w Q h hok
  obtain ⟨hk, h⟩ := h
  unfold eC_X0_node at h
  split at h
  · obtain ⟨hx, h⟩ := h
    subst hx
    refine zx_body (by decide) (Or.inl ⟨rfl, rfl⟩) KnC.warm (Nat.le_of_ble_eq_true rfl) (fun Γ hΓ hQ G M => ?_)
    subst hΓ
    subst hQ
    exact zv_pick [0, 1, 2, 3] rfl (cpC_X0_node_0 hp G M S hl hk (hok _ (List.mem_cons_of_mem _ (List.mem_cons_self))) (hok _ (List.mem_cons_of_mem _ (List.mem_cons_of_mem _ (List.mem_cons_self)))) (hok _ (List.mem_cons_of_mem _ (List.mem_cons_of_mem _ (List.mem_cons_of_mem _ (List.mem_cons_self))))) h)
  · exact h.elim
theorem gC_X0_isNode {d p : Nat} {D : CD} {l : Launch} (hp : D.K.1 = p) (hl : l.stackTraces = false) (S : SdC d D p l) : ∀ (as : List ZA) (w : CW) (Q : ZRes → CW → Prop), (0 ≤ d ∧ eC_X0_isNode p (wpC p d) as w Q) → zoks as → ZMX l (KnC D) (ZC D) yX0_isNode (Cond.code yX0_isNode cX0_isNode 3 (Option.some Jvm.ClassFile.FieldType.boolean)) (d + 1) D.lim as w Q := by
  intro as w Q h hok
  obtain ⟨hk, h⟩ := h
  unfold eC_X0_isNode at h
  split at h
  · obtain ⟨hx, h⟩ := h
    subst hx
    refine zx_body (by decide) (Or.inl ⟨rfl, rfl⟩) KnC.warm (Nat.le_of_ble_eq_true rfl) (fun Γ hΓ hQ G M => ?_)
    subst hΓ
    subst hQ
    exact zv_pick [0, 1, 2] rfl (cpC_X0_isNode_0 hp G M S hl hk (hok _ (List.mem_cons_of_mem _ (List.mem_cons_self))) (hok _ (List.mem_cons_of_mem _ (List.mem_cons_of_mem _ (List.mem_cons_self)))) h)
  · exact h.elim
theorem gC_X0_branch {d p : Nat} {D : CD} {l : Launch} (hp : D.K.1 = p) (hl : l.stackTraces = false) (S : SdC d D p l) : ∀ (as : List ZA) (w : CW) (Q : ZRes → CW → Prop), (0 ≤ d ∧ eC_X0_branch p (wpC p d) as w Q) → zoks as → ZMX l (KnC D) (ZC D) yX0_branch (Cond.code yX0_branch cX0_branch 5 (Option.some Jvm.ClassFile.FieldType.int)) (d + 1) D.lim as w Q := by
  intro as w Q h hok
  obtain ⟨hk, h⟩ := h
  unfold eC_X0_branch at h
  split at h
  · obtain ⟨hx, h⟩ := h
    subst hx
    refine zx_body (by decide) (Or.inl ⟨rfl, rfl⟩) KnC.warm (Nat.le_of_ble_eq_true rfl) (fun Γ hΓ hQ G M => ?_)
    subst hΓ
    subst hQ
    exact zv_pick [0, 1, 2, 3] rfl (cpC_X0_branch_0 hp G M S hl hk (hok _ (List.mem_cons_of_mem _ (List.mem_cons_self))) (hok _ (List.mem_cons_of_mem _ (List.mem_cons_of_mem _ (List.mem_cons_self)))) (hok _ (List.mem_cons_of_mem _ (List.mem_cons_of_mem _ (List.mem_cons_of_mem _ (List.mem_cons_self))))) h)
  · exact h.elim
theorem gC_X0_missing {d p : Nat} {D : CD} {l : Launch} (hp : D.K.1 = p) (hl : l.stackTraces = false) (S : SdC d D p l) : ∀ (as : List ZA) (w : CW) (Q : ZRes → CW → Prop), (0 ≤ d ∧ eC_X0_missing p (wpC p d) as w Q) → zoks as → ZMX l (KnC D) (ZC D) yX0_missing (Cond.codeWith yX0_missing cX0_missing 3 (Option.some Jvm.ClassFile.FieldType.int) [(10, 33, 34, 443)]) (d + 1) D.lim as w Q := by
  intro as w Q h hok
  obtain ⟨hk, h⟩ := h
  unfold eC_X0_missing at h
  split at h
  · obtain ⟨hx, h⟩ := h
    subst hx
    refine zx_body (by decide) (Or.inr rfl) KnC.warm (Nat.le_of_ble_eq_true rfl) (fun Γ hΓ hQ G M => ?_)
    subst hΓ
    subst hQ
    exact zv_pick [0, 1] rfl (cpC_X0_missing_0 hp G M S hl hk (hok _ (List.mem_cons_of_mem _ (List.mem_cons_self))) h)
  · exact h.elim
theorem gC_X0_unreached {d p : Nat} {D : CD} {l : Launch} (hp : D.K.1 = p) (hl : l.stackTraces = false) (S : SdC d D p l) : ∀ (as : List ZA) (w : CW) (Q : ZRes → CW → Prop), (0 ≤ d ∧ eC_X0_unreached p (wpC p d) as w Q) → zoks as → ZMX l (KnC D) (ZC D) yX0_unreached (Cond.codeWith yX0_unreached cX0_unreached 4 (Option.some Jvm.ClassFile.FieldType.int) [(31, 64, 65, 443)]) (d + 1) D.lim as w Q := by
  intro as w Q h hok
  obtain ⟨hk, h⟩ := h
  unfold eC_X0_unreached at h
  split at h
  · obtain ⟨hx, h⟩ := h
    subst hx
    refine zx_body (by decide) (Or.inr rfl) KnC.warm (Nat.le_of_ble_eq_true rfl) (fun Γ hΓ hQ G M => ?_)
    subst hΓ
    subst hQ
    exact zv_pick [0, 1, 2] rfl (cpC_X0_unreached_0 hp G M S hl hk (hok _ (List.mem_cons_of_mem _ (List.mem_cons_self))) (hok _ (List.mem_cons_of_mem _ (List.mem_cons_of_mem _ (List.mem_cons_self)))) h)
  · exact h.elim
theorem gC_X0_whole {d p : Nat} {D : CD} {l : Launch} (hp : D.K.1 = p) (hl : l.stackTraces = false) (S : SdC d D p l) : ∀ (as : List ZA) (w : CW) (Q : ZRes → CW → Prop), (0 ≤ d ∧ eC_X0_whole p (wpC p d) as w Q) → zoks as → ZMX l (KnC D) (ZC D) yX0_whole (Cond.code yX0_whole cX0_whole 2 (Option.some Jvm.ClassFile.FieldType.int)) (d + 1) D.lim as w Q := by
  intro as w Q h hok
  obtain ⟨hk, h⟩ := h
  unfold eC_X0_whole at h
  split at h
  · obtain ⟨hx, h⟩ := h
    subst hx
    refine zx_body (by decide) (Or.inl ⟨rfl, rfl⟩) KnC.warm (Nat.le_of_ble_eq_true rfl) (fun Γ hΓ hQ G M => ?_)
    subst hΓ
    subst hQ
    exact zv_pick [0, 1] rfl (cpC_X0_whole_0 hp G M S hl hk (hok _ (List.mem_cons_of_mem _ (List.mem_cons_self))) h)
  · exact h.elim
theorem gC_X0_keep {d p : Nat} {D : CD} {l : Launch} (hp : D.K.1 = p) (hl : l.stackTraces = false) (S : SdC d D p l) : ∀ (as : List ZA) (w : CW) (Q : ZRes → CW → Prop), (0 ≤ d ∧ eC_X0_keep p (wpC p d) as w Q) → zoks as → ZMX l (KnC D) (ZC D) yX0_keep (Cond.code yX0_keep cX0_keep 2 (Option.some Jvm.ClassFile.FieldType.int)) (d + 1) D.lim as w Q := by
  intro as w Q h hok
  obtain ⟨hk, h⟩ := h
  unfold eC_X0_keep at h
  split at h
  · obtain ⟨hx, h⟩ := h
    subst hx
    refine zx_body (by decide) (Or.inl ⟨rfl, rfl⟩) KnC.warm (Nat.le_of_ble_eq_true rfl) (fun Γ hΓ hQ G M => ?_)
    subst hΓ
    subst hQ
    exact zv_pick [0, 1] rfl (cpC_X0_keep_0 hp G M S hl hk h)
  · exact h.elim
theorem gC_X0_truth {d p : Nat} {D : CD} {l : Launch} (hp : D.K.1 = p) (hl : l.stackTraces = false) (S : SdC d D p l) : ∀ (as : List ZA) (w : CW) (Q : ZRes → CW → Prop), (0 ≤ d ∧ eC_X0_truth p (wpC p d) as w Q) → zoks as → ZMX l (KnC D) (ZC D) yX0_truth (Cond.code yX0_truth cX0_truth 2 (Option.some Jvm.ClassFile.FieldType.int)) (d + 1) D.lim as w Q := by
  intro as w Q h hok
  obtain ⟨hk, h⟩ := h
  unfold eC_X0_truth at h
  split at h
  · obtain ⟨hx, h⟩ := h
    subst hx
    refine zx_body (by decide) (Or.inl ⟨rfl, rfl⟩) KnC.warm (Nat.le_of_ble_eq_true rfl) (fun Γ hΓ hQ G M => ?_)
    subst hΓ
    subst hQ
    exact zv_pick [0, 1] rfl (cpC_X0_truth_0 hp G M S hl hk (hok _ (List.mem_cons_of_mem _ (List.mem_cons_self))) h)
  · exact h.elim
theorem gC_X0_letters {d p : Nat} {D : CD} {l : Launch} (hp : D.K.1 = p) (hl : l.stackTraces = false) (S : SdC d D p l) : ∀ (as : List ZA) (w : CW) (Q : ZRes → CW → Prop), (0 ≤ d ∧ eC_X0_letters p (wpC p d) as w Q) → zoks as → ZMX l (KnC D) (ZC D) yX0_letters (Cond.code yX0_letters cX0_letters 6 (Option.some Jvm.ClassFile.FieldType.int)) (d + 1) D.lim as w Q := by
  intro as w Q h hok
  obtain ⟨hk, h⟩ := h
  unfold eC_X0_letters at h
  split at h
  · obtain ⟨hx, h⟩ := h
    subst hx
    refine zx_body (by decide) (Or.inl ⟨rfl, rfl⟩) KnC.warm (Nat.le_of_ble_eq_true rfl) (fun Γ hΓ hQ G M => ?_)
    subst hΓ
    subst hQ
    exact zv_pick [0, 1] rfl (cpC_X0_letters_0 hp G M S hl hk (hok _ (List.mem_cons_of_mem _ (List.mem_cons_self))) h)
  · exact h.elim
theorem gC_X0_nothing {d p : Nat} {D : CD} {l : Launch} (hp : D.K.1 = p) (hl : l.stackTraces = false) (S : SdC d D p l) : ∀ (as : List ZA) (w : CW) (Q : ZRes → CW → Prop), (0 ≤ d ∧ eC_X0_nothing p (wpC p d) as w Q) → zoks as → ZMX l (KnC D) (ZC D) yX0_nothing (Cond.code yX0_nothing cX0_nothing 1 (Option.some Jvm.ClassFile.FieldType.int)) (d + 1) D.lim as w Q := by
  intro as w Q h hok
  obtain ⟨hk, h⟩ := h
  unfold eC_X0_nothing at h
  split at h
  · obtain ⟨hx, h⟩ := h
    subst hx
    refine zx_body (by decide) (Or.inl ⟨rfl, rfl⟩) KnC.warm (Nat.le_of_ble_eq_true rfl) (fun Γ hΓ hQ G M => ?_)
    subst hΓ
    subst hQ
    exact zv_pick [0] rfl (cpC_X0_nothing_0 hp G M S hl hk h)
  · exact h.elim
theorem gC_X0_make {d p : Nat} {D : CD} {l : Launch} (hp : D.K.1 = p) (hl : l.stackTraces = false) (S : SdC d D p l) : ∀ (as : List ZA) (w : CW) (Q : ZRes → CW → Prop), (0 ≤ d ∧ eC_X0_make p (wpC p d) as w Q) → zoks as → ZMX l (KnC D) (ZC D) yX0_make (Cond.code yX0_make cX0_make 11 (Option.some Jvm.ClassFile.FieldType.int)) (d + 1) D.lim as w Q := by
  intro as w Q h hok
  obtain ⟨hk, h⟩ := h
  unfold eC_X0_make at h
  split at h
  · obtain ⟨hx, h⟩ := h
    subst hx
    refine zx_body (by decide) (Or.inl ⟨rfl, rfl⟩) KnC.warm (Nat.le_of_ble_eq_true rfl) (fun Γ hΓ hQ G M => ?_)
    subst hΓ
    subst hQ
    exact zv_pick [0, 1, 2, 3, 4, 5] rfl (cpC_X0_make_0 hp G M S hl hk (hok _ (List.mem_cons_of_mem _ (List.mem_cons_self))) (hok _ (List.mem_cons_of_mem _ (List.mem_cons_of_mem _ (List.mem_cons_self)))) (hok _ (List.mem_cons_of_mem _ (List.mem_cons_of_mem _ (List.mem_cons_of_mem _ (List.mem_cons_self))))) (hok _ (List.mem_cons_of_mem _ (List.mem_cons_of_mem _ (List.mem_cons_of_mem _ (List.mem_cons_of_mem _ (List.mem_cons_self)))))) (hok _ (List.mem_cons_of_mem _ (List.mem_cons_of_mem _ (List.mem_cons_of_mem _ (List.mem_cons_of_mem _ (List.mem_cons_of_mem _ (List.mem_cons_self))))))) h)
  · exact h.elim
theorem gC_X0_isValue {d p : Nat} {D : CD} {l : Launch} (hp : D.K.1 = p) (hl : l.stackTraces = false) (S : SdC d D p l) : ∀ (as : List ZA) (w : CW) (Q : ZRes → CW → Prop), (0 ≤ d ∧ eC_X0_isValue p (wpC p d) as w Q) → zoks as → ZMX l (KnC D) (ZC D) yX0_isValue (Cond.code yX0_isValue cX0_isValue 2 (Option.some Jvm.ClassFile.FieldType.boolean)) (d + 1) D.lim as w Q := by
  intro as w Q h hok
  obtain ⟨hk, h⟩ := h
  unfold eC_X0_isValue at h
  split at h
  · obtain ⟨hx, h⟩ := h
    subst hx
    refine zx_body (by decide) (Or.inl ⟨rfl, rfl⟩) KnC.warm (Nat.le_of_ble_eq_true rfl) (fun Γ hΓ hQ G M => ?_)
    subst hΓ
    subst hQ
    exact zv_pick [0, 1] rfl (cpC_X0_isValue_0 hp G M S hl hk (hok _ (List.mem_cons_of_mem _ (List.mem_cons_self))) h)
  · exact h.elim
theorem gC_X0_isOf {d p : Nat} {D : CD} {l : Launch} (hp : D.K.1 = p) (hl : l.stackTraces = false) (S : SdC d D p l) : ∀ (as : List ZA) (w : CW) (Q : ZRes → CW → Prop), (0 ≤ d ∧ eC_X0_isOf p (wpC p d) as w Q) → zoks as → ZMX l (KnC D) (ZC D) yX0_isOf (Cond.code yX0_isOf cX0_isOf 3 (Option.some Jvm.ClassFile.FieldType.boolean)) (d + 1) D.lim as w Q := by
  intro as w Q h hok
  obtain ⟨hk, h⟩ := h
  unfold eC_X0_isOf at h
  split at h
  · obtain ⟨hx, h⟩ := h
    subst hx
    refine zx_body (by decide) (Or.inl ⟨rfl, rfl⟩) KnC.warm (Nat.le_of_ble_eq_true rfl) (fun Γ hΓ hQ G M => ?_)
    subst hΓ
    subst hQ
    exact zv_pick [0, 1, 2] rfl (cpC_X0_isOf_0 hp G M S hl hk (hok _ (List.mem_cons_of_mem _ (List.mem_cons_of_mem _ (List.mem_cons_self)))) h)
  · exact h.elim
theorem gC_X0_value {d p : Nat} {D : CD} {l : Launch} (hp : D.K.1 = p) (hl : l.stackTraces = false) (S : SdC d D p l) : ∀ (as : List ZA) (w : CW) (Q : ZRes → CW → Prop), (0 ≤ d ∧ eC_X0_value p (wpC p d) as w Q) → zoks as → ZMX l (KnC D) (ZC D) yX0_value (Cond.code yX0_value cX0_value 4 (Option.some Jvm.ClassFile.FieldType.int)) (d + 1) D.lim as w Q := by
  intro as w Q h hok
  obtain ⟨hk, h⟩ := h
  unfold eC_X0_value at h
  split at h
  · obtain ⟨hx, h⟩ := h
    subst hx
    refine zx_body (by decide) (Or.inl ⟨rfl, rfl⟩) KnC.warm (Nat.le_of_ble_eq_true rfl) (fun Γ hΓ hQ G M => ?_)
    subst hΓ
    subst hQ
    exact zv_pick [0, 1, 2] rfl (cpC_X0_value_0 hp G M S hl hk (hok _ (List.mem_cons_of_mem _ (List.mem_cons_self))) (hok _ (List.mem_cons_of_mem _ (List.mem_cons_of_mem _ (List.mem_cons_self)))) h)
  · exact h.elim
theorem gC_X0_alike {d p : Nat} {D : CD} {l : Launch} (hp : D.K.1 = p) (hl : l.stackTraces = false) (S : SdC d D p l) : ∀ (as : List ZA) (w : CW) (Q : ZRes → CW → Prop), (0 ≤ d ∧ eC_X0_alike p (wpC p d) as w Q) → zoks as → ZMX l (KnC D) (ZC D) yX0_alike (Cond.code yX0_alike cX0_alike 3 (Option.some Jvm.ClassFile.FieldType.int)) (d + 1) D.lim as w Q := by
  intro as w Q h hok
  obtain ⟨hk, h⟩ := h
  unfold eC_X0_alike at h
  split at h
  · obtain ⟨hx, h⟩ := h
    subst hx
    refine zx_body (by decide) (Or.inl ⟨rfl, rfl⟩) KnC.warm (Nat.le_of_ble_eq_true rfl) (fun Γ hΓ hQ G M => ?_)
    subst hΓ
    subst hQ
    exact zv_pick [0, 1, 2] rfl (cpC_X0_alike_0 hp G M S hl hk (hok _ (List.mem_cons_of_mem _ (List.mem_cons_self))) (hok _ (List.mem_cons_of_mem _ (List.mem_cons_of_mem _ (List.mem_cons_self)))) h)
  · exact h.elim
theorem gC_X0_sort {d p : Nat} {D : CD} {l : Launch} (hp : D.K.1 = p) (hl : l.stackTraces = false) (S : SdC d D p l) : ∀ (as : List ZA) (w : CW) (Q : ZRes → CW → Prop), (0 ≤ d ∧ eC_X0_sort p (wpC p d) as w Q) → zoks as → ZMX l (KnC D) (ZC D) yX0_sort (Cond.code yX0_sort cX0_sort 5 (Option.some Jvm.ClassFile.FieldType.int)) (d + 1) D.lim as w Q := by
  intro as w Q h hok
  obtain ⟨hk, h⟩ := h
  unfold eC_X0_sort at h
  split at h
  · obtain ⟨hx, h⟩ := h
    subst hx
    refine zx_body (by decide) (Or.inl ⟨rfl, rfl⟩) KnC.warm (Nat.le_of_ble_eq_true rfl) (fun Γ hΓ hQ G M => ?_)
    subst hΓ
    subst hQ
    exact zv_pick [0, 1, 2, 3, 4] rfl (cpC_X0_sort_0 hp G M S hl hk (hok _ (List.mem_cons_of_mem _ (List.mem_cons_self))) (hok _ (List.mem_cons_of_mem _ (List.mem_cons_of_mem _ (List.mem_cons_self)))) (hok _ (List.mem_cons_of_mem _ (List.mem_cons_of_mem _ (List.mem_cons_of_mem _ (List.mem_cons_self))))) (hok _ (List.mem_cons_of_mem _ (List.mem_cons_of_mem _ (List.mem_cons_of_mem _ (List.mem_cons_of_mem _ (List.mem_cons_self)))))) h)
  · exact h.elim
theorem gC_X0_sorts {d p : Nat} {D : CD} {l : Launch} (hp : D.K.1 = p) (hl : l.stackTraces = false) (S : SdC d D p l) : ∀ (as : List ZA) (w : CW) (Q : ZRes → CW → Prop), (0 ≤ d ∧ eC_X0_sorts p (wpC p d) as w Q) → zoks as → ZMX l (KnC D) (ZC D) yX0_sorts (Cond.code yX0_sorts cX0_sorts 9 (Option.some Jvm.ClassFile.FieldType.int)) (d + 1) D.lim as w Q := by
  intro as w Q h hok
  obtain ⟨hk, h⟩ := h
  unfold eC_X0_sorts at h
  split at h
  · obtain ⟨hx, h⟩ := h
    subst hx
    refine zx_body (by decide) (Or.inl ⟨rfl, rfl⟩) KnC.warm (Nat.le_of_ble_eq_true rfl) (fun Γ hΓ hQ G M => ?_)
    subst hΓ
    subst hQ
    exact zv_pick [0, 1, 2, 3, 4, 5] rfl (cpC_X0_sorts_0 hp G M S hl hk (hok _ (List.mem_cons_of_mem _ (List.mem_cons_self))) (hok _ (List.mem_cons_of_mem _ (List.mem_cons_of_mem _ (List.mem_cons_self)))) (hok _ (List.mem_cons_of_mem _ (List.mem_cons_of_mem _ (List.mem_cons_of_mem _ (List.mem_cons_self))))) (hok _ (List.mem_cons_of_mem _ (List.mem_cons_of_mem _ (List.mem_cons_of_mem _ (List.mem_cons_of_mem _ (List.mem_cons_self)))))) (hok _ (List.mem_cons_of_mem _ (List.mem_cons_of_mem _ (List.mem_cons_of_mem _ (List.mem_cons_of_mem _ (List.mem_cons_of_mem _ (List.mem_cons_self))))))) h)
  · exact h.elim
theorem gC_X0_run {d p : Nat} {D : CD} {l : Launch} (hp : D.K.1 = p) (hl : l.stackTraces = false) (S : SdC d D p l) : ∀ (as : List ZA) (w : CW) (Q : ZRes → CW → Prop), (0 ≤ d ∧ eC_X0_run p (wpC p d) as w Q) → zoks as → ZMX l (KnC D) (ZC D) yX0_run (Cond.code yX0_run cX0_run 9 (Option.some Jvm.ClassFile.FieldType.int)) (d + 1) D.lim as w Q := by
  intro as w Q h hok
  obtain ⟨hk, h⟩ := h
  unfold eC_X0_run at h
  split at h
  · obtain ⟨hx, h⟩ := h
    subst hx
    refine zx_body (by decide) (Or.inl ⟨rfl, rfl⟩) KnC.warm (Nat.le_of_ble_eq_true rfl) (fun Γ hΓ hQ G M => ?_)
    subst hΓ
    subst hQ
    exact zv_pick [0, 1, 2, 3] rfl (cpC_X0_run_0 hp G M S hl hk (hok _ (List.mem_cons_of_mem _ (List.mem_cons_of_mem _ (List.mem_cons_of_mem _ (List.mem_cons_self))))) h)
  · exact h.elim
theorem gC_X0_byTree {d p : Nat} {D : CD} {l : Launch} (hp : D.K.1 = p) (hl : l.stackTraces = false) (S : SdC d D p l) : ∀ (as : List ZA) (w : CW) (Q : ZRes → CW → Prop), (0 ≤ d ∧ eC_X0_byTree p (wpC p d) as w Q) → zoks as → ZMX l (KnC D) (ZC D) yX0_byTree (Cond.code yX0_byTree cX0_byTree 6 (Option.some (Jvm.ClassFile.FieldType.object "LetterPost$Rule"))) (d + 1) D.lim as w Q := by
  intro as w Q h hok
  obtain ⟨hk, h⟩ := h
  unfold eC_X0_byTree at h
  split at h
  · obtain ⟨hx, h⟩ := h
    subst hx
    refine zx_body (by decide) (Or.inl ⟨rfl, rfl⟩) KnC.warm (Nat.le_of_ble_eq_true rfl) (fun Γ hΓ hQ G M => ?_)
    subst hΓ
    subst hQ
    exact zv_pick [0, 1, 2, 3] rfl (cpC_X0_byTree_0 hp G M S hl hk h)
  · exact h.elim
theorem gC_X0_asks {d p : Nat} {D : CD} {l : Launch} (hp : D.K.1 = p) (hl : l.stackTraces = false) (S : SdC d D p l) : ∀ (as : List ZA) (w : CW) (Q : ZRes → CW → Prop), (0 ≤ d ∧ eC_X0_asks p (wpC p d) as w Q) → zoks as → ZMX l (KnC D) (ZC D) yX0_asks (Cond.codeWith yX0_asks cX0_asks 5 (Option.some Jvm.ClassFile.FieldType.boolean) [(44, 52, 53, 577)]) (d + 1) D.lim as w Q := by
  intro as w Q h hok
  obtain ⟨hk, h⟩ := h
  unfold eC_X0_asks at h
  split at h
  · obtain ⟨hx, h⟩ := h
    subst hx
    refine zx_body (by decide) (Or.inr rfl) KnC.warm (Nat.le_of_ble_eq_true rfl) (fun Γ hΓ hQ G M => ?_)
    subst hΓ
    subst hQ
    exact zv_pick [0, 1, 2, 3] rfl (cpC_X0_asks_0 hp G M S hl hk h)
  · exact h.elim
theorem gC_X0_plainly {d p : Nat} {D : CD} {l : Launch} (hp : D.K.1 = p) (hl : l.stackTraces = false) (S : SdC d D p l) : ∀ (as : List ZA) (w : CW) (Q : ZRes → CW → Prop), (0 ≤ d ∧ eC_X0_plainly p (wpC p d) as w Q) → zoks as → ZMX l (KnC D) (ZC D) yX0_plainly (Cond.code yX0_plainly cX0_plainly 8 (Option.some (Jvm.ClassFile.FieldType.object "LetterPost$Rule"))) (d + 1) D.lim as w Q := by
  intro as w Q h hok
  obtain ⟨hk, h⟩ := h
  unfold eC_X0_plainly at h
  split at h
  · obtain ⟨hx, h⟩ := h
    subst hx
    refine zx_body (by decide) (Or.inl ⟨rfl, rfl⟩) KnC.warm (Nat.le_of_ble_eq_true rfl) (fun Γ hΓ hQ G M => ?_)
    subst hΓ
    subst hQ
    exact zv_pick [0, 1, 2, 3] rfl (cpC_X0_plainly_0 hp G M S hl hk h)
  · exact h.elim
theorem gC_X0_ends {d p : Nat} {D : CD} {l : Launch} (hp : D.K.1 = p) (hl : l.stackTraces = false) (S : SdC d D p l) : ∀ (as : List ZA) (w : CW) (Q : ZRes → CW → Prop), (0 ≤ d ∧ eC_X0_ends p (wpC p d) as w Q) → zoks as → ZMX l (KnC D) (ZC D) yX0_ends (Cond.code yX0_ends cX0_ends 5 (Option.none : Option Jvm.ClassFile.FieldType)) (d + 1) D.lim as w Q := by
  intro as w Q h hok
  obtain ⟨hk, h⟩ := h
  unfold eC_X0_ends at h
  split at h
  · obtain ⟨hx, h⟩ := h
    subst hx
    refine zx_body (by decide) (Or.inl ⟨rfl, rfl⟩) KnC.warm (Nat.le_of_ble_eq_true rfl) (fun Γ hΓ hQ G M => ?_)
    subst hΓ
    subst hQ
    exact zv_pick [0, 1, 2, 3, 4] rfl (cpC_X0_ends_0 hp G M S hl hk (hok _ (List.mem_cons_of_mem _ (List.mem_cons_self))) (hok _ (List.mem_cons_of_mem _ (List.mem_cons_of_mem _ (List.mem_cons_self)))) (hok _ (List.mem_cons_of_mem _ (List.mem_cons_of_mem _ (List.mem_cons_of_mem _ (List.mem_cons_of_mem _ (List.mem_cons_self)))))) h)
  · exact h.elim
theorem gC_X0_plain_2 {d p : Nat} {D : CD} {l : Launch} (hp : D.K.1 = p) (hl : l.stackTraces = false) (S : SdC d D p l) : ∀ (as : List ZA) (w : CW) (Q : ZRes → CW → Prop), (0 ≤ d ∧ eC_X0_plain_2 p (wpC p d) as w Q) → zoks as → ZMX l (KnC D) (ZC D) yX0_plain_2 (Cond.code yX0_plain_2 cX0_plain_2 5 (Option.some Jvm.ClassFile.FieldType.int)) (d + 1) D.lim as w Q := by
  intro as w Q h hok
  obtain ⟨hk, h⟩ := h
  unfold eC_X0_plain_2 at h
  split at h
  · obtain ⟨hx, h⟩ := h
    subst hx
    refine zx_body (by decide) (Or.inl ⟨rfl, rfl⟩) KnC.warm (Nat.le_of_ble_eq_true rfl) (fun Γ hΓ hQ G M => ?_)
    subst hΓ
    subst hQ
    exact zv_pick [0, 1, 2, 3, 4] rfl (cpC_X0_plain_2_0 hp G M S hl hk (hok _ (List.mem_cons_of_mem _ (List.mem_cons_self))) (hok _ (List.mem_cons_of_mem _ (List.mem_cons_of_mem _ (List.mem_cons_self)))) (hok _ (List.mem_cons_of_mem _ (List.mem_cons_of_mem _ (List.mem_cons_of_mem _ (List.mem_cons_self))))) (hok _ (List.mem_cons_of_mem _ (List.mem_cons_of_mem _ (List.mem_cons_of_mem _ (List.mem_cons_of_mem _ (List.mem_cons_self)))))) h)
  · exact h.elim
theorem gC_X0_told {d p : Nat} {D : CD} {l : Launch} (hp : D.K.1 = p) (hl : l.stackTraces = false) (S : SdC d D p l) : ∀ (as : List ZA) (w : CW) (Q : ZRes → CW → Prop), (0 ≤ d ∧ eC_X0_told p (wpC p d) as w Q) → zoks as → ZMX l (KnC D) (ZC D) yX0_told (Cond.code yX0_told cX0_told 2 (Option.some Jvm.ClassFile.FieldType.int)) (d + 1) D.lim as w Q := by
  intro as w Q h hok
  obtain ⟨hk, h⟩ := h
  unfold eC_X0_told at h
  split at h
  · obtain ⟨hx, h⟩ := h
    subst hx
    refine zx_body (by decide) (Or.inl ⟨rfl, rfl⟩) KnC.warm (Nat.le_of_ble_eq_true rfl) (fun Γ hΓ hQ G M => ?_)
    subst hΓ
    subst hQ
    exact zv_pick [0, 1] rfl (cpC_X0_told_0 hp G M S hl hk (hok _ (List.mem_cons_of_mem _ (List.mem_cons_self))) h)
  · exact h.elim
theorem gC_X0_guard_2 {d p : Nat} {D : CD} {l : Launch} (hp : D.K.1 = p) (hl : l.stackTraces = false) (S : SdC d D p l) : ∀ (as : List ZA) (w : CW) (Q : ZRes → CW → Prop), (0 ≤ d ∧ eC_X0_guard_2 p (wpC p d) as w Q) → zoks as → ZMX l (KnC D) (ZC D) yX0_guard_2 (Cond.code yX0_guard_2 cX0_guard_2 2 (Option.some Jvm.ClassFile.FieldType.int)) (d + 1) D.lim as w Q := by
  intro as w Q h hok
  obtain ⟨hk, h⟩ := h
  unfold eC_X0_guard_2 at h
  split at h
  · obtain ⟨hx, h⟩ := h
    subst hx
    refine zx_body (by decide) (Or.inl ⟨rfl, rfl⟩) KnC.warm (Nat.le_of_ble_eq_true rfl) (fun Γ hΓ hQ G M => ?_)
    subst hΓ
    subst hQ
    exact zv_pick [0, 1] rfl (cpC_X0_guard_2_0 hp G M S hl hk (hok _ (List.mem_cons_of_mem _ (List.mem_cons_self))) h)
  · exact h.elim
theorem gC_X0_bound {d p : Nat} {D : CD} {l : Launch} (hp : D.K.1 = p) (hl : l.stackTraces = false) (S : SdC d D p l) : ∀ (as : List ZA) (w : CW) (Q : ZRes → CW → Prop), (0 ≤ d ∧ eC_X0_bound p (wpC p d) as w Q) → zoks as → ZMX l (KnC D) (ZC D) yX0_bound (Cond.code yX0_bound cX0_bound 3 (Option.some Jvm.ClassFile.FieldType.int)) (d + 1) D.lim as w Q := by
  intro as w Q h hok
  obtain ⟨hk, h⟩ := h
  unfold eC_X0_bound at h
  split at h
  · obtain ⟨hx, h⟩ := h
    subst hx
    refine zx_body (by decide) (Or.inl ⟨rfl, rfl⟩) KnC.warm (Nat.le_of_ble_eq_true rfl) (fun Γ hΓ hQ G M => ?_)
    subst hΓ
    subst hQ
    exact zv_pick [0, 1] rfl (cpC_X0_bound_0 hp G M S hl hk (hok _ (List.mem_cons_of_mem _ (List.mem_cons_self))) h)
  · exact h.elim
theorem gC_X0_init {d p : Nat} {D : CD} {l : Launch} (hp : D.K.1 = p) (hl : l.stackTraces = false) (S : SdC d D p l) : ∀ (as : List ZA) (w : CW) (Q : ZRes → CW → Prop), (0 ≤ d ∧ eC_X0_init p (wpC p d) as w Q) → zoks as → ZMX l (KnC D) (ZC D) yX0_init (Cond.code yX0_init cX0_init 1 (Option.none : Option Jvm.ClassFile.FieldType)) (d + 1) D.lim as w Q := by
  intro as w Q h hok
  obtain ⟨hk, h⟩ := h
  unfold eC_X0_init at h
  split at h
  · obtain ⟨hx, h⟩ := h
    subst hx
    refine zx_body (by decide) (Or.inl ⟨rfl, rfl⟩) KnC.warm (Nat.le_of_ble_eq_true rfl) (fun Γ hΓ hQ G M => ?_)
    subst hΓ
    subst hQ
    exact zv_pick [0] rfl (cpC_X0_init_0 hp G M S hl hk h)
  · exact h.elim
theorem gC_X0_count {d p : Nat} {D : CD} {l : Launch} (hp : D.K.1 = p) (hl : l.stackTraces = false) (S : SdC d D p l) : ∀ (as : List ZA) (w : CW) (Q : ZRes → CW → Prop), (0 ≤ d ∧ eC_X0_count p (wpC p d) as w Q) → zoks as → ZMX l (KnC D) (ZC D) yX0_count (Cond.code yX0_count cX0_count 2 (Option.some Jvm.ClassFile.FieldType.int)) (d + 1) D.lim as w Q := by
  intro as w Q h hok
  obtain ⟨hk, h⟩ := h
  unfold eC_X0_count at h
  split at h
  · obtain ⟨hx, h⟩ := h
    subst hx
    refine zx_body (by decide) (Or.inl ⟨rfl, rfl⟩) KnC.warm (Nat.le_of_ble_eq_true rfl) (fun Γ hΓ hQ G M => ?_)
    subst hΓ
    subst hQ
    exact zv_pick [0, 1] rfl (cpC_X0_count_0 hp G M S hl hk (hok _ (List.mem_cons_of_mem _ (List.mem_cons_self))) h)
  · exact h.elim
theorem gC_X1_init {d p : Nat} {D : CD} {l : Launch} (hp : D.K.1 = p) (hl : l.stackTraces = false) (S : SdC d D p l) : ∀ (as : List ZA) (w : CW) (Q : ZRes → CW → Prop), (0 ≤ d ∧ eC_X1_init p (wpC p d) as w Q) → zoks as → ZMX l (KnC D) (ZC D) yX1_init (Cond.code yX1_init cX1_init 1 (Option.none : Option Jvm.ClassFile.FieldType)) (d + 1) D.lim as w Q := by
  intro as w Q h hok
  obtain ⟨hk, h⟩ := h
  unfold eC_X1_init at h
  split at h
  · refine zx_body (by decide) (Or.inl ⟨rfl, rfl⟩) KnC.warm (Nat.le_of_ble_eq_true rfl) (fun Γ hΓ hQ G M => ?_)
    subst hΓ
    subst hQ
    exact zv_pick [0] rfl (cpC_X1_init_0 hp G M S hl hk h)
  · exact h.elim
theorem gC_X2_init {d p : Nat} {D : CD} {l : Launch} (hp : D.K.1 = p) (hl : l.stackTraces = false) (S : SdC d D p l) : ∀ (as : List ZA) (w : CW) (Q : ZRes → CW → Prop), (0 ≤ d ∧ eC_X2_init p (wpC p d) as w Q) → zoks as → ZMX l (KnC D) (ZC D) yX2_init (Cond.code yX2_init cX2_init 3 (Option.none : Option Jvm.ClassFile.FieldType)) (d + 1) D.lim as w Q := by
  intro as w Q h hok
  obtain ⟨hk, h⟩ := h
  unfold eC_X2_init at h
  split at h
  · refine zx_body (by decide) (Or.inl ⟨rfl, rfl⟩) KnC.warm (Nat.le_of_ble_eq_true rfl) (fun Γ hΓ hQ G M => ?_)
    subst hΓ
    subst hQ
    exact zv_pick [0, 1, 2] rfl (cpC_X2_init_0 hp G M S hl hk (hok _ (List.mem_cons_of_mem _ (List.mem_cons_self))) (hok _ (List.mem_cons_of_mem _ (List.mem_cons_of_mem _ (List.mem_cons_self)))) h)
  · exact h.elim
theorem gC_X3_init {d p : Nat} {D : CD} {l : Launch} (hp : D.K.1 = p) (hl : l.stackTraces = false) (S : SdC d D p l) : ∀ (as : List ZA) (w : CW) (Q : ZRes → CW → Prop), (0 ≤ d ∧ eC_X3_init p (wpC p d) as w Q) → zoks as → ZMX l (KnC D) (ZC D) yX3_init (Cond.code yX3_init cX3_init 5 (Option.none : Option Jvm.ClassFile.FieldType)) (d + 1) D.lim as w Q := by
  intro as w Q h hok
  obtain ⟨hk, h⟩ := h
  unfold eC_X3_init at h
  split at h
  · refine zx_body (by decide) (Or.inl ⟨rfl, rfl⟩) KnC.warm (Nat.le_of_ble_eq_true rfl) (fun Γ hΓ hQ G M => ?_)
    subst hΓ
    subst hQ
    exact zv_pick [0, 1, 2, 4] rfl (cpC_X3_init_0 hp G M S hl hk (hok _ (List.mem_cons_of_mem _ (List.mem_cons_self))) (hok _ (List.mem_cons_of_mem _ (List.mem_cons_of_mem _ (List.mem_cons_self)))) h)
  · exact h.elim
theorem gC_X3_is {d p : Nat} {D : CD} {l : Launch} (hp : D.K.1 = p) (hl : l.stackTraces = false) (S : SdC d D p l) : ∀ (as : List ZA) (w : CW) (Q : ZRes → CW → Prop), (0 ≤ d ∧ eC_X3_is p (wpC p d) as w Q) → zoks as → ZMX l (KnC D) (ZC D) yX3_is (Cond.code yX3_is cX3_is 3 (Option.some Jvm.ClassFile.FieldType.boolean)) (d + 1) D.lim as w Q := by
  intro as w Q h hok
  obtain ⟨hk, h⟩ := h
  unfold eC_X3_is at h
  split at h
  · refine zx_body (by decide) (Or.inl ⟨rfl, rfl⟩) KnC.warm (Nat.le_of_ble_eq_true rfl) (fun Γ hΓ hQ G M => ?_)
    subst hΓ
    subst hQ
    exact zv_pick [0, 1] rfl (cpC_X3_is_0 hp G M S hl hk h)
  · exact h.elim
theorem gC_X4_init {d p : Nat} {D : CD} {l : Launch} (hp : D.K.1 = p) (hl : l.stackTraces = false) (S : SdC d D p l) : ∀ (as : List ZA) (w : CW) (Q : ZRes → CW → Prop), (0 ≤ d ∧ eC_X4_init p (wpC p d) as w Q) → zoks as → ZMX l (KnC D) (ZC D) yX4_init (Cond.code yX4_init cX4_init 5 (Option.none : Option Jvm.ClassFile.FieldType)) (d + 1) D.lim as w Q := by
  intro as w Q h hok
  obtain ⟨hk, h⟩ := h
  unfold eC_X4_init at h
  split at h
  · refine zx_body (by decide) (Or.inl ⟨rfl, rfl⟩) KnC.warm (Nat.le_of_ble_eq_true rfl) (fun Γ hΓ hQ G M => ?_)
    subst hΓ
    subst hQ
    exact zv_pick [0, 1, 2, 3] rfl (cpC_X4_init_0 hp G M S hl hk (hok _ (List.mem_cons_of_mem _ (List.mem_cons_of_mem _ (List.mem_cons_self)))) (hok _ (List.mem_cons_of_mem _ (List.mem_cons_of_mem _ (List.mem_cons_of_mem _ (List.mem_cons_self))))) h)
  · exact h.elim
theorem gC_X4_count {d p : Nat} {D : CD} {l : Launch} (hp : D.K.1 = p) (hl : l.stackTraces = false) (S : SdC d D p l) : ∀ (as : List ZA) (w : CW) (Q : ZRes → CW → Prop), (0 ≤ d ∧ eC_X4_count p (wpC p d) as w Q) → zoks as → ZMX l (KnC D) (ZC D) yX4_count (Cond.code yX4_count cX4_count 4 (Option.some Jvm.ClassFile.FieldType.int)) (d + 1) D.lim as w Q := by
  intro as w Q h hok
  obtain ⟨hk, h⟩ := h
  unfold eC_X4_count at h
  split at h
  · refine zx_body (by decide) (Or.inl ⟨rfl, rfl⟩) KnC.warm (Nat.le_of_ble_eq_true rfl) (fun Γ hΓ hQ G M => ?_)
    subst hΓ
    subst hQ
    exact zv_pick [0, 1] rfl (cpC_X4_count_0 hp G M S hl hk (hok _ (List.mem_cons_of_mem _ (List.mem_cons_self))) h)
  · exact h.elim
theorem gC_X4_lay {d p : Nat} {D : CD} {l : Launch} (hp : D.K.1 = p) (hl : l.stackTraces = false) (S : SdC d D p l) : ∀ (as : List ZA) (w : CW) (Q : ZRes → CW → Prop), (0 ≤ d ∧ eC_X4_lay p (wpC p d) as w Q) → zoks as → ZMX l (KnC D) (ZC D) yX4_lay (Cond.code yX4_lay cX4_lay 10 (Option.none : Option Jvm.ClassFile.FieldType)) (d + 1) D.lim as w Q := by
  intro as w Q h hok
  obtain ⟨hk, h⟩ := h
  unfold eC_X4_lay at h
  split at h
  · refine zx_body (by decide) (Or.inl ⟨rfl, rfl⟩) KnC.warm (Nat.le_of_ble_eq_true rfl) (fun Γ hΓ hQ G M => ?_)
    subst hΓ
    subst hQ
    exact zv_pick [0] rfl (cpC_X4_lay_0 hp G M S hl hk h)
  · exact h.elim
theorem gC_X4_place {d p : Nat} {D : CD} {l : Launch} (hp : D.K.1 = p) (hl : l.stackTraces = false) (S : SdC d D p l) : ∀ (as : List ZA) (w : CW) (Q : ZRes → CW → Prop), (0 ≤ d ∧ eC_X4_place p (wpC p d) as w Q) → zoks as → ZMX l (KnC D) (ZC D) yX4_place (Cond.code yX4_place cX4_place 7 (Option.some (Jvm.ClassFile.FieldType.object "LetterPost$Place"))) (d + 1) D.lim as w Q := by
  intro as w Q h hok
  obtain ⟨hk, h⟩ := h
  unfold eC_X4_place at h
  split at h
  · refine zx_body (by decide) (Or.inl ⟨rfl, rfl⟩) KnC.warm (Nat.le_of_ble_eq_true rfl) (fun Γ hΓ hQ G M => ?_)
    subst hΓ
    subst hQ
    exact zv_pick [0, 1, 2, 3, 4] rfl (cpC_X4_place_0 hp G M S hl hk (hok _ (List.mem_cons_of_mem _ (List.mem_cons_of_mem _ (List.mem_cons_of_mem _ (List.mem_cons_self))))) (hok _ (List.mem_cons_of_mem _ (List.mem_cons_of_mem _ (List.mem_cons_of_mem _ (List.mem_cons_of_mem _ (List.mem_cons_self)))))) h)
  · exact h.elim
theorem gC_X4_remake {d p : Nat} {D : CD} {l : Launch} (hp : D.K.1 = p) (hl : l.stackTraces = false) (S : SdC d D p l) : ∀ (as : List ZA) (w : CW) (Q : ZRes → CW → Prop), (0 ≤ d ∧ eC_X4_remake p (wpC p d) as w Q) → zoks as → ZMX l (KnC D) (ZC D) yX4_remake (Cond.code yX4_remake cX4_remake 2 (Option.none : Option Jvm.ClassFile.FieldType)) (d + 1) D.lim as w Q := by
  intro as w Q h hok
  obtain ⟨hk, h⟩ := h
  unfold eC_X4_remake at h
  split at h
  · refine zx_body (by decide) (Or.inl ⟨rfl, rfl⟩) KnC.warm (Nat.le_of_ble_eq_true rfl) (fun Γ hΓ hQ G M => ?_)
    subst hΓ
    subst hQ
    exact zv_pick [0, 1] rfl (cpC_X4_remake_0 hp G M S hl hk (hok _ (List.mem_cons_of_mem _ (List.mem_cons_self))) h)
  · exact h.elim
theorem gC_X4_make {d p : Nat} {D : CD} {l : Launch} (hp : D.K.1 = p) (hl : l.stackTraces = false) (S : SdC d D p l) : ∀ (as : List ZA) (w : CW) (Q : ZRes → CW → Prop), (0 ≤ d ∧ eC_X4_make p (wpC p d) as w Q) → zoks as → ZMX l (KnC D) (ZC D) yX4_make (Cond.code yX4_make cX4_make 9 (Option.some (Jvm.ClassFile.FieldType.object "LetterPost$Node"))) (d + 1) D.lim as w Q := by
  intro as w Q h hok
  obtain ⟨hk, h⟩ := h
  unfold eC_X4_make at h
  split at h
  · refine zx_body (by decide) (Or.inl ⟨rfl, rfl⟩) KnC.warm (Nat.le_of_ble_eq_true rfl) (fun Γ hΓ hQ G M => ?_)
    subst hΓ
    subst hQ
    exact zv_pick [0, 1, 2] rfl (cpC_X4_make_0 hp G M S hl hk (hok _ (List.mem_cons_of_mem _ (List.mem_cons_self))) (hok _ (List.mem_cons_of_mem _ (List.mem_cons_of_mem _ (List.mem_cons_self)))) h)
  · exact h.elim
theorem gC_X5_init {d p : Nat} {D : CD} {l : Launch} (hp : D.K.1 = p) (hl : l.stackTraces = false) (S : SdC d D p l) : ∀ (as : List ZA) (w : CW) (Q : ZRes → CW → Prop), (0 ≤ d ∧ eC_X5_init p (wpC p d) as w Q) → zoks as → ZMX l (KnC D) (ZC D) yX5_init (Cond.code yX5_init cX5_init 3 (Option.none : Option Jvm.ClassFile.FieldType)) (d + 1) D.lim as w Q := by
  intro as w Q h hok
  obtain ⟨hk, h⟩ := h
  unfold eC_X5_init at h
  split at h
  · refine zx_body (by decide) (Or.inl ⟨rfl, rfl⟩) KnC.warm (Nat.le_of_ble_eq_true rfl) (fun Γ hΓ hQ G M => ?_)
    subst hΓ
    subst hQ
    exact zv_pick [0, 1, 2] rfl (cpC_X5_init_0 hp G M S hl hk (hok _ (List.mem_cons_of_mem _ (List.mem_cons_self))) (hok _ (List.mem_cons_of_mem _ (List.mem_cons_of_mem _ (List.mem_cons_self)))) h)
  · exact h.elim
theorem gC_X6_init {d p : Nat} {D : CD} {l : Launch} (hp : D.K.1 = p) (hl : l.stackTraces = false) (S : SdC d D p l) : ∀ (as : List ZA) (w : CW) (Q : ZRes → CW → Prop), (0 ≤ d ∧ eC_X6_init p (wpC p d) as w Q) → zoks as → ZMX l (KnC D) (ZC D) yX6_init (Cond.code yX6_init cX6_init 1 (Option.none : Option Jvm.ClassFile.FieldType)) (d + 1) D.lim as w Q := by
  intro as w Q h hok
  obtain ⟨hk, h⟩ := h
  unfold eC_X6_init at h
  split at h
  · refine zx_body (by decide) (Or.inl ⟨rfl, rfl⟩) KnC.warm (Nat.le_of_ble_eq_true rfl) (fun Γ hΓ hQ G M => ?_)
    subst hΓ
    subst hQ
    exact zv_pick [0] rfl (cpC_X6_init_0 hp G M S hl hk h)
  · exact h.elim
theorem gC_X6_ways {d p : Nat} {D : CD} {l : Launch} (hp : D.K.1 = p) (hl : l.stackTraces = false) (S : SdC d D p l) : ∀ (as : List ZA) (w : CW) (Q : ZRes → CW → Prop), (0 ≤ d ∧ eC_X6_ways p (wpC p d) as w Q) → zoks as → ZMX l (KnC D) (ZC D) yX6_ways (Cond.code yX6_ways cX6_ways 1 (Option.some Jvm.ClassFile.FieldType.int)) (d + 1) D.lim as w Q := by
  intro as w Q h hok
  obtain ⟨hk, h⟩ := h
  unfold eC_X6_ways at h
  split at h
  · refine zx_body (by decide) (Or.inl ⟨rfl, rfl⟩) KnC.warm (Nat.le_of_ble_eq_true rfl) (fun Γ hΓ hQ G M => ?_)
    subst hΓ
    subst hQ
    exact zv_pick [] rfl (cpC_X6_ways_0 hp G M S hl hk h)
  · exact h.elim
theorem gC_X6_row {d p : Nat} {D : CD} {l : Launch} (hp : D.K.1 = p) (hl : l.stackTraces = false) (S : SdC d D p l) : ∀ (as : List ZA) (w : CW) (Q : ZRes → CW → Prop), (0 ≤ d ∧ eC_X6_row p (wpC p d) as w Q) → zoks as → ZMX l (KnC D) (ZC D) yX6_row (Cond.code yX6_row cX6_row 5 (Option.none : Option Jvm.ClassFile.FieldType)) (d + 1) D.lim as w Q := by
  intro as w Q h hok
  obtain ⟨hk, h⟩ := h
  unfold eC_X6_row at h
  split at h
  · refine zx_body (by decide) (Or.inl ⟨rfl, rfl⟩) KnC.warm (Nat.le_of_ble_eq_true rfl) (fun Γ hΓ hQ G M => ?_)
    subst hΓ
    subst hQ
    exact zv_pick [0, 2, 4] rfl (cpC_X6_row_0 hp G M S hl hk h)
  · exact h.elim
theorem gC_X6_fits {d p : Nat} {D : CD} {l : Launch} (hp : D.K.1 = p) (hl : l.stackTraces = false) (S : SdC d D p l) : ∀ (as : List ZA) (w : CW) (Q : ZRes → CW → Prop), (0 ≤ d ∧ eC_X6_fits p (wpC p d) as w Q) → zoks as → ZMX l (KnC D) (ZC D) yX6_fits (Cond.code yX6_fits cX6_fits 3 (Option.some Jvm.ClassFile.FieldType.boolean)) (d + 1) D.lim as w Q := by
  intro as w Q h hok
  obtain ⟨hk, h⟩ := h
  unfold eC_X6_fits at h
  split at h
  · refine zx_body (by decide) (Or.inl ⟨rfl, rfl⟩) KnC.warm (Nat.le_of_ble_eq_true rfl) (fun Γ hΓ hQ G M => ?_)
    subst hΓ
    subst hQ
    exact zv_pick [0, 1, 2] rfl (cpC_X6_fits_0 hp G M S hl hk h)
  · exact h.elim
theorem gC_X7_init {d p : Nat} {D : CD} {l : Launch} (hp : D.K.1 = p) (hl : l.stackTraces = false) (S : SdC d D p l) : ∀ (as : List ZA) (w : CW) (Q : ZRes → CW → Prop), (0 ≤ d ∧ eC_X7_init p (wpC p d) as w Q) → zoks as → ZMX l (KnC D) (ZC D) yX7_init (Cond.code yX7_init cX7_init 1 (Option.none : Option Jvm.ClassFile.FieldType)) (d + 1) D.lim as w Q := by
  intro as w Q h hok
  obtain ⟨hk, h⟩ := h
  unfold eC_X7_init at h
  split at h
  · refine zx_body (by decide) (Or.inl ⟨rfl, rfl⟩) KnC.warm (Nat.le_of_ble_eq_true rfl) (fun Γ hΓ hQ G M => ?_)
    subst hΓ
    subst hQ
    exact zv_pick [0] rfl (cpC_X7_init_0 hp G M S hl hk h)
  · exact h.elim
theorem gC_X7_holds {d p : Nat} {D : CD} {l : Launch} (hp : D.K.1 = p) (hl : l.stackTraces = false) (S : SdC d D p l) : ∀ (as : List ZA) (w : CW) (Q : ZRes → CW → Prop), (0 ≤ d ∧ eC_X7_holds p (wpC p d) as w Q) → zoks as → ZMX l (KnC D) (ZC D) yX7_holds (Cond.code yX7_holds cX7_holds 3 (Option.some Jvm.ClassFile.FieldType.boolean)) (d + 1) D.lim as w Q := by
  intro as w Q h hok
  obtain ⟨hk, h⟩ := h
  unfold eC_X7_holds at h
  split at h
  · refine zx_body (by decide) (Or.inl ⟨rfl, rfl⟩) KnC.warm (Nat.le_of_ble_eq_true rfl) (fun Γ hΓ hQ G M => ?_)
    subst hΓ
    subst hQ
    exact zv_pick [] rfl (cpC_X7_holds_0 hp G M S hl hk h)
  · exact h.elim
theorem gC_X8_init {d p : Nat} {D : CD} {l : Launch} (hp : D.K.1 = p) (hl : l.stackTraces = false) (S : SdC d D p l) : ∀ (as : List ZA) (w : CW) (Q : ZRes → CW → Prop), (0 ≤ d ∧ eC_X8_init p (wpC p d) as w Q) → zoks as → ZMX l (KnC D) (ZC D) yX8_init (Cond.code yX8_init cX8_init 1 (Option.none : Option Jvm.ClassFile.FieldType)) (d + 1) D.lim as w Q := by
  intro as w Q h hok
  obtain ⟨hk, h⟩ := h
  unfold eC_X8_init at h
  split at h
  · refine zx_body (by decide) (Or.inl ⟨rfl, rfl⟩) KnC.warm (Nat.le_of_ble_eq_true rfl) (fun Γ hΓ hQ G M => ?_)
    subst hΓ
    subst hQ
    exact zv_pick [0] rfl (cpC_X8_init_0 hp G M S hl hk h)
  · exact h.elim
theorem gC_X8_row {d p : Nat} {D : CD} {l : Launch} (hp : D.K.1 = p) (hl : l.stackTraces = false) (S : SdC d D p l) : ∀ (as : List ZA) (w : CW) (Q : ZRes → CW → Prop), (0 ≤ d ∧ eC_X8_row p (wpC p d) as w Q) → zoks as → ZMX l (KnC D) (ZC D) yX8_row (Cond.code yX8_row cX8_row 5 (Option.none : Option Jvm.ClassFile.FieldType)) (d + 1) D.lim as w Q := by
  intro as w Q h hok
  obtain ⟨hk, h⟩ := h
  unfold eC_X8_row at h
  split at h
  · refine zx_body (by decide) (Or.inl ⟨rfl, rfl⟩) KnC.warm (Nat.le_of_ble_eq_true rfl) (fun Γ hΓ hQ G M => ?_)
    subst hΓ
    subst hQ
    exact zv_pick [0, 1, 2, 3, 4] rfl (cpC_X8_row_0 hp G M S hl hk (hok _ (List.mem_cons_of_mem _ (List.mem_cons_self))) h)
  · exact h.elim
theorem gC_X9_init {d p : Nat} {D : CD} {l : Launch} (hp : D.K.1 = p) (hl : l.stackTraces = false) (S : SdC d D p l) : ∀ (as : List ZA) (w : CW) (Q : ZRes → CW → Prop), (0 ≤ d ∧ eC_X9_init p (wpC p d) as w Q) → zoks as → ZMX l (KnC D) (ZC D) yX9_init (Cond.code yX9_init cX9_init 3 (Option.none : Option Jvm.ClassFile.FieldType)) (d + 1) D.lim as w Q := by
  intro as w Q h hok
  obtain ⟨hk, h⟩ := h
  unfold eC_X9_init at h
  split at h
  · refine zx_body (by decide) (Or.inl ⟨rfl, rfl⟩) KnC.warm (Nat.le_of_ble_eq_true rfl) (fun Γ hΓ hQ G M => ?_)
    subst hΓ
    subst hQ
    exact zv_pick [0, 1, 2] rfl (cpC_X9_init_0 hp G M S hl hk (hok _ (List.mem_cons_of_mem _ (List.mem_cons_self))) (hok _ (List.mem_cons_of_mem _ (List.mem_cons_of_mem _ (List.mem_cons_self)))) h)
  · exact h.elim
theorem gC_X9_by {d p : Nat} {D : CD} {l : Launch} (hp : D.K.1 = p) (hl : l.stackTraces = false) (S : SdC d D p l) : ∀ (as : List ZA) (w : CW) (Q : ZRes → CW → Prop), (0 ≤ d ∧ eC_X9_by p (wpC p d) as w Q) → zoks as → ZMX l (KnC D) (ZC D) yX9_by (Cond.code yX9_by cX9_by 5 (Option.some Jvm.ClassFile.FieldType.int)) (d + 1) D.lim as w Q := by
  intro as w Q h hok
  obtain ⟨hk, h⟩ := h
  unfold eC_X9_by at h
  split at h
  · refine zx_body (by decide) (Or.inl ⟨rfl, rfl⟩) KnC.warm (Nat.le_of_ble_eq_true rfl) (fun Γ hΓ hQ G M => ?_)
    subst hΓ
    subst hQ
    exact zv_pick [0, 1, 2] rfl (cpC_X9_by_0 hp G M S hl hk h)
  · exact h.elim
theorem gC_X9_holds {d p : Nat} {D : CD} {l : Launch} (hp : D.K.1 = p) (hl : l.stackTraces = false) (S : SdC d D p l) : ∀ (as : List ZA) (w : CW) (Q : ZRes → CW → Prop), (0 ≤ d ∧ eC_X9_holds p (wpC p d) as w Q) → zoks as → ZMX l (KnC D) (ZC D) yX9_holds (Cond.code yX9_holds cX9_holds 3 (Option.some Jvm.ClassFile.FieldType.boolean)) (d + 1) D.lim as w Q := by
  intro as w Q h hok
  obtain ⟨hk, h⟩ := h
  unfold eC_X9_holds at h
  split at h
  · refine zx_body (by decide) (Or.inl ⟨rfl, rfl⟩) KnC.warm (Nat.le_of_ble_eq_true rfl) (fun Γ hΓ hQ G M => ?_)
    subst hΓ
    subst hQ
    exact zv_pick [0, 1] rfl (cpC_X9_holds_0 hp G M S hl hk h)
  · exact h.elim
theorem gC_X10_init {d p : Nat} {D : CD} {l : Launch} (hp : D.K.1 = p) (hl : l.stackTraces = false) (S : SdC d D p l) : ∀ (as : List ZA) (w : CW) (Q : ZRes → CW → Prop), (0 ≤ d ∧ eC_X10_init p (wpC p d) as w Q) → zoks as → ZMX l (KnC D) (ZC D) yX10_init (Cond.code yX10_init cX10_init 3 (Option.none : Option Jvm.ClassFile.FieldType)) (d + 1) D.lim as w Q := by
  intro as w Q h hok
  obtain ⟨hk, h⟩ := h
  unfold eC_X10_init at h
  split at h
  · refine zx_body (by decide) (Or.inl ⟨rfl, rfl⟩) KnC.warm (Nat.le_of_ble_eq_true rfl) (fun Γ hΓ hQ G M => ?_)
    subst hΓ
    subst hQ
    exact zv_pick [0, 1, 2] rfl (cpC_X10_init_0 hp G M S hl hk h)
  · exact h.elim
theorem gC_X10_ways {d p : Nat} {D : CD} {l : Launch} (hp : D.K.1 = p) (hl : l.stackTraces = false) (S : SdC d D p l) : ∀ (as : List ZA) (w : CW) (Q : ZRes → CW → Prop), (0 ≤ d ∧ eC_X10_ways p (wpC p d) as w Q) → zoks as → ZMX l (KnC D) (ZC D) yX10_ways (Cond.code yX10_ways cX10_ways 1 (Option.some Jvm.ClassFile.FieldType.int)) (d + 1) D.lim as w Q := by
  intro as w Q h hok
  obtain ⟨hk, h⟩ := h
  unfold eC_X10_ways at h
  split at h
  · refine zx_body (by decide) (Or.inl ⟨rfl, rfl⟩) KnC.warm (Nat.le_of_ble_eq_true rfl) (fun Γ hΓ hQ G M => ?_)
    subst hΓ
    subst hQ
    exact zv_pick [0] rfl (cpC_X10_ways_0 hp G M S hl hk h)
  · exact h.elim
theorem gC_X10_row {d p : Nat} {D : CD} {l : Launch} (hp : D.K.1 = p) (hl : l.stackTraces = false) (S : SdC d D p l) : ∀ (as : List ZA) (w : CW) (Q : ZRes → CW → Prop), (0 ≤ d ∧ eC_X10_row p (wpC p d) as w Q) → zoks as → ZMX l (KnC D) (ZC D) yX10_row (Cond.code yX10_row cX10_row 8 (Option.none : Option Jvm.ClassFile.FieldType)) (d + 1) D.lim as w Q := by
  intro as w Q h hok
  obtain ⟨hk, h⟩ := h
  unfold eC_X10_row at h
  split at h
  · refine zx_body (by decide) (Or.inl ⟨rfl, rfl⟩) KnC.warm (Nat.le_of_ble_eq_true rfl) (fun Γ hΓ hQ G M => ?_)
    subst hΓ
    subst hQ
    exact zv_pick [0, 1, 2, 3, 4] rfl (cpC_X10_row_0 hp G M S hl hk (hok _ (List.mem_cons_of_mem _ (List.mem_cons_self))) h)
  · exact h.elim
theorem gC_X10_by {d p : Nat} {D : CD} {l : Launch} (hp : D.K.1 = p) (hl : l.stackTraces = false) (S : SdC d D p l) : ∀ (as : List ZA) (w : CW) (Q : ZRes → CW → Prop), (0 ≤ d ∧ eC_X10_by p (wpC p d) as w Q) → zoks as → ZMX l (KnC D) (ZC D) yX10_by (Cond.code yX10_by cX10_by 4 (Option.some Jvm.ClassFile.FieldType.int)) (d + 1) D.lim as w Q := by
  intro as w Q h hok
  obtain ⟨hk, h⟩ := h
  unfold eC_X10_by at h
  split at h
  · refine zx_body (by decide) (Or.inl ⟨rfl, rfl⟩) KnC.warm (Nat.le_of_ble_eq_true rfl) (fun Γ hΓ hQ G M => ?_)
    subst hΓ
    subst hQ
    exact zv_pick [0, 1, 2] rfl (cpC_X10_by_0 hp G M S hl hk h)
  · exact h.elim
theorem gC_X10_holds {d p : Nat} {D : CD} {l : Launch} (hp : D.K.1 = p) (hl : l.stackTraces = false) (S : SdC d D p l) : ∀ (as : List ZA) (w : CW) (Q : ZRes → CW → Prop), (0 ≤ d ∧ eC_X10_holds p (wpC p d) as w Q) → zoks as → ZMX l (KnC D) (ZC D) yX10_holds (Cond.code yX10_holds cX10_holds 5 (Option.some Jvm.ClassFile.FieldType.boolean)) (d + 1) D.lim as w Q := by
  intro as w Q h hok
  obtain ⟨hk, h⟩ := h
  unfold eC_X10_holds at h
  split at h
  · refine zx_body (by decide) (Or.inl ⟨rfl, rfl⟩) KnC.warm (Nat.le_of_ble_eq_true rfl) (fun Γ hΓ hQ G M => ?_)
    subst hΓ
    subst hQ
    exact zv_pick [0, 1, 2] rfl (cpC_X10_holds_0 hp G M S hl hk h)
  · exact h.elim
theorem gC_X11_init {d p : Nat} {D : CD} {l : Launch} (hp : D.K.1 = p) (hl : l.stackTraces = false) (S : SdC d D p l) : ∀ (as : List ZA) (w : CW) (Q : ZRes → CW → Prop), (0 ≤ d ∧ eC_X11_init p (wpC p d) as w Q) → zoks as → ZMX l (KnC D) (ZC D) yX11_init (Cond.code yX11_init cX11_init 2 (Option.none : Option Jvm.ClassFile.FieldType)) (d + 1) D.lim as w Q := by
  intro as w Q h hok
  obtain ⟨hk, h⟩ := h
  unfold eC_X11_init at h
  split at h
  · refine zx_body (by decide) (Or.inl ⟨rfl, rfl⟩) KnC.warm (Nat.le_of_ble_eq_true rfl) (fun Γ hΓ hQ G M => ?_)
    subst hΓ
    subst hQ
    exact zv_pick [0, 1] rfl (cpC_X11_init_0 hp G M S hl hk h)
  · exact h.elim
theorem gC_X11_ways {d p : Nat} {D : CD} {l : Launch} (hp : D.K.1 = p) (hl : l.stackTraces = false) (S : SdC d D p l) : ∀ (as : List ZA) (w : CW) (Q : ZRes → CW → Prop), (0 ≤ d ∧ eC_X11_ways p (wpC p d) as w Q) → zoks as → ZMX l (KnC D) (ZC D) yX11_ways (Cond.code yX11_ways cX11_ways 6 (Option.some Jvm.ClassFile.FieldType.int)) (d + 1) D.lim as w Q := by
  intro as w Q h hok
  obtain ⟨hk, h⟩ := h
  unfold eC_X11_ways at h
  split at h
  · refine zx_body (by decide) (Or.inl ⟨rfl, rfl⟩) KnC.warm (Nat.le_of_ble_eq_true rfl) (fun Γ hΓ hQ G M => ?_)
    subst hΓ
    subst hQ
    exact zv_pick [0] rfl (cpC_X11_ways_0 hp G M S hl hk h)
  · exact h.elim
theorem gC_X11_row {d p : Nat} {D : CD} {l : Launch} (hp : D.K.1 = p) (hl : l.stackTraces = false) (S : SdC d D p l) : ∀ (as : List ZA) (w : CW) (Q : ZRes → CW → Prop), (0 ≤ d ∧ eC_X11_row p (wpC p d) as w Q) → zoks as → ZMX l (KnC D) (ZC D) yX11_row (Cond.code yX11_row cX11_row 7 (Option.none : Option Jvm.ClassFile.FieldType)) (d + 1) D.lim as w Q := by
  intro as w Q h hok
  obtain ⟨hk, h⟩ := h
  unfold eC_X11_row at h
  split at h
  · refine zx_body (by decide) (Or.inl ⟨rfl, rfl⟩) KnC.warm (Nat.le_of_ble_eq_true rfl) (fun Γ hΓ hQ G M => ?_)
    subst hΓ
    subst hQ
    exact zv_pick [0, 1, 2, 3, 4] rfl (cpC_X11_row_0 hp G M S hl hk (hok _ (List.mem_cons_of_mem _ (List.mem_cons_self))) h)
  · exact h.elim
theorem gC_X11_holds {d p : Nat} {D : CD} {l : Launch} (hp : D.K.1 = p) (hl : l.stackTraces = false) (S : SdC d D p l) : ∀ (as : List ZA) (w : CW) (Q : ZRes → CW → Prop), (0 ≤ d ∧ eC_X11_holds p (wpC p d) as w Q) → zoks as → ZMX l (KnC D) (ZC D) yX11_holds (Cond.code yX11_holds cX11_holds 5 (Option.some Jvm.ClassFile.FieldType.boolean)) (d + 1) D.lim as w Q := by
  intro as w Q h hok
  obtain ⟨hk, h⟩ := h
  unfold eC_X11_holds at h
  split at h
  · refine zx_body (by decide) (Or.inl ⟨rfl, rfl⟩) KnC.warm (Nat.le_of_ble_eq_true rfl) (fun Γ hΓ hQ G M => ?_)
    subst hΓ
    subst hQ
    exact zv_pick [0, 1, 2] rfl (cpC_X11_holds_0 hp G M S hl hk h)
  · exact h.elim
theorem gC_X12_init {d p : Nat} {D : CD} {l : Launch} (hp : D.K.1 = p) (hl : l.stackTraces = false) (S : SdC d D p l) : ∀ (as : List ZA) (w : CW) (Q : ZRes → CW → Prop), (0 ≤ d ∧ eC_X12_init p (wpC p d) as w Q) → zoks as → ZMX l (KnC D) (ZC D) yX12_init (Cond.code yX12_init cX12_init 3 (Option.none : Option Jvm.ClassFile.FieldType)) (d + 1) D.lim as w Q := by
  intro as w Q h hok
  obtain ⟨hk, h⟩ := h
  unfold eC_X12_init at h
  split at h
  · refine zx_body (by decide) (Or.inl ⟨rfl, rfl⟩) KnC.warm (Nat.le_of_ble_eq_true rfl) (fun Γ hΓ hQ G M => ?_)
    subst hΓ
    subst hQ
    exact zv_pick [0, 1] rfl (cpC_X12_init_0 hp G M S hl hk (hok _ (List.mem_cons_of_mem _ (List.mem_cons_self))) h)
  · exact h.elim
theorem gC_X12_by {d p : Nat} {D : CD} {l : Launch} (hp : D.K.1 = p) (hl : l.stackTraces = false) (S : SdC d D p l) : ∀ (as : List ZA) (w : CW) (Q : ZRes → CW → Prop), (0 ≤ d ∧ eC_X12_by p (wpC p d) as w Q) → zoks as → ZMX l (KnC D) (ZC D) yX12_by (Cond.code yX12_by cX12_by 3 (Option.some Jvm.ClassFile.FieldType.int)) (d + 1) D.lim as w Q := by
  intro as w Q h hok
  obtain ⟨hk, h⟩ := h
  unfold eC_X12_by at h
  split at h
  · refine zx_body (by decide) (Or.inl ⟨rfl, rfl⟩) KnC.warm (Nat.le_of_ble_eq_true rfl) (fun Γ hΓ hQ G M => ?_)
    subst hΓ
    subst hQ
    exact zv_pick [0, 1, 2] rfl (cpC_X12_by_0 hp G M S hl hk h)
  · exact h.elim
theorem gC_X12_holds {d p : Nat} {D : CD} {l : Launch} (hp : D.K.1 = p) (hl : l.stackTraces = false) (S : SdC d D p l) : ∀ (as : List ZA) (w : CW) (Q : ZRes → CW → Prop), (0 ≤ d ∧ eC_X12_holds p (wpC p d) as w Q) → zoks as → ZMX l (KnC D) (ZC D) yX12_holds (Cond.code yX12_holds cX12_holds 3 (Option.some Jvm.ClassFile.FieldType.boolean)) (d + 1) D.lim as w Q := by
  intro as w Q h hok
  obtain ⟨hk, h⟩ := h
  unfold eC_X12_holds at h
  split at h
  · refine zx_body (by decide) (Or.inl ⟨rfl, rfl⟩) KnC.warm (Nat.le_of_ble_eq_true rfl) (fun Γ hΓ hQ G M => ?_)
    subst hΓ
    subst hQ
    exact zv_pick [0, 1] rfl (cpC_X12_holds_0 hp G M S hl hk h)
  · exact h.elim
theorem gC_X13_init {d p : Nat} {D : CD} {l : Launch} (hp : D.K.1 = p) (hl : l.stackTraces = false) (S : SdC d D p l) : ∀ (as : List ZA) (w : CW) (Q : ZRes → CW → Prop), (0 ≤ d ∧ eC_X13_init p (wpC p d) as w Q) → zoks as → ZMX l (KnC D) (ZC D) yX13_init (Cond.code yX13_init cX13_init 2 (Option.none : Option Jvm.ClassFile.FieldType)) (d + 1) D.lim as w Q := by
  intro as w Q h hok
  obtain ⟨hk, h⟩ := h
  unfold eC_X13_init at h
  split at h
  · refine zx_body (by decide) (Or.inl ⟨rfl, rfl⟩) KnC.warm (Nat.le_of_ble_eq_true rfl) (fun Γ hΓ hQ G M => ?_)
    subst hΓ
    subst hQ
    exact zv_pick [0, 1] rfl (cpC_X13_init_0 hp G M S hl hk (hok _ (List.mem_cons_of_mem _ (List.mem_cons_self))) h)
  · exact h.elim
theorem gC_X13_by {d p : Nat} {D : CD} {l : Launch} (hp : D.K.1 = p) (hl : l.stackTraces = false) (S : SdC d D p l) : ∀ (as : List ZA) (w : CW) (Q : ZRes → CW → Prop), (0 ≤ d ∧ eC_X13_by p (wpC p d) as w Q) → zoks as → ZMX l (KnC D) (ZC D) yX13_by (Cond.code yX13_by cX13_by 4 (Option.some Jvm.ClassFile.FieldType.int)) (d + 1) D.lim as w Q := by
  intro as w Q h hok
  obtain ⟨hk, h⟩ := h
  unfold eC_X13_by at h
  split at h
  · refine zx_body (by decide) (Or.inl ⟨rfl, rfl⟩) KnC.warm (Nat.le_of_ble_eq_true rfl) (fun Γ hΓ hQ G M => ?_)
    subst hΓ
    subst hQ
    exact zv_pick [0, 1, 2] rfl (cpC_X13_by_0 hp G M S hl hk h)
  · exact h.elim
theorem gC_X13_holds {d p : Nat} {D : CD} {l : Launch} (hp : D.K.1 = p) (hl : l.stackTraces = false) (S : SdC d D p l) : ∀ (as : List ZA) (w : CW) (Q : ZRes → CW → Prop), (0 ≤ d ∧ eC_X13_holds p (wpC p d) as w Q) → zoks as → ZMX l (KnC D) (ZC D) yX13_holds (Cond.code yX13_holds cX13_holds 3 (Option.some Jvm.ClassFile.FieldType.boolean)) (d + 1) D.lim as w Q := by
  intro as w Q h hok
  obtain ⟨hk, h⟩ := h
  unfold eC_X13_holds at h
  split at h
  · refine zx_body (by decide) (Or.inl ⟨rfl, rfl⟩) KnC.warm (Nat.le_of_ble_eq_true rfl) (fun Γ hΓ hQ G M => ?_)
    subst hΓ
    subst hQ
    exact zv_pick [0, 1] rfl (cpC_X13_holds_0 hp G M S hl hk h)
  · exact h.elim
theorem gC_X14_init {d p : Nat} {D : CD} {l : Launch} (hp : D.K.1 = p) (hl : l.stackTraces = false) (S : SdC d D p l) : ∀ (as : List ZA) (w : CW) (Q : ZRes → CW → Prop), (0 ≤ d ∧ eC_X14_init p (wpC p d) as w Q) → zoks as → ZMX l (KnC D) (ZC D) yX14_init (Cond.code yX14_init cX14_init 1 (Option.none : Option Jvm.ClassFile.FieldType)) (d + 1) D.lim as w Q := by
  intro as w Q h hok
  obtain ⟨hk, h⟩ := h
  unfold eC_X14_init at h
  split at h
  · refine zx_body (by decide) (Or.inl ⟨rfl, rfl⟩) KnC.warm (Nat.le_of_ble_eq_true rfl) (fun Γ hΓ hQ G M => ?_)
    subst hΓ
    subst hQ
    exact zv_pick [0] rfl (cpC_X14_init_0 hp G M S hl hk h)
  · exact h.elim
theorem gC_X14_by {d p : Nat} {D : CD} {l : Launch} (hp : D.K.1 = p) (hl : l.stackTraces = false) (S : SdC d D p l) : ∀ (as : List ZA) (w : CW) (Q : ZRes → CW → Prop), (0 ≤ d ∧ eC_X14_by p (wpC p d) as w Q) → zoks as → ZMX l (KnC D) (ZC D) yX14_by (Cond.code yX14_by cX14_by 4 (Option.some Jvm.ClassFile.FieldType.int)) (d + 1) D.lim as w Q := by
  intro as w Q h hok
  obtain ⟨hk, h⟩ := h
  unfold eC_X14_by at h
  split at h
  · refine zx_body (by decide) (Or.inl ⟨rfl, rfl⟩) KnC.warm (Nat.le_of_ble_eq_true rfl) (fun Γ hΓ hQ G M => ?_)
    subst hΓ
    subst hQ
    exact zv_pick [1, 2] rfl (cpC_X14_by_0 hp G M S hl hk h)
  · exact h.elim
theorem gC_X14_holds {d p : Nat} {D : CD} {l : Launch} (hp : D.K.1 = p) (hl : l.stackTraces = false) (S : SdC d D p l) : ∀ (as : List ZA) (w : CW) (Q : ZRes → CW → Prop), (0 ≤ d ∧ eC_X14_holds p (wpC p d) as w Q) → zoks as → ZMX l (KnC D) (ZC D) yX14_holds (Cond.code yX14_holds cX14_holds 3 (Option.some Jvm.ClassFile.FieldType.boolean)) (d + 1) D.lim as w Q := by
  intro as w Q h hok
  obtain ⟨hk, h⟩ := h
  unfold eC_X14_holds at h
  split at h
  · refine zx_body (by decide) (Or.inl ⟨rfl, rfl⟩) KnC.warm (Nat.le_of_ble_eq_true rfl) (fun Γ hΓ hQ G M => ?_)
    subst hΓ
    subst hQ
    exact zv_pick [1] rfl (cpC_X14_holds_0 hp G M S hl hk h)
  · exact h.elim
theorem gC_X15_init {d p : Nat} {D : CD} {l : Launch} (hp : D.K.1 = p) (hl : l.stackTraces = false) (S : SdC d D p l) : ∀ (as : List ZA) (w : CW) (Q : ZRes → CW → Prop), (0 ≤ d ∧ eC_X15_init p (wpC p d) as w Q) → zoks as → ZMX l (KnC D) (ZC D) yX15_init (Cond.code yX15_init cX15_init 1 (Option.none : Option Jvm.ClassFile.FieldType)) (d + 1) D.lim as w Q := by
  intro as w Q h hok
  obtain ⟨hk, h⟩ := h
  unfold eC_X15_init at h
  split at h
  · refine zx_body (by decide) (Or.inl ⟨rfl, rfl⟩) KnC.warm (Nat.le_of_ble_eq_true rfl) (fun Γ hΓ hQ G M => ?_)
    subst hΓ
    subst hQ
    exact zv_pick [0] rfl (cpC_X15_init_0 hp G M S hl hk h)
  · exact h.elim
theorem gC_X15_holds {d p : Nat} {D : CD} {l : Launch} (hp : D.K.1 = p) (hl : l.stackTraces = false) (S : SdC d D p l) : ∀ (as : List ZA) (w : CW) (Q : ZRes → CW → Prop), (0 ≤ d ∧ eC_X15_holds p (wpC p d) as w Q) → zoks as → ZMX l (KnC D) (ZC D) yX15_holds (Cond.code yX15_holds cX15_holds 4 (Option.some Jvm.ClassFile.FieldType.boolean)) (d + 1) D.lim as w Q := by
  intro as w Q h hok
  obtain ⟨hk, h⟩ := h
  unfold eC_X15_holds at h
  split at h
  · refine zx_body (by decide) (Or.inl ⟨rfl, rfl⟩) KnC.warm (Nat.le_of_ble_eq_true rfl) (fun Γ hΓ hQ G M => ?_)
    subst hΓ
    subst hQ
    exact zv_pick [0, 1] rfl (cpC_X15_holds_0 hp G M S hl hk h)
  · exact h.elim
theorem gC_X15_sum {d p : Nat} {D : CD} {l : Launch} (hp : D.K.1 = p) (hl : l.stackTraces = false) (S : SdC d D p l) : ∀ (as : List ZA) (w : CW) (Q : ZRes → CW → Prop), (7 ≤ d ∧ eC_X15_sum p (wpC p d) as w Q) → zoks as → ZMX l (KnC D) (ZC D) yX15_sum (Cond.code yX15_sum cX15_sum 5 (Option.some Jvm.ClassFile.FieldType.int)) (d + 1) D.lim as w Q := by
  intro as w Q h hok
  obtain ⟨hk, h⟩ := h
  unfold eC_X15_sum at h
  split at h
  · refine zx_body (by decide) (Or.inl ⟨rfl, rfl⟩) KnC.warm (Nat.le_of_ble_eq_true rfl) (fun Γ hΓ hQ G M => ?_)
    subst hΓ
    subst hQ
    exact zv_pick [0, 1, 2] rfl (cpC_X15_sum_0 hp G M S hl hk (hok _ (List.mem_cons_of_mem _ (List.mem_cons_self))) h)
  · exact h.elim
theorem gC_X15_term {d p : Nat} {D : CD} {l : Launch} (hp : D.K.1 = p) (hl : l.stackTraces = false) (S : SdC d D p l) : ∀ (as : List ZA) (w : CW) (Q : ZRes → CW → Prop), (0 ≤ d ∧ eC_X15_term p (wpC p d) as w Q) → zoks as → ZMX l (KnC D) (ZC D) yX15_term (Cond.code yX15_term cX15_term 3 (Option.some Jvm.ClassFile.FieldType.int)) (d + 1) D.lim as w Q := by
  intro as w Q h hok
  obtain ⟨hk, h⟩ := h
  unfold eC_X15_term at h
  split at h
  · refine zx_body (by decide) (Or.inl ⟨rfl, rfl⟩) KnC.warm (Nat.le_of_ble_eq_true rfl) (fun Γ hΓ hQ G M => ?_)
    subst hΓ
    subst hQ
    exact zv_pick [0, 1, 2] rfl (cpC_X15_term_0 hp G M S hl hk (hok _ (List.mem_cons_of_mem _ (List.mem_cons_self))) h)
  · exact h.elim
theorem gC_X16_init {d p : Nat} {D : CD} {l : Launch} (hp : D.K.1 = p) (hl : l.stackTraces = false) (S : SdC d D p l) : ∀ (as : List ZA) (w : CW) (Q : ZRes → CW → Prop), (0 ≤ d ∧ eC_X16_init p (wpC p d) as w Q) → zoks as → ZMX l (KnC D) (ZC D) yX16_init (Cond.code yX16_init cX16_init 2 (Option.none : Option Jvm.ClassFile.FieldType)) (d + 1) D.lim as w Q := by
  intro as w Q h hok
  obtain ⟨hk, h⟩ := h
  unfold eC_X16_init at h
  split at h
  · refine zx_body (by decide) (Or.inl ⟨rfl, rfl⟩) KnC.warm (Nat.le_of_ble_eq_true rfl) (fun Γ hΓ hQ G M => ?_)
    subst hΓ
    subst hQ
    exact zv_pick [0, 1] rfl (cpC_X16_init_0 hp G M S hl hk h)
  · exact h.elim
theorem gC_X16_add {d p : Nat} {D : CD} {l : Launch} (hp : D.K.1 = p) (hl : l.stackTraces = false) (S : SdC d D p l) : ∀ (as : List ZA) (w : CW) (Q : ZRes → CW → Prop), (0 ≤ d ∧ eC_X16_add p (wpC p d) as w Q) → zoks as → ZMX l (KnC D) (ZC D) yX16_add (Cond.code yX16_add cX16_add 5 (Option.none : Option Jvm.ClassFile.FieldType)) (d + 1) D.lim as w Q := by
  intro as w Q h hok
  obtain ⟨hk, h⟩ := h
  unfold eC_X16_add at h
  split at h
  · refine zx_body (by decide) (Or.inl ⟨rfl, rfl⟩) KnC.warm (Nat.le_of_ble_eq_true rfl) (fun Γ hΓ hQ G M => ?_)
    subst hΓ
    subst hQ
    exact zv_pick [0, 1, 2] rfl (cpC_X16_add_0 hp G M S hl hk h)
  · exact h.elim
theorem gC_X16_isOut {d p : Nat} {D : CD} {l : Launch} (hp : D.K.1 = p) (hl : l.stackTraces = false) (S : SdC d D p l) : ∀ (as : List ZA) (w : CW) (Q : ZRes → CW → Prop), (0 ≤ d ∧ eC_X16_isOut p (wpC p d) as w Q) → zoks as → ZMX l (KnC D) (ZC D) yX16_isOut (Cond.code yX16_isOut cX16_isOut 4 (Option.some Jvm.ClassFile.FieldType.boolean)) (d + 1) D.lim as w Q := by
  intro as w Q h hok
  obtain ⟨hk, h⟩ := h
  unfold eC_X16_isOut at h
  split at h
  · refine zx_body (by decide) (Or.inl ⟨rfl, rfl⟩) KnC.warm (Nat.le_of_ble_eq_true rfl) (fun Γ hΓ hQ G M => ?_)
    subst hΓ
    subst hQ
    exact zv_pick [0, 1] rfl (cpC_X16_isOut_0 hp G M S hl hk h)
  · exact h.elim
theorem gC_X16_asked {d p : Nat} {D : CD} {l : Launch} (hp : D.K.1 = p) (hl : l.stackTraces = false) (S : SdC d D p l) : ∀ (as : List ZA) (w : CW) (Q : ZRes → CW → Prop), (0 ≤ d ∧ eC_X16_asked p (wpC p d) as w Q) → zoks as → ZMX l (KnC D) (ZC D) yX16_asked (Cond.code yX16_asked cX16_asked 7 (Option.some Jvm.ClassFile.FieldType.int)) (d + 1) D.lim as w Q := by
  intro as w Q h hok
  obtain ⟨hk, h⟩ := h
  unfold eC_X16_asked at h
  split at h
  · refine zx_body (by decide) (Or.inl ⟨rfl, rfl⟩) KnC.warm (Nat.le_of_ble_eq_true rfl) (fun Γ hΓ hQ G M => ?_)
    subst hΓ
    subst hQ
    exact zv_pick [0, 1, 2] rfl (cpC_X16_asked_0 hp G M S hl hk h)
  · exact h.elim
theorem gC_X16_left {d p : Nat} {D : CD} {l : Launch} (hp : D.K.1 = p) (hl : l.stackTraces = false) (S : SdC d D p l) : ∀ (as : List ZA) (w : CW) (Q : ZRes → CW → Prop), (0 ≤ d ∧ eC_X16_left p (wpC p d) as w Q) → zoks as → ZMX l (KnC D) (ZC D) yX16_left (Cond.code yX16_left cX16_left 4 (Option.some (Jvm.ClassFile.FieldType.object "LetterPost$Test"))) (d + 1) D.lim as w Q := by
  intro as w Q h hok
  obtain ⟨hk, h⟩ := h
  unfold eC_X16_left at h
  split at h
  · refine zx_body (by decide) (Or.inl ⟨rfl, rfl⟩) KnC.warm (Nat.le_of_ble_eq_true rfl) (fun Γ hΓ hQ G M => ?_)
    subst hΓ
    subst hQ
    exact zv_pick [0, 1, 2] rfl (cpC_X16_left_0 hp G M S hl hk h)
  · exact h.elim
theorem gC_X17_init {d p : Nat} {D : CD} {l : Launch} (hp : D.K.1 = p) (hl : l.stackTraces = false) (S : SdC d D p l) : ∀ (as : List ZA) (w : CW) (Q : ZRes → CW → Prop), (0 ≤ d ∧ eC_X17_init p (wpC p d) as w Q) → zoks as → ZMX l (KnC D) (ZC D) yX17_init (Cond.code yX17_init cX17_init 6 (Option.none : Option Jvm.ClassFile.FieldType)) (d + 1) D.lim as w Q := by
  intro as w Q h hok
  obtain ⟨hk, h⟩ := h
  unfold eC_X17_init at h
  split at h
  · refine zx_body (by decide) (Or.inl ⟨rfl, rfl⟩) KnC.warm (Nat.le_of_ble_eq_true rfl) (fun Γ hΓ hQ G M => ?_)
    subst hΓ
    subst hQ
    exact zv_pick [0, 1, 2, 3, 4, 5] rfl (cpC_X17_init_0 hp G M S hl hk (hok _ (List.mem_cons_of_mem _ (List.mem_cons_of_mem _ (List.mem_cons_of_mem _ (List.mem_cons_self))))) (hok _ (List.mem_cons_of_mem _ (List.mem_cons_of_mem _ (List.mem_cons_of_mem _ (List.mem_cons_of_mem _ (List.mem_cons_self)))))) (hok _ (List.mem_cons_of_mem _ (List.mem_cons_of_mem _ (List.mem_cons_of_mem _ (List.mem_cons_of_mem _ (List.mem_cons_of_mem _ (List.mem_cons_self))))))) h)
  · exact h.elim
theorem gC_X17_isWithin {d p : Nat} {D : CD} {l : Launch} (hp : D.K.1 = p) (hl : l.stackTraces = false) (S : SdC d D p l) : ∀ (as : List ZA) (w : CW) (Q : ZRes → CW → Prop), (0 ≤ d ∧ eC_X17_isWithin p (wpC p d) as w Q) → zoks as → ZMX l (KnC D) (ZC D) yX17_isWithin (Cond.code yX17_isWithin cX17_isWithin 3 (Option.some Jvm.ClassFile.FieldType.boolean)) (d + 1) D.lim as w Q := by
  intro as w Q h hok
  obtain ⟨hk, h⟩ := h
  unfold eC_X17_isWithin at h
  split at h
  · refine zx_body (by decide) (Or.inl ⟨rfl, rfl⟩) KnC.warm (Nat.le_of_ble_eq_true rfl) (fun Γ hΓ hQ G M => ?_)
    subst hΓ
    subst hQ
    exact zv_pick [0, 1] rfl (cpC_X17_isWithin_0 hp G M S hl hk h)
  · exact h.elim
theorem gC_X17_of {d p : Nat} {D : CD} {l : Launch} (hp : D.K.1 = p) (hl : l.stackTraces = false) (S : SdC d D p l) : ∀ (as : List ZA) (w : CW) (Q : ZRes → CW → Prop), (0 ≤ d ∧ eC_X17_of p (wpC p d) as w Q) → zoks as → ZMX l (KnC D) (ZC D) yX17_of (Cond.code yX17_of cX17_of 2 (Option.some (Jvm.ClassFile.FieldType.object "LetterPost$Value"))) (d + 1) D.lim as w Q := by
  intro as w Q h hok
  obtain ⟨hk, h⟩ := h
  unfold eC_X17_of at h
  split at h
  · refine zx_body (by decide) (Or.inl ⟨rfl, rfl⟩) KnC.warm (Nat.le_of_ble_eq_true rfl) (fun Γ hΓ hQ G M => ?_)
    subst hΓ
    subst hQ
    exact zv_pick [0, 1] rfl (cpC_X17_of_0 hp G M S hl hk h)
  · exact h.elim
theorem gC_X18_init {d p : Nat} {D : CD} {l : Launch} (hp : D.K.1 = p) (hl : l.stackTraces = false) (S : SdC d D p l) : ∀ (as : List ZA) (w : CW) (Q : ZRes → CW → Prop), (0 ≤ d ∧ eC_X18_init p (wpC p d) as w Q) → zoks as → ZMX l (KnC D) (ZC D) yX18_init (Cond.code yX18_init cX18_init 4 (Option.none : Option Jvm.ClassFile.FieldType)) (d + 1) D.lim as w Q := by
  intro as w Q h hok
  obtain ⟨hk, h⟩ := h
  unfold eC_X18_init at h
  split at h
  · refine zx_body (by decide) (Or.inl ⟨rfl, rfl⟩) KnC.warm (Nat.le_of_ble_eq_true rfl) (fun Γ hΓ hQ G M => ?_)
    subst hΓ
    subst hQ
    exact zv_pick [0, 1, 2, 3] rfl (cpC_X18_init_0 hp G M S hl hk (hok _ (List.mem_cons_of_mem _ (List.mem_cons_of_mem _ (List.mem_cons_of_mem _ (List.mem_cons_self))))) h)
  · exact h.elim
theorem gC_X18_make {d p : Nat} {D : CD} {l : Launch} (hp : D.K.1 = p) (hl : l.stackTraces = false) (S : SdC d D p l) : ∀ (as : List ZA) (w : CW) (Q : ZRes → CW → Prop), (0 ≤ d ∧ eC_X18_make p (wpC p d) as w Q) → zoks as → ZMX l (KnC D) (ZC D) yX18_make (Cond.code yX18_make cX18_make 8 (Option.some (Jvm.ClassFile.FieldType.object "LetterPost$Node"))) (d + 1) D.lim as w Q := by
  intro as w Q h hok
  obtain ⟨hk, h⟩ := h
  unfold eC_X18_make at h
  split at h
  · refine zx_body (by decide) (Or.inl ⟨rfl, rfl⟩) KnC.warm (Nat.le_of_ble_eq_true rfl) (fun Γ hΓ hQ G M => ?_)
    subst hΓ
    subst hQ
    exact zv_pick [0, 1, 2] rfl (cpC_X18_make_0 hp G M S hl hk (hok _ (List.mem_cons_of_mem _ (List.mem_cons_of_mem _ (List.mem_cons_self)))) h)
  · exact h.elim
theorem gC_X18_ends {d p : Nat} {D : CD} {l : Launch} (hp : D.K.1 = p) (hl : l.stackTraces = false) (S : SdC d D p l) : ∀ (as : List ZA) (w : CW) (Q : ZRes → CW → Prop), (0 ≤ d ∧ eC_X18_ends p (wpC p d) as w Q) → zoks as → ZMX l (KnC D) (ZC D) yX18_ends (Cond.code yX18_ends cX18_ends 9 (Option.some (Jvm.ClassFile.FieldType.object "LetterPost$Node"))) (d + 1) D.lim as w Q := by
  intro as w Q h hok
  obtain ⟨hk, h⟩ := h
  unfold eC_X18_ends at h
  split at h
  · refine zx_body (by decide) (Or.inl ⟨rfl, rfl⟩) KnC.warm (Nat.le_of_ble_eq_true rfl) (fun Γ hΓ hQ G M => ?_)
    subst hΓ
    subst hQ
    exact zv_pick [0, 1, 2, 3] rfl (cpC_X18_ends_0 hp G M S hl hk (hok _ (List.mem_cons_of_mem _ (List.mem_cons_self))) (hok _ (List.mem_cons_of_mem _ (List.mem_cons_of_mem _ (List.mem_cons_of_mem _ (List.mem_cons_self))))) h)
  · exact h.elim
theorem gC_X18_chosen {d p : Nat} {D : CD} {l : Launch} (hp : D.K.1 = p) (hl : l.stackTraces = false) (S : SdC d D p l) : ∀ (as : List ZA) (w : CW) (Q : ZRes → CW → Prop), (0 ≤ d ∧ eC_X18_chosen p (wpC p d) as w Q) → zoks as → ZMX l (KnC D) (ZC D) yX18_chosen (Cond.code yX18_chosen cX18_chosen 7 (Option.some (Jvm.ClassFile.FieldType.object "LetterPost$Place"))) (d + 1) D.lim as w Q := by
  intro as w Q h hok
  obtain ⟨hk, h⟩ := h
  unfold eC_X18_chosen at h
  split at h
  · refine zx_body (by decide) (Or.inl ⟨rfl, rfl⟩) KnC.warm (Nat.le_of_ble_eq_true rfl) (fun Γ hΓ hQ G M => ?_)
    subst hΓ
    subst hQ
    exact zv_pick [0, 1, 2, 3] rfl (cpC_X18_chosen_0 hp G M S hl hk (hok _ (List.mem_cons_of_mem _ (List.mem_cons_of_mem _ (List.mem_cons_self)))) (hok _ (List.mem_cons_of_mem _ (List.mem_cons_of_mem _ (List.mem_cons_of_mem _ (List.mem_cons_self))))) h)
  · exact h.elim
theorem gC_X18_wanted {d p : Nat} {D : CD} {l : Launch} (hp : D.K.1 = p) (hl : l.stackTraces = false) (S : SdC d D p l) : ∀ (as : List ZA) (w : CW) (Q : ZRes → CW → Prop), (0 ≤ d ∧ eC_X18_wanted p (wpC p d) as w Q) → zoks as → ZMX l (KnC D) (ZC D) yX18_wanted (Cond.code yX18_wanted cX18_wanted 6 (Option.some Jvm.ClassFile.FieldType.int)) (d + 1) D.lim as w Q := by
  intro as w Q h hok
  obtain ⟨hk, h⟩ := h
  unfold eC_X18_wanted at h
  split at h
  · refine zx_body (by decide) (Or.inl ⟨rfl, rfl⟩) KnC.warm (Nat.le_of_ble_eq_true rfl) (fun Γ hΓ hQ G M => ?_)
    subst hΓ
    subst hQ
    exact zv_pick [0, 1, 2, 3] rfl (cpC_X18_wanted_0 hp G M S hl hk (hok _ (List.mem_cons_of_mem _ (List.mem_cons_of_mem _ (List.mem_cons_self)))) h)
  · exact h.elim
theorem gC_X18_branches {d p : Nat} {D : CD} {l : Launch} (hp : D.K.1 = p) (hl : l.stackTraces = false) (S : SdC d D p l) : ∀ (as : List ZA) (w : CW) (Q : ZRes → CW → Prop), (0 ≤ d ∧ eC_X18_branches p (wpC p d) as w Q) → zoks as → ZMX l (KnC D) (ZC D) yX18_branches (Cond.code yX18_branches cX18_branches 4 (Option.some Jvm.ClassFile.FieldType.int)) (d + 1) D.lim as w Q := by
  intro as w Q h hok
  obtain ⟨hk, h⟩ := h
  unfold eC_X18_branches at h
  split at h
  · refine zx_body (by decide) (Or.inl ⟨rfl, rfl⟩) KnC.warm (Nat.le_of_ble_eq_true rfl) (fun Γ hΓ hQ G M => ?_)
    subst hΓ
    subst hQ
    exact zv_pick [0, 1, 2, 3] rfl (cpC_X18_branches_0 hp G M S hl hk (hok _ (List.mem_cons_of_mem _ (List.mem_cons_of_mem _ (List.mem_cons_self)))) h)
  · exact h.elim
theorem gC_X18_leafMany {d p : Nat} {D : CD} {l : Launch} (hp : D.K.1 = p) (hl : l.stackTraces = false) (S : SdC d D p l) : ∀ (as : List ZA) (w : CW) (Q : ZRes → CW → Prop), (0 ≤ d ∧ eC_X18_leafMany p (wpC p d) as w Q) → zoks as → ZMX l (KnC D) (ZC D) yX18_leafMany (Cond.code yX18_leafMany cX18_leafMany 4 (Option.some Jvm.ClassFile.FieldType.int)) (d + 1) D.lim as w Q := by
  intro as w Q h hok
  obtain ⟨hk, h⟩ := h
  unfold eC_X18_leafMany at h
  split at h
  · refine zx_body (by decide) (Or.inl ⟨rfl, rfl⟩) KnC.warm (Nat.le_of_ble_eq_true rfl) (fun Γ hΓ hQ G M => ?_)
    subst hΓ
    subst hQ
    exact zv_pick [0, 1] rfl (cpC_X18_leafMany_0 hp G M S hl hk (hok _ (List.mem_cons_of_mem _ (List.mem_cons_self))) h)
  · exact h.elim
theorem gC_X18_textMany {d p : Nat} {D : CD} {l : Launch} (hp : D.K.1 = p) (hl : l.stackTraces = false) (S : SdC d D p l) : ∀ (as : List ZA) (w : CW) (Q : ZRes → CW → Prop), (0 ≤ d ∧ eC_X18_textMany p (wpC p d) as w Q) → zoks as → ZMX l (KnC D) (ZC D) yX18_textMany (Cond.code yX18_textMany cX18_textMany 11 (Option.some Jvm.ClassFile.FieldType.int)) (d + 1) D.lim as w Q := by
  intro as w Q h hok
  obtain ⟨hk, h⟩ := h
  unfold eC_X18_textMany at h
  split at h
  · refine zx_body (by decide) (Or.inl ⟨rfl, rfl⟩) KnC.warm (Nat.le_of_ble_eq_true rfl) (fun Γ hΓ hQ G M => ?_)
    subst hΓ
    subst hQ
    exact zv_pick [0, 1, 2, 3] rfl (cpC_X18_textMany_0 hp G M S hl hk (hok _ (List.mem_cons_of_mem _ (List.mem_cons_of_mem _ (List.mem_cons_self)))) h)
  · exact h.elim
theorem gC_X18_borderMany {d p : Nat} {D : CD} {l : Launch} (hp : D.K.1 = p) (hl : l.stackTraces = false) (S : SdC d D p l) : ∀ (as : List ZA) (w : CW) (Q : ZRes → CW → Prop), (0 ≤ d ∧ eC_X18_borderMany p (wpC p d) as w Q) → zoks as → ZMX l (KnC D) (ZC D) yX18_borderMany (Cond.code yX18_borderMany cX18_borderMany 9 (Option.some Jvm.ClassFile.FieldType.int)) (d + 1) D.lim as w Q := by
  intro as w Q h hok
  obtain ⟨hk, h⟩ := h
  unfold eC_X18_borderMany at h
  split at h
  · refine zx_body (by decide) (Or.inl ⟨rfl, rfl⟩) KnC.warm (Nat.le_of_ble_eq_true rfl) (fun Γ hΓ hQ G M => ?_)
    subst hΓ
    subst hQ
    exact zv_pick [0, 1, 2, 3] rfl (cpC_X18_borderMany_0 hp G M S hl hk (hok _ (List.mem_cons_of_mem _ (List.mem_cons_of_mem _ (List.mem_cons_self)))) h)
  · exact h.elim
theorem gC_X18_put {d p : Nat} {D : CD} {l : Launch} (hp : D.K.1 = p) (hl : l.stackTraces = false) (S : SdC d D p l) : ∀ (as : List ZA) (w : CW) (Q : ZRes → CW → Prop), (0 ≤ d ∧ eC_X18_put p (wpC p d) as w Q) → zoks as → ZMX l (KnC D) (ZC D) yX18_put (Cond.code yX18_put cX18_put 5 (Option.some Jvm.ClassFile.FieldType.int)) (d + 1) D.lim as w Q := by
  intro as w Q h hok
  obtain ⟨hk, h⟩ := h
  unfold eC_X18_put at h
  split at h
  · refine zx_body (by decide) (Or.inl ⟨rfl, rfl⟩) KnC.warm (Nat.le_of_ble_eq_true rfl) (fun Γ hΓ hQ G M => ?_)
    subst hΓ
    subst hQ
    exact zv_pick [1, 2, 3] rfl (cpC_X18_put_0 hp G M S hl hk (hok _ (List.mem_cons_of_mem _ (List.mem_cons_of_mem _ (List.mem_cons_self)))) (hok _ (List.mem_cons_of_mem _ (List.mem_cons_of_mem _ (List.mem_cons_of_mem _ (List.mem_cons_self))))) h)
  · exact h.elim
theorem gC_X18_byKind {d p : Nat} {D : CD} {l : Launch} (hp : D.K.1 = p) (hl : l.stackTraces = false) (S : SdC d D p l) : ∀ (as : List ZA) (w : CW) (Q : ZRes → CW → Prop), (0 ≤ d ∧ eC_X18_byKind p (wpC p d) as w Q) → zoks as → ZMX l (KnC D) (ZC D) yX18_byKind (Cond.code yX18_byKind cX18_byKind 8 (Option.some (Jvm.ClassFile.FieldType.object "LetterPost$Node"))) (d + 1) D.lim as w Q := by
  intro as w Q h hok
  obtain ⟨hk, h⟩ := h
  unfold eC_X18_byKind at h
  split at h
  · refine zx_body (by decide) (Or.inl ⟨rfl, rfl⟩) KnC.warm (Nat.le_of_ble_eq_true rfl) (fun Γ hΓ hQ G M => ?_)
    subst hΓ
    subst hQ
    exact zv_pick [0, 1, 2, 3, 4] rfl (cpC_X18_byKind_0 hp G M S hl hk (hok _ (List.mem_cons_of_mem _ (List.mem_cons_self))) (hok _ (List.mem_cons_of_mem _ (List.mem_cons_of_mem _ (List.mem_cons_of_mem _ (List.mem_cons_of_mem _ (List.mem_cons_self)))))) h)
  · exact h.elim
theorem gC_X18_leaves {d p : Nat} {D : CD} {l : Launch} (hp : D.K.1 = p) (hl : l.stackTraces = false) (S : SdC d D p l) : ∀ (as : List ZA) (w : CW) (Q : ZRes → CW → Prop), (0 ≤ d ∧ eC_X18_leaves p (wpC p d) as w Q) → zoks as → ZMX l (KnC D) (ZC D) yX18_leaves (Cond.code yX18_leaves cX18_leaves 5 (Option.some (Jvm.ClassFile.FieldType.array (Jvm.ClassFile.FieldType.object "LetterPost$Kind")))) (d + 1) D.lim as w Q := by
  intro as w Q h hok
  obtain ⟨hk, h⟩ := h
  unfold eC_X18_leaves at h
  split at h
  · refine zx_body (by decide) (Or.inl ⟨rfl, rfl⟩) KnC.warm (Nat.le_of_ble_eq_true rfl) (fun Γ hΓ hQ G M => ?_)
    subst hΓ
    subst hQ
    exact zv_pick [0, 1] rfl (cpC_X18_leaves_0 hp G M S hl hk (hok _ (List.mem_cons_of_mem _ (List.mem_cons_self))) h)
  · exact h.elim
theorem gC_X18_byTruth {d p : Nat} {D : CD} {l : Launch} (hp : D.K.1 = p) (hl : l.stackTraces = false) (S : SdC d D p l) : ∀ (as : List ZA) (w : CW) (Q : ZRes → CW → Prop), (0 ≤ d ∧ eC_X18_byTruth p (wpC p d) as w Q) → zoks as → ZMX l (KnC D) (ZC D) yX18_byTruth (Cond.code yX18_byTruth cX18_byTruth 7 (Option.some (Jvm.ClassFile.FieldType.object "LetterPost$Node"))) (d + 1) D.lim as w Q := by
  intro as w Q h hok
  obtain ⟨hk, h⟩ := h
  unfold eC_X18_byTruth at h
  split at h
  · refine zx_body (by decide) (Or.inl ⟨rfl, rfl⟩) KnC.warm (Nat.le_of_ble_eq_true rfl) (fun Γ hΓ hQ G M => ?_)
    subst hΓ
    subst hQ
    exact zv_pick [0, 1, 2, 3, 4] rfl (cpC_X18_byTruth_0 hp G M S hl hk (hok _ (List.mem_cons_of_mem _ (List.mem_cons_self))) (hok _ (List.mem_cons_of_mem _ (List.mem_cons_of_mem _ (List.mem_cons_of_mem _ (List.mem_cons_of_mem _ (List.mem_cons_self)))))) h)
  · exact h.elim
theorem gC_X18_byText {d p : Nat} {D : CD} {l : Launch} (hp : D.K.1 = p) (hl : l.stackTraces = false) (S : SdC d D p l) : ∀ (as : List ZA) (w : CW) (Q : ZRes → CW → Prop), (0 ≤ d ∧ eC_X18_byText p (wpC p d) as w Q) → zoks as → ZMX l (KnC D) (ZC D) yX18_byText (Cond.code yX18_byText cX18_byText 9 (Option.some (Jvm.ClassFile.FieldType.object "LetterPost$Node"))) (d + 1) D.lim as w Q := by
  intro as w Q h hok
  obtain ⟨hk, h⟩ := h
  unfold eC_X18_byText at h
  split at h
  · refine zx_body (by decide) (Or.inl ⟨rfl, rfl⟩) KnC.warm (Nat.le_of_ble_eq_true rfl) (fun Γ hΓ hQ G M => ?_)
    subst hΓ
    subst hQ
    exact zv_pick [0, 1, 2, 3, 4] rfl (cpC_X18_byText_0 hp G M S hl hk (hok _ (List.mem_cons_of_mem _ (List.mem_cons_self))) (hok _ (List.mem_cons_of_mem _ (List.mem_cons_of_mem _ (List.mem_cons_of_mem _ (List.mem_cons_of_mem _ (List.mem_cons_self)))))) h)
  · exact h.elim
theorem gC_X18_texts {d p : Nat} {D : CD} {l : Launch} (hp : D.K.1 = p) (hl : l.stackTraces = false) (S : SdC d D p l) : ∀ (as : List ZA) (w : CW) (Q : ZRes → CW → Prop), (0 ≤ d ∧ eC_X18_texts p (wpC p d) as w Q) → zoks as → ZMX l (KnC D) (ZC D) yX18_texts (Cond.code yX18_texts cX18_texts 5 (Option.some (Jvm.ClassFile.FieldType.array Jvm.ClassFile.FieldType.long))) (d + 1) D.lim as w Q := by
  intro as w Q h hok
  obtain ⟨hk, h⟩ := h
  unfold eC_X18_texts at h
  split at h
  · refine zx_body (by decide) (Or.inl ⟨rfl, rfl⟩) KnC.warm (Nat.le_of_ble_eq_true rfl) (fun Γ hΓ hQ G M => ?_)
    subst hΓ
    subst hQ
    exact zv_pick [0, 1, 2, 3] rfl (cpC_X18_texts_0 hp G M S hl hk (hok _ (List.mem_cons_of_mem _ (List.mem_cons_of_mem _ (List.mem_cons_self)))) h)
  · exact h.elim
theorem gC_X18_byWhole {d p : Nat} {D : CD} {l : Launch} (hp : D.K.1 = p) (hl : l.stackTraces = false) (S : SdC d D p l) : ∀ (as : List ZA) (w : CW) (Q : ZRes → CW → Prop), (0 ≤ d ∧ eC_X18_byWhole p (wpC p d) as w Q) → zoks as → ZMX l (KnC D) (ZC D) yX18_byWhole (Cond.code yX18_byWhole cX18_byWhole 9 (Option.some (Jvm.ClassFile.FieldType.object "LetterPost$Node"))) (d + 1) D.lim as w Q := by
  intro as w Q h hok
  obtain ⟨hk, h⟩ := h
  unfold eC_X18_byWhole at h
  split at h
  · refine zx_body (by decide) (Or.inl ⟨rfl, rfl⟩) KnC.warm (Nat.le_of_ble_eq_true rfl) (fun Γ hΓ hQ G M => ?_)
    subst hΓ
    subst hQ
    exact zv_pick [0, 1, 2, 3, 4] rfl (cpC_X18_byWhole_0 hp G M S hl hk (hok _ (List.mem_cons_of_mem _ (List.mem_cons_self))) (hok _ (List.mem_cons_of_mem _ (List.mem_cons_of_mem _ (List.mem_cons_of_mem _ (List.mem_cons_of_mem _ (List.mem_cons_self)))))) h)
  · exact h.elim
theorem gC_X18_borders {d p : Nat} {D : CD} {l : Launch} (hp : D.K.1 = p) (hl : l.stackTraces = false) (S : SdC d D p l) : ∀ (as : List ZA) (w : CW) (Q : ZRes → CW → Prop), (0 ≤ d ∧ eC_X18_borders p (wpC p d) as w Q) → zoks as → ZMX l (KnC D) (ZC D) yX18_borders (Cond.code yX18_borders cX18_borders 5 (Option.some (Jvm.ClassFile.FieldType.array Jvm.ClassFile.FieldType.int))) (d + 1) D.lim as w Q := by
  intro as w Q h hok
  obtain ⟨hk, h⟩ := h
  unfold eC_X18_borders at h
  split at h
  · refine zx_body (by decide) (Or.inl ⟨rfl, rfl⟩) KnC.warm (Nat.le_of_ble_eq_true rfl) (fun Γ hΓ hQ G M => ?_)
    subst hΓ
    subst hQ
    exact zv_pick [0, 1, 2, 3] rfl (cpC_X18_borders_0 hp G M S hl hk (hok _ (List.mem_cons_of_mem _ (List.mem_cons_of_mem _ (List.mem_cons_self)))) h)
  · exact h.elim
theorem gC_X19_init {d p : Nat} {D : CD} {l : Launch} (hp : D.K.1 = p) (hl : l.stackTraces = false) (S : SdC d D p l) : ∀ (as : List ZA) (w : CW) (Q : ZRes → CW → Prop), (0 ≤ d ∧ eC_X19_init p (wpC p d) as w Q) → zoks as → ZMX l (KnC D) (ZC D) yX19_init (Cond.code yX19_init cX19_init 3 (Option.none : Option Jvm.ClassFile.FieldType)) (d + 1) D.lim as w Q := by
  intro as w Q h hok
  obtain ⟨hk, h⟩ := h
  unfold eC_X19_init at h
  split at h
  · refine zx_body (by decide) (Or.inl ⟨rfl, rfl⟩) KnC.warm (Nat.le_of_ble_eq_true rfl) (fun Γ hΓ hQ G M => ?_)
    subst hΓ
    subst hQ
    exact zv_pick [0, 1] rfl (cpC_X19_init_0 hp G M S hl hk (hok _ (List.mem_cons_of_mem _ (List.mem_cons_self))) h)
  · exact h.elim
theorem gC_X19_isOut {d p : Nat} {D : CD} {l : Launch} (hp : D.K.1 = p) (hl : l.stackTraces = false) (S : SdC d D p l) : ∀ (as : List ZA) (w : CW) (Q : ZRes → CW → Prop), (0 ≤ d ∧ eC_X19_isOut p (wpC p d) as w Q) → zoks as → ZMX l (KnC D) (ZC D) yX19_isOut (Cond.code yX19_isOut cX19_isOut 6 (Option.some Jvm.ClassFile.FieldType.boolean)) (d + 1) D.lim as w Q := by
  intro as w Q h hok
  obtain ⟨hk, h⟩ := h
  unfold eC_X19_isOut at h
  split at h
  · refine zx_body (by decide) (Or.inl ⟨rfl, rfl⟩) KnC.warm (Nat.le_of_ble_eq_true rfl) (fun Γ hΓ hQ G M => ?_)
    subst hΓ
    subst hQ
    exact zv_pick [0, 1, 2] rfl (cpC_X19_isOut_0 hp G M S hl hk (hok _ (List.mem_cons_of_mem _ (List.mem_cons_of_mem _ (List.mem_cons_self)))) h)
  · exact h.elim
theorem gC_X20_init {d p : Nat} {D : CD} {l : Launch} (hp : D.K.1 = p) (hl : l.stackTraces = false) (S : SdC d D p l) : ∀ (as : List ZA) (w : CW) (Q : ZRes → CW → Prop), (0 ≤ d ∧ eC_X20_init p (wpC p d) as w Q) → zoks as → ZMX l (KnC D) (ZC D) yX20_init (Cond.code yX20_init cX20_init 1 (Option.none : Option Jvm.ClassFile.FieldType)) (d + 1) D.lim as w Q := by
  intro as w Q h hok
  obtain ⟨hk, h⟩ := h
  unfold eC_X20_init at h
  split at h
  · refine zx_body (by decide) (Or.inl ⟨rfl, rfl⟩) KnC.warm (Nat.le_of_ble_eq_true rfl) (fun Γ hΓ hQ G M => ?_)
    subst hΓ
    subst hQ
    exact zv_pick [0] rfl (cpC_X20_init_0 hp G M S hl hk h)
  · exact h.elim
theorem gC_X21_init {d p : Nat} {D : CD} {l : Launch} (hp : D.K.1 = p) (hl : l.stackTraces = false) (S : SdC d D p l) : ∀ (as : List ZA) (w : CW) (Q : ZRes → CW → Prop), (0 ≤ d ∧ eC_X21_init p (wpC p d) as w Q) → zoks as → ZMX l (KnC D) (ZC D) yX21_init (Cond.code yX21_init cX21_init 2 (Option.none : Option Jvm.ClassFile.FieldType)) (d + 1) D.lim as w Q := by
  intro as w Q h hok
  obtain ⟨hk, h⟩ := h
  unfold eC_X21_init at h
  split at h
  · refine zx_body (by decide) (Or.inl ⟨rfl, rfl⟩) KnC.warm (Nat.le_of_ble_eq_true rfl) (fun Γ hΓ hQ G M => ?_)
    subst hΓ
    subst hQ
    exact zv_pick [0, 1] rfl (cpC_X21_init_0 hp G M S hl hk (hok _ (List.mem_cons_of_mem _ (List.mem_cons_self))) h)
  · exact h.elim
theorem gC_X21_many {d p : Nat} {D : CD} {l : Launch} (hp : D.K.1 = p) (hl : l.stackTraces = false) (S : SdC d D p l) : ∀ (as : List ZA) (w : CW) (Q : ZRes → CW → Prop), (0 ≤ d ∧ eC_X21_many p (wpC p d) as w Q) → zoks as → ZMX l (KnC D) (ZC D) yX21_many (Cond.code yX21_many cX21_many 6 (Option.some Jvm.ClassFile.FieldType.int)) (d + 1) D.lim as w Q := by
  intro as w Q h hok
  obtain ⟨hk, h⟩ := h
  unfold eC_X21_many at h
  split at h
  · refine zx_body (by decide) (Or.inl ⟨rfl, rfl⟩) KnC.warm (Nat.le_of_ble_eq_true rfl) (fun Γ hΓ hQ G M => ?_)
    subst hΓ
    subst hQ
    exact zv_pick [0] rfl (cpC_X21_many_0 hp G M S hl hk h)
  · exact h.elim
theorem gC_X21_depth {d p : Nat} {D : CD} {l : Launch} (hp : D.K.1 = p) (hl : l.stackTraces = false) (S : SdC d D p l) : ∀ (as : List ZA) (w : CW) (Q : ZRes → CW → Prop), (0 ≤ d ∧ eC_X21_depth p (wpC p d) as w Q) → zoks as → ZMX l (KnC D) (ZC D) yX21_depth (Cond.code yX21_depth cX21_depth 6 (Option.some Jvm.ClassFile.FieldType.int)) (d + 1) D.lim as w Q := by
  intro as w Q h hok
  obtain ⟨hk, h⟩ := h
  unfold eC_X21_depth at h
  split at h
  · refine zx_body (by decide) (Or.inl ⟨rfl, rfl⟩) KnC.warm (Nat.le_of_ble_eq_true rfl) (fun Γ hΓ hQ G M => ?_)
    subst hΓ
    subst hQ
    exact zv_pick [0] rfl (cpC_X21_depth_0 hp G M S hl hk h)
  · exact h.elim
theorem gC_X21_find {d p : Nat} {D : CD} {l : Launch} (hp : D.K.1 = p) (hl : l.stackTraces = false) (S : SdC d D p l) : ∀ (as : List ZA) (w : CW) (Q : ZRes → CW → Prop), (0 ≤ d ∧ eC_X21_find p (wpC p d) as w Q) → zoks as → ZMX l (KnC D) (ZC D) yX21_find (Cond.code yX21_find cX21_find 4 (Option.some (Jvm.ClassFile.FieldType.object "LetterPost$Node"))) (d + 1) D.lim as w Q := by
  intro as w Q h hok
  obtain ⟨hk, h⟩ := h
  unfold eC_X21_find at h
  split at h
  · refine zx_body (by decide) (Or.inl ⟨rfl, rfl⟩) KnC.warm (Nat.le_of_ble_eq_true rfl) (fun Γ hΓ hQ G M => ?_)
    subst hΓ
    subst hQ
    exact zv_pick [0, 1] rfl (cpC_X21_find_0 hp G M S hl hk (hok _ (List.mem_cons_of_mem _ (List.mem_cons_self))) h)
  · exact h.elim
theorem gC_X21_what {d p : Nat} {D : CD} {l : Launch} (hp : D.K.1 = p) (hl : l.stackTraces = false) (S : SdC d D p l) : ∀ (as : List ZA) (w : CW) (Q : ZRes → CW → Prop), (0 ≤ d ∧ eC_X21_what p (wpC p d) as w Q) → zoks as → ZMX l (KnC D) (ZC D) yX21_what (Cond.code yX21_what cX21_what 1 (Option.some Jvm.ClassFile.FieldType.int)) (d + 1) D.lim as w Q := by
  intro as w Q h hok
  obtain ⟨hk, h⟩ := h
  unfold eC_X21_what at h
  split at h
  · refine zx_body (by decide) (Or.inl ⟨rfl, rfl⟩) KnC.warm (Nat.le_of_ble_eq_true rfl) (fun Γ hΓ hQ G M => ?_)
    subst hΓ
    subst hQ
    exact zv_pick [] rfl (cpC_X21_what_0 hp G M S hl hk h)
  · exact h.elim
theorem gC_X21_rule {d p : Nat} {D : CD} {l : Launch} (hp : D.K.1 = p) (hl : l.stackTraces = false) (S : SdC d D p l) : ∀ (as : List ZA) (w : CW) (Q : ZRes → CW → Prop), (0 ≤ d ∧ eC_X21_rule p (wpC p d) as w Q) → zoks as → ZMX l (KnC D) (ZC D) yX21_rule (Cond.code yX21_rule cX21_rule 1 (Option.some (Jvm.ClassFile.FieldType.object "LetterPost$Rule"))) (d + 1) D.lim as w Q := by
  intro as w Q h hok
  obtain ⟨hk, h⟩ := h
  unfold eC_X21_rule at h
  split at h
  · refine zx_body (by decide) (Or.inl ⟨rfl, rfl⟩) KnC.warm (Nat.le_of_ble_eq_true rfl) (fun Γ hΓ hQ G M => ?_)
    subst hΓ
    subst hQ
    exact zv_pick [] rfl (cpC_X21_rule_0 hp G M S hl hk h)
  · exact h.elim
theorem gC_X21_place {d p : Nat} {D : CD} {l : Launch} (hp : D.K.1 = p) (hl : l.stackTraces = false) (S : SdC d D p l) : ∀ (as : List ZA) (w : CW) (Q : ZRes → CW → Prop), (0 ≤ d ∧ eC_X21_place p (wpC p d) as w Q) → zoks as → ZMX l (KnC D) (ZC D) yX21_place (Cond.code yX21_place cX21_place 1 (Option.some (Jvm.ClassFile.FieldType.object "LetterPost$Place"))) (d + 1) D.lim as w Q := by
  intro as w Q h hok
  obtain ⟨hk, h⟩ := h
  unfold eC_X21_place at h
  split at h
  · refine zx_body (by decide) (Or.inl ⟨rfl, rfl⟩) KnC.warm (Nat.le_of_ble_eq_true rfl) (fun Γ hΓ hQ G M => ?_)
    subst hΓ
    subst hQ
    exact zv_pick [] rfl (cpC_X21_place_0 hp G M S hl hk h)
  · exact h.elim
theorem gC_X21_has {d p : Nat} {D : CD} {l : Launch} (hp : D.K.1 = p) (hl : l.stackTraces = false) (S : SdC d D p l) : ∀ (as : List ZA) (w : CW) (Q : ZRes → CW → Prop), (0 ≤ d ∧ eC_X21_has p (wpC p d) as w Q) → zoks as → ZMX l (KnC D) (ZC D) yX21_has (Cond.code yX21_has cX21_has 4 (Option.some Jvm.ClassFile.FieldType.boolean)) (d + 1) D.lim as w Q := by
  intro as w Q h hok
  obtain ⟨hk, h⟩ := h
  unfold eC_X21_has at h
  split at h
  · refine zx_body (by decide) (Or.inl ⟨rfl, rfl⟩) KnC.warm (Nat.le_of_ble_eq_true rfl) (fun Γ hΓ hQ G M => ?_)
    subst hΓ
    subst hQ
    exact zv_pick [0, 1] rfl (cpC_X21_has_0 hp G M S hl hk h)
  · exact h.elim
theorem gC_X21_go {d p : Nat} {D : CD} {l : Launch} (hp : D.K.1 = p) (hl : l.stackTraces = false) (S : SdC d D p l) : ∀ (as : List ZA) (w : CW) (Q : ZRes → CW → Prop), (0 ≤ d ∧ eC_X21_go p (wpC p d) as w Q) → zoks as → ZMX l (KnC D) (ZC D) yX21_go (Cond.code yX21_go cX21_go 2 (Option.some (Jvm.ClassFile.FieldType.object "LetterPost$Node"))) (d + 1) D.lim as w Q := by
  intro as w Q h hok
  obtain ⟨hk, h⟩ := h
  unfold eC_X21_go at h
  split at h
  · refine zx_body (by decide) (Or.inl ⟨rfl, rfl⟩) KnC.warm (Nat.le_of_ble_eq_true rfl) (fun Γ hΓ hQ G M => ?_)
    subst hΓ
    subst hQ
    exact zv_pick [] rfl (cpC_X21_go_0 hp G M S hl hk h)
  · exact h.elim
theorem gC_X22_init {d p : Nat} {D : CD} {l : Launch} (hp : D.K.1 = p) (hl : l.stackTraces = false) (S : SdC d D p l) : ∀ (as : List ZA) (w : CW) (Q : ZRes → CW → Prop), (0 ≤ d ∧ eC_X22_init p (wpC p d) as w Q) → zoks as → ZMX l (KnC D) (ZC D) yX22_init (Cond.code yX22_init cX22_init 2 (Option.none : Option Jvm.ClassFile.FieldType)) (d + 1) D.lim as w Q := by
  intro as w Q h hok
  obtain ⟨hk, h⟩ := h
  unfold eC_X22_init at h
  split at h
  · refine zx_body (by decide) (Or.inl ⟨rfl, rfl⟩) KnC.warm (Nat.le_of_ble_eq_true rfl) (fun Γ hΓ hQ G M => ?_)
    subst hΓ
    subst hQ
    exact zv_pick [0, 1] rfl (cpC_X22_init_0 hp G M S hl hk (hok _ (List.mem_cons_of_mem _ (List.mem_cons_self))) h)
  · exact h.elim
theorem gC_X23_init {d p : Nat} {D : CD} {l : Launch} (hp : D.K.1 = p) (hl : l.stackTraces = false) (S : SdC d D p l) : ∀ (as : List ZA) (w : CW) (Q : ZRes → CW → Prop), (0 ≤ d ∧ eC_X23_init p (wpC p d) as w Q) → zoks as → ZMX l (KnC D) (ZC D) yX23_init (Cond.code yX23_init cX23_init 3 (Option.none : Option Jvm.ClassFile.FieldType)) (d + 1) D.lim as w Q := by
  intro as w Q h hok
  obtain ⟨hk, h⟩ := h
  unfold eC_X23_init at h
  split at h
  · refine zx_body (by decide) (Or.inl ⟨rfl, rfl⟩) KnC.warm (Nat.le_of_ble_eq_true rfl) (fun Γ hΓ hQ G M => ?_)
    subst hΓ
    subst hQ
    exact zv_pick [0, 1, 2] rfl (cpC_X23_init_0 hp G M S hl hk (hok _ (List.mem_cons_of_mem _ (List.mem_cons_self))) h)
  · exact h.elim
theorem gC_X23_what {d p : Nat} {D : CD} {l : Launch} (hp : D.K.1 = p) (hl : l.stackTraces = false) (S : SdC d D p l) : ∀ (as : List ZA) (w : CW) (Q : ZRes → CW → Prop), (0 ≤ d ∧ eC_X23_what p (wpC p d) as w Q) → zoks as → ZMX l (KnC D) (ZC D) yX23_what (Cond.code yX23_what cX23_what 1 (Option.some Jvm.ClassFile.FieldType.int)) (d + 1) D.lim as w Q := by
  intro as w Q h hok
  obtain ⟨hk, h⟩ := h
  unfold eC_X23_what at h
  split at h
  · refine zx_body (by decide) (Or.inl ⟨rfl, rfl⟩) KnC.warm (Nat.le_of_ble_eq_true rfl) (fun Γ hΓ hQ G M => ?_)
    subst hΓ
    subst hQ
    exact zv_pick [] rfl (cpC_X23_what_0 hp G M S hl hk h)
  · exact h.elim
theorem gC_X23_rule {d p : Nat} {D : CD} {l : Launch} (hp : D.K.1 = p) (hl : l.stackTraces = false) (S : SdC d D p l) : ∀ (as : List ZA) (w : CW) (Q : ZRes → CW → Prop), (0 ≤ d ∧ eC_X23_rule p (wpC p d) as w Q) → zoks as → ZMX l (KnC D) (ZC D) yX23_rule (Cond.code yX23_rule cX23_rule 1 (Option.some (Jvm.ClassFile.FieldType.object "LetterPost$Rule"))) (d + 1) D.lim as w Q := by
  intro as w Q h hok
  obtain ⟨hk, h⟩ := h
  unfold eC_X23_rule at h
  split at h
  · refine zx_body (by decide) (Or.inl ⟨rfl, rfl⟩) KnC.warm (Nat.le_of_ble_eq_true rfl) (fun Γ hΓ hQ G M => ?_)
    subst hΓ
    subst hQ
    exact zv_pick [0] rfl (cpC_X23_rule_0 hp G M S hl hk h)
  · exact h.elim
theorem gC_X23_binds {d p : Nat} {D : CD} {l : Launch} (hp : D.K.1 = p) (hl : l.stackTraces = false) (S : SdC d D p l) : ∀ (as : List ZA) (w : CW) (Q : ZRes → CW → Prop), (0 ≤ d ∧ eC_X23_binds p (wpC p d) as w Q) → zoks as → ZMX l (KnC D) (ZC D) yX23_binds (Cond.code yX23_binds cX23_binds 4 (Option.none : Option Jvm.ClassFile.FieldType)) (d + 1) D.lim as w Q := by
  intro as w Q h hok
  obtain ⟨hk, h⟩ := h
  unfold eC_X23_binds at h
  split at h
  · refine zx_body (by decide) (Or.inl ⟨rfl, rfl⟩) KnC.warm (Nat.le_of_ble_eq_true rfl) (fun Γ hΓ hQ G M => ?_)
    subst hΓ
    subst hQ
    exact zv_pick [0, 1, 2] rfl (cpC_X23_binds_0 hp G M S hl hk h)
  · exact h.elim
theorem gC_X24_init {d p : Nat} {D : CD} {l : Launch} (hp : D.K.1 = p) (hl : l.stackTraces = false) (S : SdC d D p l) : ∀ (as : List ZA) (w : CW) (Q : ZRes → CW → Prop), (0 ≤ d ∧ eC_X24_init p (wpC p d) as w Q) → zoks as → ZMX l (KnC D) (ZC D) yX24_init (Cond.code yX24_init cX24_init 3 (Option.none : Option Jvm.ClassFile.FieldType)) (d + 1) D.lim as w Q := by
  intro as w Q h hok
  obtain ⟨hk, h⟩ := h
  unfold eC_X24_init at h
  split at h
  · refine zx_body (by decide) (Or.inl ⟨rfl, rfl⟩) KnC.warm (Nat.le_of_ble_eq_true rfl) (fun Γ hΓ hQ G M => ?_)
    subst hΓ
    subst hQ
    exact zv_pick [0, 1, 2] rfl (cpC_X24_init_0 hp G M S hl hk (hok _ (List.mem_cons_of_mem _ (List.mem_cons_self))) h)
  · exact h.elim
theorem gC_X24_what {d p : Nat} {D : CD} {l : Launch} (hp : D.K.1 = p) (hl : l.stackTraces = false) (S : SdC d D p l) : ∀ (as : List ZA) (w : CW) (Q : ZRes → CW → Prop), (0 ≤ d ∧ eC_X24_what p (wpC p d) as w Q) → zoks as → ZMX l (KnC D) (ZC D) yX24_what (Cond.code yX24_what cX24_what 1 (Option.some Jvm.ClassFile.FieldType.int)) (d + 1) D.lim as w Q := by
  intro as w Q h hok
  obtain ⟨hk, h⟩ := h
  unfold eC_X24_what at h
  split at h
  · refine zx_body (by decide) (Or.inl ⟨rfl, rfl⟩) KnC.warm (Nat.le_of_ble_eq_true rfl) (fun Γ hΓ hQ G M => ?_)
    subst hΓ
    subst hQ
    exact zv_pick [] rfl (cpC_X24_what_0 hp G M S hl hk h)
  · exact h.elim
theorem gC_X24_go {d p : Nat} {D : CD} {l : Launch} (hp : D.K.1 = p) (hl : l.stackTraces = false) (S : SdC d D p l) : ∀ (as : List ZA) (w : CW) (Q : ZRes → CW → Prop), (0 ≤ d ∧ eC_X24_go p (wpC p d) as w Q) → zoks as → ZMX l (KnC D) (ZC D) yX24_go (Cond.code yX24_go cX24_go 2 (Option.some (Jvm.ClassFile.FieldType.object "LetterPost$Node"))) (d + 1) D.lim as w Q := by
  intro as w Q h hok
  obtain ⟨hk, h⟩ := h
  unfold eC_X24_go at h
  split at h
  · refine zx_body (by decide) (Or.inl ⟨rfl, rfl⟩) KnC.warm (Nat.le_of_ble_eq_true rfl) (fun Γ hΓ hQ G M => ?_)
    subst hΓ
    subst hQ
    exact zv_pick [0] rfl (cpC_X24_go_0 hp G M S hl hk h)
  · exact h.elim
theorem gC_X25_init {d p : Nat} {D : CD} {l : Launch} (hp : D.K.1 = p) (hl : l.stackTraces = false) (S : SdC d D p l) : ∀ (as : List ZA) (w : CW) (Q : ZRes → CW → Prop), (0 ≤ d ∧ eC_X25_init p (wpC p d) as w Q) → zoks as → ZMX l (KnC D) (ZC D) yX25_init (Cond.code yX25_init cX25_init 3 (Option.none : Option Jvm.ClassFile.FieldType)) (d + 1) D.lim as w Q := by
  intro as w Q h hok
  obtain ⟨hk, h⟩ := h
  unfold eC_X25_init at h
  split at h
  · refine zx_body (by decide) (Or.inl ⟨rfl, rfl⟩) KnC.warm (Nat.le_of_ble_eq_true rfl) (fun Γ hΓ hQ G M => ?_)
    subst hΓ
    subst hQ
    exact zv_pick [0, 1, 2] rfl (cpC_X25_init_0 hp G M S hl hk (hok _ (List.mem_cons_of_mem _ (List.mem_cons_self))) h)
  · exact h.elim
theorem gC_X25_place {d p : Nat} {D : CD} {l : Launch} (hp : D.K.1 = p) (hl : l.stackTraces = false) (S : SdC d D p l) : ∀ (as : List ZA) (w : CW) (Q : ZRes → CW → Prop), (0 ≤ d ∧ eC_X25_place p (wpC p d) as w Q) → zoks as → ZMX l (KnC D) (ZC D) yX25_place (Cond.code yX25_place cX25_place 1 (Option.some (Jvm.ClassFile.FieldType.object "LetterPost$Place"))) (d + 1) D.lim as w Q := by
  intro as w Q h hok
  obtain ⟨hk, h⟩ := h
  unfold eC_X25_place at h
  split at h
  · refine zx_body (by decide) (Or.inl ⟨rfl, rfl⟩) KnC.warm (Nat.le_of_ble_eq_true rfl) (fun Γ hΓ hQ G M => ?_)
    subst hΓ
    subst hQ
    exact zv_pick [0] rfl (cpC_X25_place_0 hp G M S hl hk h)
  · exact h.elim
theorem gC_X26_init {d p : Nat} {D : CD} {l : Launch} (hp : D.K.1 = p) (hl : l.stackTraces = false) (S : SdC d D p l) : ∀ (as : List ZA) (w : CW) (Q : ZRes → CW → Prop), (0 ≤ d ∧ eC_X26_init p (wpC p d) as w Q) → zoks as → ZMX l (KnC D) (ZC D) yX26_init (Cond.code yX26_init cX26_init 4 (Option.none : Option Jvm.ClassFile.FieldType)) (d + 1) D.lim as w Q := by
  intro as w Q h hok
  obtain ⟨hk, h⟩ := h
  unfold eC_X26_init at h
  split at h
  · refine zx_body (by decide) (Or.inl ⟨rfl, rfl⟩) KnC.warm (Nat.le_of_ble_eq_true rfl) (fun Γ hΓ hQ G M => ?_)
    subst hΓ
    subst hQ
    exact zv_pick [0, 1, 2, 3] rfl (cpC_X26_init_0 hp G M S hl hk (hok _ (List.mem_cons_of_mem _ (List.mem_cons_self))) h)
  · exact h.elim
theorem gC_X26_what {d p : Nat} {D : CD} {l : Launch} (hp : D.K.1 = p) (hl : l.stackTraces = false) (S : SdC d D p l) : ∀ (as : List ZA) (w : CW) (Q : ZRes → CW → Prop), (0 ≤ d ∧ eC_X26_what p (wpC p d) as w Q) → zoks as → ZMX l (KnC D) (ZC D) yX26_what (Cond.code yX26_what cX26_what 1 (Option.some Jvm.ClassFile.FieldType.int)) (d + 1) D.lim as w Q := by
  intro as w Q h hok
  obtain ⟨hk, h⟩ := h
  unfold eC_X26_what at h
  split at h
  · refine zx_body (by decide) (Or.inl ⟨rfl, rfl⟩) KnC.warm (Nat.le_of_ble_eq_true rfl) (fun Γ hΓ hQ G M => ?_)
    subst hΓ
    subst hQ
    exact zv_pick [] rfl (cpC_X26_what_0 hp G M S hl hk h)
  · exact h.elim
theorem gC_X26_go {d p : Nat} {D : CD} {l : Launch} (hp : D.K.1 = p) (hl : l.stackTraces = false) (S : SdC d D p l) : ∀ (as : List ZA) (w : CW) (Q : ZRes → CW → Prop), (0 ≤ d ∧ eC_X26_go p (wpC p d) as w Q) → zoks as → ZMX l (KnC D) (ZC D) yX26_go (Cond.code yX26_go cX26_go 4 (Option.some (Jvm.ClassFile.FieldType.object "LetterPost$Node"))) (d + 1) D.lim as w Q := by
  intro as w Q h hok
  obtain ⟨hk, h⟩ := h
  unfold eC_X26_go at h
  split at h
  · refine zx_body (by decide) (Or.inl ⟨rfl, rfl⟩) KnC.warm (Nat.le_of_ble_eq_true rfl) (fun Γ hΓ hQ G M => ?_)
    subst hΓ
    subst hQ
    exact zv_pick [0, 1] rfl (cpC_X26_go_0 hp G M S hl hk h)
  · exact h.elim
theorem gC_X27_init {d p : Nat} {D : CD} {l : Launch} (hp : D.K.1 = p) (hl : l.stackTraces = false) (S : SdC d D p l) : ∀ (as : List ZA) (w : CW) (Q : ZRes → CW → Prop), (0 ≤ d ∧ eC_X27_init p (wpC p d) as w Q) → zoks as → ZMX l (KnC D) (ZC D) yX27_init (Cond.code yX27_init cX27_init 3 (Option.none : Option Jvm.ClassFile.FieldType)) (d + 1) D.lim as w Q := by
  intro as w Q h hok
  obtain ⟨hk, h⟩ := h
  unfold eC_X27_init at h
  split at h
  · refine zx_body (by decide) (Or.inl ⟨rfl, rfl⟩) KnC.warm (Nat.le_of_ble_eq_true rfl) (fun Γ hΓ hQ G M => ?_)
    subst hΓ
    subst hQ
    exact zv_pick [0, 1, 2] rfl (cpC_X27_init_0 hp G M S hl hk (hok _ (List.mem_cons_of_mem _ (List.mem_cons_self))) h)
  · exact h.elim
theorem gC_X27_what {d p : Nat} {D : CD} {l : Launch} (hp : D.K.1 = p) (hl : l.stackTraces = false) (S : SdC d D p l) : ∀ (as : List ZA) (w : CW) (Q : ZRes → CW → Prop), (0 ≤ d ∧ eC_X27_what p (wpC p d) as w Q) → zoks as → ZMX l (KnC D) (ZC D) yX27_what (Cond.code yX27_what cX27_what 1 (Option.some Jvm.ClassFile.FieldType.int)) (d + 1) D.lim as w Q := by
  intro as w Q h hok
  obtain ⟨hk, h⟩ := h
  unfold eC_X27_what at h
  split at h
  · refine zx_body (by decide) (Or.inl ⟨rfl, rfl⟩) KnC.warm (Nat.le_of_ble_eq_true rfl) (fun Γ hΓ hQ G M => ?_)
    subst hΓ
    subst hQ
    exact zv_pick [] rfl (cpC_X27_what_0 hp G M S hl hk h)
  · exact h.elim
theorem gC_X27_go {d p : Nat} {D : CD} {l : Launch} (hp : D.K.1 = p) (hl : l.stackTraces = false) (S : SdC d D p l) : ∀ (as : List ZA) (w : CW) (Q : ZRes → CW → Prop), (0 ≤ d ∧ eC_X27_go p (wpC p d) as w Q) → zoks as → ZMX l (KnC D) (ZC D) yX27_go (Cond.code yX27_go cX27_go 2 (Option.some (Jvm.ClassFile.FieldType.object "LetterPost$Node"))) (d + 1) D.lim as w Q := by
  intro as w Q h hok
  obtain ⟨hk, h⟩ := h
  unfold eC_X27_go at h
  split at h
  · refine zx_body (by decide) (Or.inl ⟨rfl, rfl⟩) KnC.warm (Nat.le_of_ble_eq_true rfl) (fun Γ hΓ hQ G M => ?_)
    subst hΓ
    subst hQ
    exact zv_pick [0, 1] rfl (cpC_X27_go_0 hp G M S hl hk h)
  · exact h.elim
theorem gC_X28_init {d p : Nat} {D : CD} {l : Launch} (hp : D.K.1 = p) (hl : l.stackTraces = false) (S : SdC d D p l) : ∀ (as : List ZA) (w : CW) (Q : ZRes → CW → Prop), (0 ≤ d ∧ eC_X28_init p (wpC p d) as w Q) → zoks as → ZMX l (KnC D) (ZC D) yX28_init (Cond.code yX28_init cX28_init 4 (Option.none : Option Jvm.ClassFile.FieldType)) (d + 1) D.lim as w Q := by
  intro as w Q h hok
  obtain ⟨hk, h⟩ := h
  unfold eC_X28_init at h
  split at h
  · refine zx_body (by decide) (Or.inl ⟨rfl, rfl⟩) KnC.warm (Nat.le_of_ble_eq_true rfl) (fun Γ hΓ hQ G M => ?_)
    subst hΓ
    subst hQ
    exact zv_pick [0, 1, 2, 3] rfl (cpC_X28_init_0 hp G M S hl hk (hok _ (List.mem_cons_of_mem _ (List.mem_cons_self))) h)
  · exact h.elim
theorem gC_X28_what {d p : Nat} {D : CD} {l : Launch} (hp : D.K.1 = p) (hl : l.stackTraces = false) (S : SdC d D p l) : ∀ (as : List ZA) (w : CW) (Q : ZRes → CW → Prop), (0 ≤ d ∧ eC_X28_what p (wpC p d) as w Q) → zoks as → ZMX l (KnC D) (ZC D) yX28_what (Cond.code yX28_what cX28_what 1 (Option.some Jvm.ClassFile.FieldType.int)) (d + 1) D.lim as w Q := by
  intro as w Q h hok
  obtain ⟨hk, h⟩ := h
  unfold eC_X28_what at h
  split at h
  · refine zx_body (by decide) (Or.inl ⟨rfl, rfl⟩) KnC.warm (Nat.le_of_ble_eq_true rfl) (fun Γ hΓ hQ G M => ?_)
    subst hΓ
    subst hQ
    exact zv_pick [] rfl (cpC_X28_what_0 hp G M S hl hk h)
  · exact h.elim
theorem gC_X28_go {d p : Nat} {D : CD} {l : Launch} (hp : D.K.1 = p) (hl : l.stackTraces = false) (S : SdC d D p l) : ∀ (as : List ZA) (w : CW) (Q : ZRes → CW → Prop), (0 ≤ d ∧ eC_X28_go p (wpC p d) as w Q) → zoks as → ZMX l (KnC D) (ZC D) yX28_go (Cond.code yX28_go cX28_go 5 (Option.some (Jvm.ClassFile.FieldType.object "LetterPost$Node"))) (d + 1) D.lim as w Q := by
  intro as w Q h hok
  obtain ⟨hk, h⟩ := h
  unfold eC_X28_go at h
  split at h
  · refine zx_body (by decide) (Or.inl ⟨rfl, rfl⟩) KnC.warm (Nat.le_of_ble_eq_true rfl) (fun Γ hΓ hQ G M => ?_)
    subst hΓ
    subst hQ
    exact zv_pick [0, 1] rfl (cpC_X28_go_0 hp G M S hl hk h)
  · exact h.elim
theorem gC_X29_init {d p : Nat} {D : CD} {l : Launch} (hp : D.K.1 = p) (hl : l.stackTraces = false) (S : SdC d D p l) : ∀ (as : List ZA) (w : CW) (Q : ZRes → CW → Prop), (0 ≤ d ∧ eC_X29_init p (wpC p d) as w Q) → zoks as → ZMX l (KnC D) (ZC D) yX29_init (Cond.code yX29_init cX29_init 4 (Option.none : Option Jvm.ClassFile.FieldType)) (d + 1) D.lim as w Q := by
  intro as w Q h hok
  obtain ⟨hk, h⟩ := h
  unfold eC_X29_init at h
  split at h
  · refine zx_body (by decide) (Or.inl ⟨rfl, rfl⟩) KnC.warm (Nat.le_of_ble_eq_true rfl) (fun Γ hΓ hQ G M => ?_)
    subst hΓ
    subst hQ
    exact zv_pick [0, 1, 2, 3] rfl (cpC_X29_init_0 hp G M S hl hk (hok _ (List.mem_cons_of_mem _ (List.mem_cons_self))) h)
  · exact h.elim
theorem gC_X29_what {d p : Nat} {D : CD} {l : Launch} (hp : D.K.1 = p) (hl : l.stackTraces = false) (S : SdC d D p l) : ∀ (as : List ZA) (w : CW) (Q : ZRes → CW → Prop), (0 ≤ d ∧ eC_X29_what p (wpC p d) as w Q) → zoks as → ZMX l (KnC D) (ZC D) yX29_what (Cond.code yX29_what cX29_what 1 (Option.some Jvm.ClassFile.FieldType.int)) (d + 1) D.lim as w Q := by
  intro as w Q h hok
  obtain ⟨hk, h⟩ := h
  unfold eC_X29_what at h
  split at h
  · refine zx_body (by decide) (Or.inl ⟨rfl, rfl⟩) KnC.warm (Nat.le_of_ble_eq_true rfl) (fun Γ hΓ hQ G M => ?_)
    subst hΓ
    subst hQ
    exact zv_pick [] rfl (cpC_X29_what_0 hp G M S hl hk h)
  · exact h.elim
theorem gC_X29_go {d p : Nat} {D : CD} {l : Launch} (hp : D.K.1 = p) (hl : l.stackTraces = false) (S : SdC d D p l) : ∀ (as : List ZA) (w : CW) (Q : ZRes → CW → Prop), (0 ≤ d ∧ eC_X29_go p (wpC p d) as w Q) → zoks as → ZMX l (KnC D) (ZC D) yX29_go (Cond.code yX29_go cX29_go 4 (Option.some (Jvm.ClassFile.FieldType.object "LetterPost$Node"))) (d + 1) D.lim as w Q := by
  intro as w Q h hok
  obtain ⟨hk, h⟩ := h
  unfold eC_X29_go at h
  split at h
  · refine zx_body (by decide) (Or.inl ⟨rfl, rfl⟩) KnC.warm (Nat.le_of_ble_eq_true rfl) (fun Γ hΓ hQ G M => ?_)
    subst hΓ
    subst hQ
    exact zv_pick [0, 1] rfl (cpC_X29_go_0 hp G M S hl hk h)
  · exact h.elim
theorem gC_X30_init {d p : Nat} {D : CD} {l : Launch} (hp : D.K.1 = p) (hl : l.stackTraces = false) (S : SdC d D p l) : ∀ (as : List ZA) (w : CW) (Q : ZRes → CW → Prop), (0 ≤ d ∧ eC_X30_init p (wpC p d) as w Q) → zoks as → ZMX l (KnC D) (ZC D) yX30_init (Cond.code yX30_init cX30_init 3 (Option.none : Option Jvm.ClassFile.FieldType)) (d + 1) D.lim as w Q := by
  intro as w Q h hok
  obtain ⟨hk, h⟩ := h
  unfold eC_X30_init at h
  split at h
  · refine zx_body (by decide) (Or.inl ⟨rfl, rfl⟩) KnC.warm (Nat.le_of_ble_eq_true rfl) (fun Γ hΓ hQ G M => ?_)
    subst hΓ
    subst hQ
    exact zv_pick [0, 1, 2] rfl (cpC_X30_init_0 hp G M S hl hk (hok _ (List.mem_cons_of_mem _ (List.mem_cons_self))) (hok _ (List.mem_cons_of_mem _ (List.mem_cons_of_mem _ (List.mem_cons_self)))) h)
  · exact h.elim
theorem gC_X30_kind {d p : Nat} {D : CD} {l : Launch} (hp : D.K.1 = p) (hl : l.stackTraces = false) (S : SdC d D p l) : ∀ (as : List ZA) (w : CW) (Q : ZRes → CW → Prop), (0 ≤ d ∧ eC_X30_kind p (wpC p d) as w Q) → zoks as → ZMX l (KnC D) (ZC D) yX30_kind (Cond.code yX30_kind cX30_kind 1 (Option.some (Jvm.ClassFile.FieldType.object "LetterPost$Kind"))) (d + 1) D.lim as w Q := by
  intro as w Q h hok
  obtain ⟨hk, h⟩ := h
  unfold eC_X30_kind at h
  split at h
  · refine zx_body (by decide) (Or.inl ⟨rfl, rfl⟩) KnC.warm (Nat.le_of_ble_eq_true rfl) (fun Γ hΓ hQ G M => ?_)
    subst hΓ
    subst hQ
    exact zv_pick [] rfl (cpC_X30_kind_0 hp G M S hl hk h)
  · exact h.elim
theorem gC_X30_told {d p : Nat} {D : CD} {l : Launch} (hp : D.K.1 = p) (hl : l.stackTraces = false) (S : SdC d D p l) : ∀ (as : List ZA) (w : CW) (Q : ZRes → CW → Prop), (0 ≤ d ∧ eC_X30_told p (wpC p d) as w Q) → zoks as → ZMX l (KnC D) (ZC D) yX30_told (Cond.code yX30_told cX30_told 1 (Option.some Jvm.ClassFile.FieldType.int)) (d + 1) D.lim as w Q := by
  intro as w Q h hok
  obtain ⟨hk, h⟩ := h
  unfold eC_X30_told at h
  split at h
  · refine zx_body (by decide) (Or.inl ⟨rfl, rfl⟩) KnC.warm (Nat.le_of_ble_eq_true rfl) (fun Γ hΓ hQ G M => ?_)
    subst hΓ
    subst hQ
    exact zv_pick [] rfl (cpC_X30_told_0 hp G M S hl hk h)
  · exact h.elim
theorem gC_X31_init {d p : Nat} {D : CD} {l : Launch} (hp : D.K.1 = p) (hl : l.stackTraces = false) (S : SdC d D p l) : ∀ (as : List ZA) (w : CW) (Q : ZRes → CW → Prop), (0 ≤ d ∧ eC_X31_init p (wpC p d) as w Q) → zoks as → ZMX l (KnC D) (ZC D) yX31_init (Cond.code yX31_init cX31_init 3 (Option.none : Option Jvm.ClassFile.FieldType)) (d + 1) D.lim as w Q := by
  intro as w Q h hok
  obtain ⟨hk, h⟩ := h
  unfold eC_X31_init at h
  split at h
  · refine zx_body (by decide) (Or.inl ⟨rfl, rfl⟩) KnC.warm (Nat.le_of_ble_eq_true rfl) (fun Γ hΓ hQ G M => ?_)
    subst hΓ
    subst hQ
    exact zv_pick [0, 1, 2] rfl (cpC_X31_init_0 hp G M S hl hk (hok _ (List.mem_cons_of_mem _ (List.mem_cons_self))) (hok _ (List.mem_cons_of_mem _ (List.mem_cons_of_mem _ (List.mem_cons_self)))) h)
  · exact h.elim
theorem gC_X31_what {d p : Nat} {D : CD} {l : Launch} (hp : D.K.1 = p) (hl : l.stackTraces = false) (S : SdC d D p l) : ∀ (as : List ZA) (w : CW) (Q : ZRes → CW → Prop), (0 ≤ d ∧ eC_X31_what p (wpC p d) as w Q) → zoks as → ZMX l (KnC D) (ZC D) yX31_what (Cond.code yX31_what cX31_what 1 (Option.some Jvm.ClassFile.FieldType.int)) (d + 1) D.lim as w Q := by
  intro as w Q h hok
  obtain ⟨hk, h⟩ := h
  unfold eC_X31_what at h
  split at h
  · refine zx_body (by decide) (Or.inl ⟨rfl, rfl⟩) KnC.warm (Nat.le_of_ble_eq_true rfl) (fun Γ hΓ hQ G M => ?_)
    subst hΓ
    subst hQ
    exact zv_pick [] rfl (cpC_X31_what_0 hp G M S hl hk h)
  · exact h.elim
theorem gC_X31_told {d p : Nat} {D : CD} {l : Launch} (hp : D.K.1 = p) (hl : l.stackTraces = false) (S : SdC d D p l) : ∀ (as : List ZA) (w : CW) (Q : ZRes → CW → Prop), (0 ≤ d ∧ eC_X31_told p (wpC p d) as w Q) → zoks as → ZMX l (KnC D) (ZC D) yX31_told (Cond.code yX31_told cX31_told 1 (Option.some Jvm.ClassFile.FieldType.int)) (d + 1) D.lim as w Q := by
  intro as w Q h hok
  obtain ⟨hk, h⟩ := h
  unfold eC_X31_told at h
  split at h
  · refine zx_body (by decide) (Or.inl ⟨rfl, rfl⟩) KnC.warm (Nat.le_of_ble_eq_true rfl) (fun Γ hΓ hQ G M => ?_)
    subst hΓ
    subst hQ
    exact zv_pick [0] rfl (cpC_X31_told_0 hp G M S hl hk h)
  · exact h.elim
theorem gC_X31_isLike {d p : Nat} {D : CD} {l : Launch} (hp : D.K.1 = p) (hl : l.stackTraces = false) (S : SdC d D p l) : ∀ (as : List ZA) (w : CW) (Q : ZRes → CW → Prop), (0 ≤ d ∧ eC_X31_isLike p (wpC p d) as w Q) → zoks as → ZMX l (KnC D) (ZC D) yX31_isLike (Cond.code yX31_isLike cX31_isLike 2 (Option.some Jvm.ClassFile.FieldType.boolean)) (d + 1) D.lim as w Q := by
  intro as w Q h hok
  obtain ⟨hk, h⟩ := h
  unfold eC_X31_isLike at h
  split at h
  · refine zx_body (by decide) (Or.inl ⟨rfl, rfl⟩) KnC.warm (Nat.le_of_ble_eq_true rfl) (fun Γ hΓ hQ G M => ?_)
    subst hΓ
    subst hQ
    exact zv_pick [0, 1] rfl (cpC_X31_isLike_0 hp G M S hl hk h)
  · exact h.elim
theorem gC_X32_init {d p : Nat} {D : CD} {l : Launch} (hp : D.K.1 = p) (hl : l.stackTraces = false) (S : SdC d D p l) : ∀ (as : List ZA) (w : CW) (Q : ZRes → CW → Prop), (0 ≤ d ∧ eC_X32_init p (wpC p d) as w Q) → zoks as → ZMX l (KnC D) (ZC D) yX32_init (Cond.code yX32_init cX32_init 3 (Option.none : Option Jvm.ClassFile.FieldType)) (d + 1) D.lim as w Q := by
  intro as w Q h hok
  obtain ⟨hk, h⟩ := h
  unfold eC_X32_init at h
  split at h
  · refine zx_body (by decide) (Or.inl ⟨rfl, rfl⟩) KnC.warm (Nat.le_of_ble_eq_true rfl) (fun Γ hΓ hQ G M => ?_)
    subst hΓ
    subst hQ
    exact zv_pick [0, 1, 2] rfl (cpC_X32_init_0 hp G M S hl hk (hok _ (List.mem_cons_of_mem _ (List.mem_cons_self))) (hok _ (List.mem_cons_of_mem _ (List.mem_cons_of_mem _ (List.mem_cons_self)))) h)
  · exact h.elim
theorem gC_X32_what {d p : Nat} {D : CD} {l : Launch} (hp : D.K.1 = p) (hl : l.stackTraces = false) (S : SdC d D p l) : ∀ (as : List ZA) (w : CW) (Q : ZRes → CW → Prop), (0 ≤ d ∧ eC_X32_what p (wpC p d) as w Q) → zoks as → ZMX l (KnC D) (ZC D) yX32_what (Cond.code yX32_what cX32_what 1 (Option.some Jvm.ClassFile.FieldType.int)) (d + 1) D.lim as w Q := by
  intro as w Q h hok
  obtain ⟨hk, h⟩ := h
  unfold eC_X32_what at h
  split at h
  · refine zx_body (by decide) (Or.inl ⟨rfl, rfl⟩) KnC.warm (Nat.le_of_ble_eq_true rfl) (fun Γ hΓ hQ G M => ?_)
    subst hΓ
    subst hQ
    exact zv_pick [] rfl (cpC_X32_what_0 hp G M S hl hk h)
  · exact h.elim
theorem gC_X33_init {d p : Nat} {D : CD} {l : Launch} (hp : D.K.1 = p) (hl : l.stackTraces = false) (S : SdC d D p l) : ∀ (as : List ZA) (w : CW) (Q : ZRes → CW → Prop), (0 ≤ d ∧ eC_X33_init p (wpC p d) as w Q) → zoks as → ZMX l (KnC D) (ZC D) yX33_init (Cond.code yX33_init cX33_init 4 (Option.none : Option Jvm.ClassFile.FieldType)) (d + 1) D.lim as w Q := by
  intro as w Q h hok
  obtain ⟨hk, h⟩ := h
  unfold eC_X33_init at h
  split at h
  · refine zx_body (by decide) (Or.inl ⟨rfl, rfl⟩) KnC.warm (Nat.le_of_ble_eq_true rfl) (fun Γ hΓ hQ G M => ?_)
    subst hΓ
    subst hQ
    exact zv_pick [0, 1, 2] rfl (cpC_X33_init_0 hp G M S hl hk (hok _ (List.mem_cons_of_mem _ (List.mem_cons_self))) (hok _ (List.mem_cons_of_mem _ (List.mem_cons_of_mem _ (List.mem_cons_self)))) h)
  · exact h.elim
theorem gC_X33_what {d p : Nat} {D : CD} {l : Launch} (hp : D.K.1 = p) (hl : l.stackTraces = false) (S : SdC d D p l) : ∀ (as : List ZA) (w : CW) (Q : ZRes → CW → Prop), (0 ≤ d ∧ eC_X33_what p (wpC p d) as w Q) → zoks as → ZMX l (KnC D) (ZC D) yX33_what (Cond.code yX33_what cX33_what 1 (Option.some Jvm.ClassFile.FieldType.int)) (d + 1) D.lim as w Q := by
  intro as w Q h hok
  obtain ⟨hk, h⟩ := h
  unfold eC_X33_what at h
  split at h
  · refine zx_body (by decide) (Or.inl ⟨rfl, rfl⟩) KnC.warm (Nat.le_of_ble_eq_true rfl) (fun Γ hΓ hQ G M => ?_)
    subst hΓ
    subst hQ
    exact zv_pick [] rfl (cpC_X33_what_0 hp G M S hl hk h)
  · exact h.elim
theorem gC_X33_told {d p : Nat} {D : CD} {l : Launch} (hp : D.K.1 = p) (hl : l.stackTraces = false) (S : SdC d D p l) : ∀ (as : List ZA) (w : CW) (Q : ZRes → CW → Prop), (0 ≤ d ∧ eC_X33_told p (wpC p d) as w Q) → zoks as → ZMX l (KnC D) (ZC D) yX33_told (Cond.code yX33_told cX33_told 4 (Option.some Jvm.ClassFile.FieldType.int)) (d + 1) D.lim as w Q := by
  intro as w Q h hok
  obtain ⟨hk, h⟩ := h
  unfold eC_X33_told at h
  split at h
  · refine zx_body (by decide) (Or.inl ⟨rfl, rfl⟩) KnC.warm (Nat.le_of_ble_eq_true rfl) (fun Γ hΓ hQ G M => ?_)
    subst hΓ
    subst hQ
    exact zv_pick [0] rfl (cpC_X33_told_0 hp G M S hl hk h)
  · exact h.elim
theorem gC_X33_isLike {d p : Nat} {D : CD} {l : Launch} (hp : D.K.1 = p) (hl : l.stackTraces = false) (S : SdC d D p l) : ∀ (as : List ZA) (w : CW) (Q : ZRes → CW → Prop), (0 ≤ d ∧ eC_X33_isLike p (wpC p d) as w Q) → zoks as → ZMX l (KnC D) (ZC D) yX33_isLike (Cond.code yX33_isLike cX33_isLike 2 (Option.some Jvm.ClassFile.FieldType.boolean)) (d + 1) D.lim as w Q := by
  intro as w Q h hok
  obtain ⟨hk, h⟩ := h
  unfold eC_X33_isLike at h
  split at h
  · refine zx_body (by decide) (Or.inl ⟨rfl, rfl⟩) KnC.warm (Nat.le_of_ble_eq_true rfl) (fun Γ hΓ hQ G M => ?_)
    subst hΓ
    subst hQ
    exact zv_pick [0, 1] rfl (cpC_X33_isLike_0 hp G M S hl hk h)
  · exact h.elim
theorem gC_X34_init {d p : Nat} {D : CD} {l : Launch} (hp : D.K.1 = p) (hl : l.stackTraces = false) (S : SdC d D p l) : ∀ (as : List ZA) (w : CW) (Q : ZRes → CW → Prop), (0 ≤ d ∧ eC_X34_init p (wpC p d) as w Q) → zoks as → ZMX l (KnC D) (ZC D) yX34_init (Cond.code yX34_init cX34_init 3 (Option.none : Option Jvm.ClassFile.FieldType)) (d + 1) D.lim as w Q := by
  intro as w Q h hok
  obtain ⟨hk, h⟩ := h
  unfold eC_X34_init at h
  split at h
  · refine zx_body (by decide) (Or.inl ⟨rfl, rfl⟩) KnC.warm (Nat.le_of_ble_eq_true rfl) (fun Γ hΓ hQ G M => ?_)
    subst hΓ
    subst hQ
    exact zv_pick [0, 1, 2] rfl (cpC_X34_init_0 hp G M S hl hk (hok _ (List.mem_cons_of_mem _ (List.mem_cons_self))) (hok _ (List.mem_cons_of_mem _ (List.mem_cons_of_mem _ (List.mem_cons_self)))) h)
  · exact h.elim
theorem gC_X34_what {d p : Nat} {D : CD} {l : Launch} (hp : D.K.1 = p) (hl : l.stackTraces = false) (S : SdC d D p l) : ∀ (as : List ZA) (w : CW) (Q : ZRes → CW → Prop), (0 ≤ d ∧ eC_X34_what p (wpC p d) as w Q) → zoks as → ZMX l (KnC D) (ZC D) yX34_what (Cond.code yX34_what cX34_what 1 (Option.some Jvm.ClassFile.FieldType.int)) (d + 1) D.lim as w Q := by
  intro as w Q h hok
  obtain ⟨hk, h⟩ := h
  unfold eC_X34_what at h
  split at h
  · refine zx_body (by decide) (Or.inl ⟨rfl, rfl⟩) KnC.warm (Nat.le_of_ble_eq_true rfl) (fun Γ hΓ hQ G M => ?_)
    subst hΓ
    subst hQ
    exact zv_pick [] rfl (cpC_X34_what_0 hp G M S hl hk h)
  · exact h.elim
theorem gC_X34_isLike {d p : Nat} {D : CD} {l : Launch} (hp : D.K.1 = p) (hl : l.stackTraces = false) (S : SdC d D p l) : ∀ (as : List ZA) (w : CW) (Q : ZRes → CW → Prop), (0 ≤ d ∧ eC_X34_isLike p (wpC p d) as w Q) → zoks as → ZMX l (KnC D) (ZC D) yX34_isLike (Cond.code yX34_isLike cX34_isLike 2 (Option.some Jvm.ClassFile.FieldType.boolean)) (d + 1) D.lim as w Q := by
  intro as w Q h hok
  obtain ⟨hk, h⟩ := h
  unfold eC_X34_isLike at h
  split at h
  · refine zx_body (by decide) (Or.inl ⟨rfl, rfl⟩) KnC.warm (Nat.le_of_ble_eq_true rfl) (fun Γ hΓ hQ G M => ?_)
    subst hΓ
    subst hQ
    exact zv_pick [0, 1] rfl (cpC_X34_isLike_0 hp G M S hl hk h)
  · exact h.elim
theorem gC_X35_what {d p : Nat} {D : CD} {l : Launch} (hp : D.K.1 = p) (hl : l.stackTraces = false) (S : SdC d D p l) : ∀ (as : List ZA) (w : CW) (Q : ZRes → CW → Prop), (0 ≤ d ∧ eC_X35_what p (wpC p d) as w Q) → zoks as → ZMX l (KnC D) (ZC D) yX35_what (Cond.code yX35_what cX35_what 1 (Option.some Jvm.ClassFile.FieldType.int)) (d + 1) D.lim as w Q := by
  intro as w Q h hok
  obtain ⟨hk, h⟩ := h
  unfold eC_X35_what at h
  split at h
  · refine zx_body (by decide) (Or.inl ⟨rfl, rfl⟩) KnC.warm (Nat.le_of_ble_eq_true rfl) (fun Γ hΓ hQ G M => ?_)
    subst hΓ
    subst hQ
    exact zv_pick [] rfl (cpC_X35_what_0 hp G M S hl hk h)
  · exact h.elim
theorem gC_X35_kind {d p : Nat} {D : CD} {l : Launch} (hp : D.K.1 = p) (hl : l.stackTraces = false) (S : SdC d D p l) : ∀ (as : List ZA) (w : CW) (Q : ZRes → CW → Prop), (0 ≤ d ∧ eC_X35_kind p (wpC p d) as w Q) → zoks as → ZMX l (KnC D) (ZC D) yX35_kind (Cond.code yX35_kind cX35_kind 1 (Option.some (Jvm.ClassFile.FieldType.object "LetterPost$Kind"))) (d + 1) D.lim as w Q := by
  intro as w Q h hok
  obtain ⟨hk, h⟩ := h
  unfold eC_X35_kind at h
  split at h
  · refine zx_body (by decide) (Or.inl ⟨rfl, rfl⟩) KnC.warm (Nat.le_of_ble_eq_true rfl) (fun Γ hΓ hQ G M => ?_)
    subst hΓ
    subst hQ
    exact zv_pick [0] rfl (cpC_X35_kind_0 hp G M S hl hk h)
  · exact h.elim
theorem gC_X35_init {d p : Nat} {D : CD} {l : Launch} (hp : D.K.1 = p) (hl : l.stackTraces = false) (S : SdC d D p l) : ∀ (as : List ZA) (w : CW) (Q : ZRes → CW → Prop), (0 ≤ d ∧ eC_X35_init p (wpC p d) as w Q) → zoks as → ZMX l (KnC D) (ZC D) yX35_init (Cond.code yX35_init cX35_init 5 (Option.none : Option Jvm.ClassFile.FieldType)) (d + 1) D.lim as w Q := by
  intro as w Q h hok
  obtain ⟨hk, h⟩ := h
  unfold eC_X35_init at h
  split at h
  · refine zx_body (by decide) (Or.inl ⟨rfl, rfl⟩) KnC.warm (Nat.le_of_ble_eq_true rfl) (fun Γ hΓ hQ G M => ?_)
    subst hΓ
    subst hQ
    exact zv_pick [0, 1, 2, 3, 4] rfl (cpC_X35_init_0 hp G M S hl hk (hok _ (List.mem_cons_of_mem _ (List.mem_cons_self))) (hok _ (List.mem_cons_of_mem _ (List.mem_cons_of_mem _ (List.mem_cons_self)))) h)
  · exact h.elim
theorem gC_X35_told {d p : Nat} {D : CD} {l : Launch} (hp : D.K.1 = p) (hl : l.stackTraces = false) (S : SdC d D p l) : ∀ (as : List ZA) (w : CW) (Q : ZRes → CW → Prop), (0 ≤ d ∧ eC_X35_told p (wpC p d) as w Q) → zoks as → ZMX l (KnC D) (ZC D) yX35_told (Cond.code yX35_told cX35_told 1 (Option.some Jvm.ClassFile.FieldType.int)) (d + 1) D.lim as w Q := by
  intro as w Q h hok
  obtain ⟨hk, h⟩ := h
  unfold eC_X35_told at h
  split at h
  · refine zx_body (by decide) (Or.inl ⟨rfl, rfl⟩) KnC.warm (Nat.le_of_ble_eq_true rfl) (fun Γ hΓ hQ G M => ?_)
    subst hΓ
    subst hQ
    exact zv_pick [0] rfl (cpC_X35_told_0 hp G M S hl hk h)
  · exact h.elim
theorem gC_X35_isLike {d p : Nat} {D : CD} {l : Launch} (hp : D.K.1 = p) (hl : l.stackTraces = false) (S : SdC d D p l) : ∀ (as : List ZA) (w : CW) (Q : ZRes → CW → Prop), (0 ≤ d ∧ eC_X35_isLike p (wpC p d) as w Q) → zoks as → ZMX l (KnC D) (ZC D) yX35_isLike (Cond.code yX35_isLike cX35_isLike 4 (Option.some Jvm.ClassFile.FieldType.boolean)) (d + 1) D.lim as w Q := by
  intro as w Q h hok
  obtain ⟨hk, h⟩ := h
  unfold eC_X35_isLike at h
  split at h
  · refine zx_body (by decide) (Or.inl ⟨rfl, rfl⟩) KnC.warm (Nat.le_of_ble_eq_true rfl) (fun Γ hΓ hQ G M => ?_)
    subst hΓ
    subst hQ
    exact zv_pick [0, 1] rfl (cpC_X35_isLike_0 hp G M S hl hk h)
  · exact h.elim
theorem gC_J0_init_2 {d p : Nat} {D : CD} {l : Launch} (hp : D.K.1 = p) (hl : l.stackTraces = false) (S : SdC d D p l) : ∀ (as : List ZA) (w : CW) (Q : ZRes → CW → Prop), (0 ≤ d ∧ eC_J0_init_2 p (wpC p d) as w Q) → zoks as → ZMX l (KnC D) (ZC D) yJ0_init_2 (Cond.code yJ0_init_2 cJ0_init_2 5 (Option.none : Option Jvm.ClassFile.FieldType)) (d + 1) D.lim as w Q := by
  intro as w Q h hok
  obtain ⟨hk, h⟩ := h
  unfold eC_J0_init_2 at h
  split at h
  · refine zx_body (by decide) (Or.inl ⟨rfl, rfl⟩) KnC.warm (Nat.le_of_ble_eq_true rfl) (fun Γ hΓ hQ G M => ?_)
    subst hΓ
    subst hQ
    exact zv_pick [0, 1, 2, 3, 4] rfl (cpC_J0_init_2_0 hp G M S hl hk (hok _ (List.mem_cons_of_mem _ (List.mem_cons_of_mem _ (List.mem_cons_of_mem _ (List.mem_cons_self))))) (hok _ (List.mem_cons_of_mem _ (List.mem_cons_of_mem _ (List.mem_cons_of_mem _ (List.mem_cons_of_mem _ (List.mem_cons_self)))))) h)
  · exact h.elim
theorem gC_J1_init {d p : Nat} {D : CD} {l : Launch} (hp : D.K.1 = p) (hl : l.stackTraces = false) (S : SdC d D p l) : ∀ (as : List ZA) (w : CW) (Q : ZRes → CW → Prop), (0 ≤ d ∧ eC_J1_init p (wpC p d) as w Q) → zoks as → ZMX l (KnC D) (ZC D) yJ1_init (Cond.code yJ1_init cJ1_init 5 (Option.none : Option Jvm.ClassFile.FieldType)) (d + 1) D.lim as w Q := by
  intro as w Q h hok
  obtain ⟨hk, h⟩ := h
  unfold eC_J1_init at h
  split at h
  · refine zx_body (by decide) (Or.inl ⟨rfl, rfl⟩) KnC.warm (Nat.le_of_ble_eq_true rfl) (fun Γ hΓ hQ G M => ?_)
    subst hΓ
    subst hQ
    exact zv_pick [0, 1, 2, 3, 4] rfl (cpC_J1_init_0 hp G M S hl hk (hok _ (List.mem_cons_of_mem _ (List.mem_cons_of_mem _ (List.mem_cons_of_mem _ (List.mem_cons_self))))) (hok _ (List.mem_cons_of_mem _ (List.mem_cons_of_mem _ (List.mem_cons_of_mem _ (List.mem_cons_of_mem _ (List.mem_cons_self)))))) h)
  · exact h.elim
theorem gC_J2_init {d p : Nat} {D : CD} {l : Launch} (hp : D.K.1 = p) (hl : l.stackTraces = false) (S : SdC d D p l) : ∀ (as : List ZA) (w : CW) (Q : ZRes → CW → Prop), (0 ≤ d ∧ eC_J2_init p (wpC p d) as w Q) → zoks as → ZMX l (KnC D) (ZC D) yJ2_init (Cond.code yJ2_init cJ2_init 5 (Option.none : Option Jvm.ClassFile.FieldType)) (d + 1) D.lim as w Q := by
  intro as w Q h hok
  obtain ⟨hk, h⟩ := h
  unfold eC_J2_init at h
  split at h
  · refine zx_body (by decide) (Or.inl ⟨rfl, rfl⟩) KnC.warm (Nat.le_of_ble_eq_true rfl) (fun Γ hΓ hQ G M => ?_)
    subst hΓ
    subst hQ
    exact zv_pick [0, 1] rfl (cpC_J2_init_0 hp G M S hl hk h)
  · exact h.elim
theorem gC_J2_append {d p : Nat} {D : CD} {l : Launch} (hp : D.K.1 = p) (hl : l.stackTraces = false) (S : SdC d D p l) : ∀ (as : List ZA) (w : CW) (Q : ZRes → CW → Prop), (0 ≤ d ∧ eC_J2_append p (wpC p d) as w Q) → zoks as → ZMX l (KnC D) (ZC D) yJ2_append (Cond.code yJ2_append cJ2_append 3 (Option.some (Jvm.ClassFile.FieldType.object "java/lang/AbstractStringBuilder"))) (d + 1) D.lim as w Q := by
  intro as w Q h hok
  obtain ⟨hk, h⟩ := h
  unfold eC_J2_append at h
  split at h
  · refine zx_body (by decide) (Or.inl ⟨rfl, rfl⟩) KnC.warm (Nat.le_of_ble_eq_true rfl) (fun Γ hΓ hQ G M => ?_)
    subst hΓ
    subst hQ
    exact zv_pick [0, 1] rfl (cpC_J2_append_0 hp G M S hl hk h)
  · exact h.elim
theorem gC_J2_ensureCapacityInternal {d p : Nat} {D : CD} {l : Launch} (hp : D.K.1 = p) (hl : l.stackTraces = false) (S : SdC d D p l) : ∀ (as : List ZA) (w : CW) (Q : ZRes → CW → Prop), (0 ≤ d ∧ eC_J2_ensureCapacityInternal p (wpC p d) as w Q) → zoks as → ZMX l (KnC D) (ZC D) yJ2_ensureCapacityInternal (Cond.code yJ2_ensureCapacityInternal cJ2_ensureCapacityInternal 3 (Option.none : Option Jvm.ClassFile.FieldType)) (d + 1) D.lim as w Q := by
  intro as w Q h hok
  obtain ⟨hk, h⟩ := h
  unfold eC_J2_ensureCapacityInternal at h
  split at h
  · refine zx_body (by decide) (Or.inl ⟨rfl, rfl⟩) KnC.warm (Nat.le_of_ble_eq_true rfl) (fun Γ hΓ hQ G M => ?_)
    subst hΓ
    subst hQ
    exact zv_pick [0, 1] rfl (cpC_J2_ensureCapacityInternal_0 hp G M S hl hk (hok _ (List.mem_cons_of_mem _ (List.mem_cons_self))) h)
  · exact h.elim
theorem gC_J2_isLatin1 {d p : Nat} {D : CD} {l : Launch} (hp : D.K.1 = p) (hl : l.stackTraces = false) (S : SdC d D p l) : ∀ (as : List ZA) (w : CW) (Q : ZRes → CW → Prop), (0 ≤ d ∧ eC_J2_isLatin1 p (wpC p d) as w Q) → zoks as → ZMX l (KnC D) (ZC D) yJ2_isLatin1 (Cond.code yJ2_isLatin1 cJ2_isLatin1 1 (Option.some Jvm.ClassFile.FieldType.boolean)) (d + 1) D.lim as w Q := by
  intro as w Q h hok
  obtain ⟨hk, h⟩ := h
  unfold eC_J2_isLatin1 at h
  split at h
  · refine zx_body (by decide) (Or.inl ⟨rfl, rfl⟩) KnC.warm (Nat.le_of_ble_eq_true rfl) (fun Γ hΓ hQ G M => ?_)
    subst hΓ
    subst hQ
    exact zv_pick [0] rfl (cpC_J2_isLatin1_0 hp G M S hl hk h)
  · exact h.elim
theorem gC_J2_putStringAt {d p : Nat} {D : CD} {l : Launch} (hp : D.K.1 = p) (hl : l.stackTraces = false) (S : SdC d D p l) : ∀ (as : List ZA) (w : CW) (Q : ZRes → CW → Prop), (0 ≤ d ∧ eC_J2_putStringAt p (wpC p d) as w Q) → zoks as → ZMX l (KnC D) (ZC D) yJ2_putStringAt (Cond.code yJ2_putStringAt cJ2_putStringAt 3 (Option.none : Option Jvm.ClassFile.FieldType)) (d + 1) D.lim as w Q := by
  intro as w Q h hok
  obtain ⟨hk, h⟩ := h
  unfold eC_J2_putStringAt at h
  split at h
  · refine zx_body (by decide) (Or.inl ⟨rfl, rfl⟩) KnC.warm (Nat.le_of_ble_eq_true rfl) (fun Γ hΓ hQ G M => ?_)
    subst hΓ
    subst hQ
    exact zv_pick [0, 1, 2] rfl (cpC_J2_putStringAt_0 hp G M S hl hk (hok _ (List.mem_cons_of_mem _ (List.mem_cons_self))) h)
  · exact h.elim
theorem gC_J2_inflateIfNeededFor {d p : Nat} {D : CD} {l : Launch} (hp : D.K.1 = p) (hl : l.stackTraces = false) (S : SdC d D p l) : ∀ (as : List ZA) (w : CW) (Q : ZRes → CW → Prop), (0 ≤ d ∧ eC_J2_inflateIfNeededFor p (wpC p d) as w Q) → zoks as → ZMX l (KnC D) (ZC D) yJ2_inflateIfNeededFor (Cond.code yJ2_inflateIfNeededFor cJ2_inflateIfNeededFor 2 (Option.none : Option Jvm.ClassFile.FieldType)) (d + 1) D.lim as w Q := by
  intro as w Q h hok
  obtain ⟨hk, h⟩ := h
  unfold eC_J2_inflateIfNeededFor at h
  split at h
  · refine zx_body (by decide) (Or.inl ⟨rfl, rfl⟩) KnC.warm (Nat.le_of_ble_eq_true rfl) (fun Γ hΓ hQ G M => ?_)
    subst hΓ
    subst hQ
    exact zv_pick [0, 1] rfl (cpC_J2_inflateIfNeededFor_0 hp G M S hl hk h)
  · exact h.elim
theorem gC_J2_append_2 {d p : Nat} {D : CD} {l : Launch} (hp : D.K.1 = p) (hl : l.stackTraces = false) (S : SdC d D p l) : ∀ (as : List ZA) (w : CW) (Q : ZRes → CW → Prop), (0 ≤ d ∧ eC_J2_append_2 p (wpC p d) as w Q) → zoks as → ZMX l (KnC D) (ZC D) yJ2_append_2 (Cond.code yJ2_append_2 cJ2_append_2 2 (Option.some (Jvm.ClassFile.FieldType.object "java/lang/AbstractStringBuilder"))) (d + 1) D.lim as w Q := by
  intro as w Q h hok
  obtain ⟨hk, h⟩ := h
  unfold eC_J2_append_2 at h
  split at h
  · refine zx_body (by decide) (Or.inl ⟨rfl, rfl⟩) KnC.warm (Nat.le_of_ble_eq_true rfl) (fun Γ hΓ hQ G M => ?_)
    subst hΓ
    subst hQ
    exact zv_pick [0, 1] rfl (cpC_J2_append_2_0 hp G M S hl hk (hok _ (List.mem_cons_of_mem _ (List.mem_cons_self))) h)
  · exact h.elim
theorem gC_J2_getValue {d p : Nat} {D : CD} {l : Launch} (hp : D.K.1 = p) (hl : l.stackTraces = false) (S : SdC d D p l) : ∀ (as : List ZA) (w : CW) (Q : ZRes → CW → Prop), (0 ≤ d ∧ eC_J2_getValue p (wpC p d) as w Q) → zoks as → ZMX l (KnC D) (ZC D) yJ2_getValue (Cond.code yJ2_getValue cJ2_getValue 1 (Option.some (Jvm.ClassFile.FieldType.array Jvm.ClassFile.FieldType.byte))) (d + 1) D.lim as w Q := by
  intro as w Q h hok
  obtain ⟨hk, h⟩ := h
  unfold eC_J2_getValue at h
  split at h
  · refine zx_body (by decide) (Or.inl ⟨rfl, rfl⟩) KnC.warm (Nat.le_of_ble_eq_true rfl) (fun Γ hΓ hQ G M => ?_)
    subst hΓ
    subst hQ
    exact zv_pick [0] rfl (cpC_J2_getValue_0 hp G M S hl hk h)
  · exact h.elim
theorem gC_J2_length {d p : Nat} {D : CD} {l : Launch} (hp : D.K.1 = p) (hl : l.stackTraces = false) (S : SdC d D p l) : ∀ (as : List ZA) (w : CW) (Q : ZRes → CW → Prop), (0 ≤ d ∧ eC_J2_length p (wpC p d) as w Q) → zoks as → ZMX l (KnC D) (ZC D) yJ2_length (Cond.code yJ2_length cJ2_length 1 (Option.some Jvm.ClassFile.FieldType.int)) (d + 1) D.lim as w Q := by
  intro as w Q h hok
  obtain ⟨hk, h⟩ := h
  unfold eC_J2_length at h
  split at h
  · refine zx_body (by decide) (Or.inl ⟨rfl, rfl⟩) KnC.warm (Nat.le_of_ble_eq_true rfl) (fun Γ hΓ hQ G M => ?_)
    subst hΓ
    subst hQ
    exact zv_pick [0] rfl (cpC_J2_length_0 hp G M S hl hk h)
  · exact h.elim
theorem gC_J3_init {d p : Nat} {D : CD} {l : Launch} (hp : D.K.1 = p) (hl : l.stackTraces = false) (S : SdC d D p l) : ∀ (as : List ZA) (w : CW) (Q : ZRes → CW → Prop), (0 ≤ d ∧ eC_J3_init p (wpC p d) as w Q) → zoks as → ZMX l (KnC D) (ZC D) yJ3_init (Cond.code yJ3_init cJ3_init 2 (Option.none : Option Jvm.ClassFile.FieldType)) (d + 1) D.lim as w Q := by
  intro as w Q h hok
  obtain ⟨hk, h⟩ := h
  unfold eC_J3_init at h
  split at h
  · refine zx_body (by decide) (Or.inl ⟨rfl, rfl⟩) KnC.warm (Nat.le_of_ble_eq_true rfl) (fun Γ hΓ hQ G M => ?_)
    subst hΓ
    subst hQ
    exact zv_pick [0, 1] rfl (cpC_J3_init_0 hp G M S hl hk h)
  · exact h.elim
theorem gC_J3_append {d p : Nat} {D : CD} {l : Launch} (hp : D.K.1 = p) (hl : l.stackTraces = false) (S : SdC d D p l) : ∀ (as : List ZA) (w : CW) (Q : ZRes → CW → Prop), (0 ≤ d ∧ eC_J3_append p (wpC p d) as w Q) → zoks as → ZMX l (KnC D) (ZC D) yJ3_append (Cond.code yJ3_append cJ3_append 2 (Option.some (Jvm.ClassFile.FieldType.object "java/lang/AbstractStringBuilder"))) (d + 1) D.lim as w Q := by
  intro as w Q h hok
  obtain ⟨hk, h⟩ := h
  unfold eC_J3_append at h
  split at h
  · refine zx_body (by decide) (Or.inl ⟨rfl, rfl⟩) KnC.warm (Nat.le_of_ble_eq_true rfl) (fun Γ hΓ hQ G M => ?_)
    subst hΓ
    subst hQ
    exact zv_pick [0, 1] rfl (cpC_J3_append_0 hp G M S hl hk h)
  · exact h.elim
theorem gC_J3_append_2 {d p : Nat} {D : CD} {l : Launch} (hp : D.K.1 = p) (hl : l.stackTraces = false) (S : SdC d D p l) : ∀ (as : List ZA) (w : CW) (Q : ZRes → CW → Prop), (0 ≤ d ∧ eC_J3_append_2 p (wpC p d) as w Q) → zoks as → ZMX l (KnC D) (ZC D) yJ3_append_2 (Cond.code yJ3_append_2 cJ3_append_2 2 (Option.some (Jvm.ClassFile.FieldType.object "java/lang/StringBuilder"))) (d + 1) D.lim as w Q := by
  intro as w Q h hok
  obtain ⟨hk, h⟩ := h
  unfold eC_J3_append_2 at h
  split at h
  · refine zx_body (by decide) (Or.inl ⟨rfl, rfl⟩) KnC.warm (Nat.le_of_ble_eq_true rfl) (fun Γ hΓ hQ G M => ?_)
    subst hΓ
    subst hQ
    exact zv_pick [0, 1] rfl (cpC_J3_append_2_0 hp G M S hl hk h)
  · exact h.elim
theorem gC_J3_append_3 {d p : Nat} {D : CD} {l : Launch} (hp : D.K.1 = p) (hl : l.stackTraces = false) (S : SdC d D p l) : ∀ (as : List ZA) (w : CW) (Q : ZRes → CW → Prop), (0 ≤ d ∧ eC_J3_append_3 p (wpC p d) as w Q) → zoks as → ZMX l (KnC D) (ZC D) yJ3_append_3 (Cond.code yJ3_append_3 cJ3_append_3 2 (Option.some (Jvm.ClassFile.FieldType.object "java/lang/StringBuilder"))) (d + 1) D.lim as w Q := by
  intro as w Q h hok
  obtain ⟨hk, h⟩ := h
  unfold eC_J3_append_3 at h
  split at h
  · refine zx_body (by decide) (Or.inl ⟨rfl, rfl⟩) KnC.warm (Nat.le_of_ble_eq_true rfl) (fun Γ hΓ hQ G M => ?_)
    subst hΓ
    subst hQ
    exact zv_pick [0, 1] rfl (cpC_J3_append_3_0 hp G M S hl hk (hok _ (List.mem_cons_of_mem _ (List.mem_cons_self))) h)
  · exact h.elim
theorem gC_J3_toString {d p : Nat} {D : CD} {l : Launch} (hp : D.K.1 = p) (hl : l.stackTraces = false) (S : SdC d D p l) : ∀ (as : List ZA) (w : CW) (Q : ZRes → CW → Prop), (0 ≤ d ∧ eC_J3_toString p (wpC p d) as w Q) → zoks as → ZMX l (KnC D) (ZC D) yJ3_toString (Cond.code yJ3_toString cJ3_toString 1 (Option.some (Jvm.ClassFile.FieldType.object "java/lang/String"))) (d + 1) D.lim as w Q := by
  intro as w Q h hok
  obtain ⟨hk, h⟩ := h
  unfold eC_J3_toString at h
  split at h
  · refine zx_body (by decide) (Or.inl ⟨rfl, rfl⟩) KnC.warm (Nat.le_of_ble_eq_true rfl) (fun Γ hΓ hQ G M => ?_)
    subst hΓ
    subst hQ
    exact zv_pick [0] rfl (cpC_J3_toString_0 hp G M S hl hk h)
  · exact h.elim
theorem gC_J3_length {d p : Nat} {D : CD} {l : Launch} (hp : D.K.1 = p) (hl : l.stackTraces = false) (S : SdC d D p l) : ∀ (as : List ZA) (w : CW) (Q : ZRes → CW → Prop), (0 ≤ d ∧ eC_J3_length p (wpC p d) as w Q) → zoks as → ZMX l (KnC D) (ZC D) yJ3_length (Cond.code yJ3_length cJ3_length 1 (Option.some Jvm.ClassFile.FieldType.int)) (d + 1) D.lim as w Q := by
  intro as w Q h hok
  obtain ⟨hk, h⟩ := h
  unfold eC_J3_length at h
  split at h
  · refine zx_body (by decide) (Or.inl ⟨rfl, rfl⟩) KnC.warm (Nat.le_of_ble_eq_true rfl) (fun Γ hΓ hQ G M => ?_)
    subst hΓ
    subst hQ
    exact zv_pick [0] rfl (cpC_J3_length_0 hp G M S hl hk h)
  · exact h.elim
theorem gC_J4_length {d p : Nat} {D : CD} {l : Launch} (hp : D.K.1 = p) (hl : l.stackTraces = false) (S : SdC d D p l) : ∀ (as : List ZA) (w : CW) (Q : ZRes → CW → Prop), (0 ≤ d ∧ eC_J4_length p (wpC p d) as w Q) → zoks as → ZMX l (KnC D) (ZC D) yJ4_length (Cond.code yJ4_length cJ4_length 1 (Option.some Jvm.ClassFile.FieldType.int)) (d + 1) D.lim as w Q := by
  intro as w Q h hok
  obtain ⟨hk, h⟩ := h
  unfold eC_J4_length at h
  split at h
  · refine zx_body (by decide) (Or.inl ⟨rfl, rfl⟩) KnC.warm (Nat.le_of_ble_eq_true rfl) (fun Γ hΓ hQ G M => ?_)
    subst hΓ
    subst hQ
    exact zv_pick [0] rfl (cpC_J4_length_0 hp G M S hl hk h)
  · exact h.elim
theorem gC_J4_coder {d p : Nat} {D : CD} {l : Launch} (hp : D.K.1 = p) (hl : l.stackTraces = false) (S : SdC d D p l) : ∀ (as : List ZA) (w : CW) (Q : ZRes → CW → Prop), (0 ≤ d ∧ eC_J4_coder p (wpC p d) as w Q) → zoks as → ZMX l (KnC D) (ZC D) yJ4_coder (Cond.code yJ4_coder cJ4_coder 1 (Option.some Jvm.ClassFile.FieldType.byte)) (d + 1) D.lim as w Q := by
  intro as w Q h hok
  obtain ⟨hk, h⟩ := h
  unfold eC_J4_coder at h
  split at h
  · refine zx_body (by decide) (Or.inl ⟨rfl, rfl⟩) KnC.warm (Nat.le_of_ble_eq_true rfl) (fun Γ hΓ hQ G M => ?_)
    subst hΓ
    subst hQ
    exact zv_pick [0] rfl (cpC_J4_coder_0 hp G M S hl hk h)
  · exact h.elim
theorem gC_J4_getBytes {d p : Nat} {D : CD} {l : Launch} (hp : D.K.1 = p) (hl : l.stackTraces = false) (S : SdC d D p l) : ∀ (as : List ZA) (w : CW) (Q : ZRes → CW → Prop), (0 ≤ d ∧ eC_J4_getBytes p (wpC p d) as w Q) → zoks as → ZMX l (KnC D) (ZC D) yJ4_getBytes (Cond.code yJ4_getBytes cJ4_getBytes 4 (Option.none : Option Jvm.ClassFile.FieldType)) (d + 1) D.lim as w Q := by
  intro as w Q h hok
  obtain ⟨hk, h⟩ := h
  unfold eC_J4_getBytes at h
  split at h
  · refine zx_body (by decide) (Or.inl ⟨rfl, rfl⟩) KnC.warm (Nat.le_of_ble_eq_true rfl) (fun Γ hΓ hQ G M => ?_)
    subst hΓ
    subst hQ
    exact zv_pick [0, 1, 2, 3] rfl (cpC_J4_getBytes_0 hp G M S hl hk (hok _ (List.mem_cons_of_mem _ (List.mem_cons_of_mem _ (List.mem_cons_self)))) (hok _ (List.mem_cons_of_mem _ (List.mem_cons_of_mem _ (List.mem_cons_of_mem _ (List.mem_cons_self))))) h)
  · exact h.elim
theorem gC_J4_checkIndex {d p : Nat} {D : CD} {l : Launch} (hp : D.K.1 = p) (hl : l.stackTraces = false) (S : SdC d D p l) : ∀ (as : List ZA) (w : CW) (Q : ZRes → CW → Prop), (0 ≤ d ∧ eC_J4_checkIndex p (wpC p d) as w Q) → zoks as → ZMX l (KnC D) (ZC D) yJ4_checkIndex (Cond.code yJ4_checkIndex cJ4_checkIndex 2 (Option.none : Option Jvm.ClassFile.FieldType)) (d + 1) D.lim as w Q := by
  intro as w Q h hok
  obtain ⟨hk, h⟩ := h
  unfold eC_J4_checkIndex at h
  split at h
  · refine zx_body (by decide) (Or.inl ⟨rfl, rfl⟩) KnC.warm (Nat.le_of_ble_eq_true rfl) (fun Γ hΓ hQ G M => ?_)
    subst hΓ
    subst hQ
    exact zv_pick [0, 1] rfl (cpC_J4_checkIndex_0 hp G M S hl hk (hok _ List.mem_cons_self) (hok _ (List.mem_cons_of_mem _ (List.mem_cons_self))) h)
  · exact h.elim
theorem gC_J4_init {d p : Nat} {D : CD} {l : Launch} (hp : D.K.1 = p) (hl : l.stackTraces = false) (S : SdC d D p l) : ∀ (as : List ZA) (w : CW) (Q : ZRes → CW → Prop), (0 ≤ d ∧ eC_J4_init p (wpC p d) as w Q) → zoks as → ZMX l (KnC D) (ZC D) yJ4_init (Cond.code yJ4_init cJ4_init 2 (Option.none : Option Jvm.ClassFile.FieldType)) (d + 1) D.lim as w Q := by
  intro as w Q h hok
  obtain ⟨hk, h⟩ := h
  unfold eC_J4_init at h
  split at h
  · refine zx_body (by decide) (Or.inl ⟨rfl, rfl⟩) KnC.warm (Nat.le_of_ble_eq_true rfl) (fun Γ hΓ hQ G M => ?_)
    subst hΓ
    subst hQ
    exact zv_pick [0, 1] rfl (cpC_J4_init_0 hp G M S hl hk h)
  · exact h.elim
theorem gC_J4_init_2 {d p : Nat} {D : CD} {l : Launch} (hp : D.K.1 = p) (hl : l.stackTraces = false) (S : SdC d D p l) : ∀ (as : List ZA) (w : CW) (Q : ZRes → CW → Prop), (0 ≤ d ∧ eC_J4_init_2 p (wpC p d) as w Q) → zoks as → ZMX l (KnC D) (ZC D) yJ4_init_2 (Cond.code yJ4_init_2 cJ4_init_2 5 (Option.none : Option Jvm.ClassFile.FieldType)) (d + 1) D.lim as w Q := by
  intro as w Q h hok
  obtain ⟨hk, h⟩ := h
  unfold eC_J4_init_2 at h
  split at h
  · refine zx_body (by decide) (Or.inl ⟨rfl, rfl⟩) KnC.warm (Nat.le_of_ble_eq_true rfl) (fun Γ hΓ hQ G M => ?_)
    subst hΓ
    subst hQ
    exact zv_pick [0, 1] rfl (cpC_J4_init_2_0 hp G M S hl hk h)
  · exact h.elim
theorem gC_J4_contains {d p : Nat} {D : CD} {l : Launch} (hp : D.K.1 = p) (hl : l.stackTraces = false) (S : SdC d D p l) : ∀ (as : List ZA) (w : CW) (Q : ZRes → CW → Prop), (0 ≤ d ∧ eC_J4_contains p (wpC p d) as w Q) → zoks as → ZMX l (KnC D) (ZC D) yJ4_contains (Cond.code yJ4_contains cJ4_contains 2 (Option.some Jvm.ClassFile.FieldType.boolean)) (d + 1) D.lim as w Q := by
  intro as w Q h hok
  obtain ⟨hk, h⟩ := h
  unfold eC_J4_contains at h
  split at h
  · refine zx_body (by decide) (Or.inl ⟨rfl, rfl⟩) KnC.warm (Nat.le_of_ble_eq_true rfl) (fun Γ hΓ hQ G M => ?_)
    subst hΓ
    subst hQ
    exact zv_pick [0, 1] rfl (cpC_J4_contains_0 hp G M S hl hk h)
  · exact h.elim
theorem gC_J4_toString {d p : Nat} {D : CD} {l : Launch} (hp : D.K.1 = p) (hl : l.stackTraces = false) (S : SdC d D p l) : ∀ (as : List ZA) (w : CW) (Q : ZRes → CW → Prop), (0 ≤ d ∧ eC_J4_toString p (wpC p d) as w Q) → zoks as → ZMX l (KnC D) (ZC D) yJ4_toString (Cond.code yJ4_toString cJ4_toString 1 (Option.some (Jvm.ClassFile.FieldType.object "java/lang/String"))) (d + 1) D.lim as w Q := by
  intro as w Q h hok
  obtain ⟨hk, h⟩ := h
  unfold eC_J4_toString at h
  split at h
  · refine zx_body (by decide) (Or.inl ⟨rfl, rfl⟩) KnC.warm (Nat.le_of_ble_eq_true rfl) (fun Γ hΓ hQ G M => ?_)
    subst hΓ
    subst hQ
    exact zv_pick [0] rfl (cpC_J4_toString_0 hp G M S hl hk h)
  · exact h.elim
theorem gC_J4_indexOf {d p : Nat} {D : CD} {l : Launch} (hp : D.K.1 = p) (hl : l.stackTraces = false) (S : SdC d D p l) : ∀ (as : List ZA) (w : CW) (Q : ZRes → CW → Prop), (0 ≤ d ∧ eC_J4_indexOf p (wpC p d) as w Q) → zoks as → ZMX l (KnC D) (ZC D) yJ4_indexOf (Cond.code yJ4_indexOf cJ4_indexOf 3 (Option.some Jvm.ClassFile.FieldType.int)) (d + 1) D.lim as w Q := by
  intro as w Q h hok
  obtain ⟨hk, h⟩ := h
  unfold eC_J4_indexOf at h
  split at h
  · refine zx_body (by decide) (Or.inl ⟨rfl, rfl⟩) KnC.warm (Nat.le_of_ble_eq_true rfl) (fun Γ hΓ hQ G M => ?_)
    subst hΓ
    subst hQ
    exact zv_pick [0, 1] rfl (cpC_J4_indexOf_0 hp G M S hl hk h)
  · exact h.elim
theorem gC_J4_isLatin1 {d p : Nat} {D : CD} {l : Launch} (hp : D.K.1 = p) (hl : l.stackTraces = false) (S : SdC d D p l) : ∀ (as : List ZA) (w : CW) (Q : ZRes → CW → Prop), (0 ≤ d ∧ eC_J4_isLatin1 p (wpC p d) as w Q) → zoks as → ZMX l (KnC D) (ZC D) yJ4_isLatin1 (Cond.code yJ4_isLatin1 cJ4_isLatin1 1 (Option.some Jvm.ClassFile.FieldType.boolean)) (d + 1) D.lim as w Q := by
  intro as w Q h hok
  obtain ⟨hk, h⟩ := h
  unfold eC_J4_isLatin1 at h
  split at h
  · refine zx_body (by decide) (Or.inl ⟨rfl, rfl⟩) KnC.warm (Nat.le_of_ble_eq_true rfl) (fun Γ hΓ hQ G M => ?_)
    subst hΓ
    subst hQ
    exact zv_pick [0] rfl (cpC_J4_isLatin1_0 hp G M S hl hk h)
  · exact h.elim
theorem gC_J4_indexOf_2 {d p : Nat} {D : CD} {l : Launch} (hp : D.K.1 = p) (hl : l.stackTraces = false) (S : SdC d D p l) : ∀ (as : List ZA) (w : CW) (Q : ZRes → CW → Prop), (0 ≤ d ∧ eC_J4_indexOf_2 p (wpC p d) as w Q) → zoks as → ZMX l (KnC D) (ZC D) yJ4_indexOf_2 (Cond.code yJ4_indexOf_2 cJ4_indexOf_2 2 (Option.some Jvm.ClassFile.FieldType.int)) (d + 1) D.lim as w Q := by
  intro as w Q h hok
  obtain ⟨hk, h⟩ := h
  unfold eC_J4_indexOf_2 at h
  split at h
  · refine zx_body (by decide) (Or.inl ⟨rfl, rfl⟩) KnC.warm (Nat.le_of_ble_eq_true rfl) (fun Γ hΓ hQ G M => ?_)
    subst hΓ
    subst hQ
    exact zv_pick [0, 1] rfl (cpC_J4_indexOf_2_0 hp G M S hl hk (hok _ (List.mem_cons_of_mem _ (List.mem_cons_self))) h)
  · exact h.elim
theorem gC_J4_indexOf_3 {d p : Nat} {D : CD} {l : Launch} (hp : D.K.1 = p) (hl : l.stackTraces = false) (S : SdC d D p l) : ∀ (as : List ZA) (w : CW) (Q : ZRes → CW → Prop), (0 ≤ d ∧ eC_J4_indexOf_3 p (wpC p d) as w Q) → zoks as → ZMX l (KnC D) (ZC D) yJ4_indexOf_3 (Cond.code yJ4_indexOf_3 cJ4_indexOf_3 3 (Option.some Jvm.ClassFile.FieldType.int)) (d + 1) D.lim as w Q := by
  intro as w Q h hok
  obtain ⟨hk, h⟩ := h
  unfold eC_J4_indexOf_3 at h
  split at h
  · refine zx_body (by decide) (Or.inl ⟨rfl, rfl⟩) KnC.warm (Nat.le_of_ble_eq_true rfl) (fun Γ hΓ hQ G M => ?_)
    subst hΓ
    subst hQ
    exact zv_pick [0, 1, 2] rfl (cpC_J4_indexOf_3_0 hp G M S hl hk (hok _ (List.mem_cons_of_mem _ (List.mem_cons_self))) (hok _ (List.mem_cons_of_mem _ (List.mem_cons_of_mem _ (List.mem_cons_self)))) h)
  · exact h.elim
theorem gC_J4_charAt {d p : Nat} {D : CD} {l : Launch} (hp : D.K.1 = p) (hl : l.stackTraces = false) (S : SdC d D p l) : ∀ (as : List ZA) (w : CW) (Q : ZRes → CW → Prop), (0 ≤ d ∧ eC_J4_charAt p (wpC p d) as w Q) → zoks as → ZMX l (KnC D) (ZC D) yJ4_charAt (Cond.code yJ4_charAt cJ4_charAt 2 (Option.some Jvm.ClassFile.FieldType.char)) (d + 1) D.lim as w Q := by
  intro as w Q h hok
  obtain ⟨hk, h⟩ := h
  unfold eC_J4_charAt at h
  split at h
  · refine zx_body (by decide) (Or.inl ⟨rfl, rfl⟩) KnC.warm (Nat.le_of_ble_eq_true rfl) (fun Γ hΓ hQ G M => ?_)
    subst hΓ
    subst hQ
    exact zv_pick [0, 1] rfl (cpC_J4_charAt_0 hp G M S hl hk (hok _ (List.mem_cons_of_mem _ (List.mem_cons_self))) h)
  · exact h.elim
theorem gC_J8_copyOfRange {d p : Nat} {D : CD} {l : Launch} (hp : D.K.1 = p) (hl : l.stackTraces = false) (S : SdC d D p l) : ∀ (as : List ZA) (w : CW) (Q : ZRes → CW → Prop), (0 ≤ d ∧ eC_J8_copyOfRange p (wpC p d) as w Q) → zoks as → ZMX l (KnC D) (ZC D) yJ8_copyOfRange (Cond.code yJ8_copyOfRange cJ8_copyOfRange 3 (Option.some (Jvm.ClassFile.FieldType.array Jvm.ClassFile.FieldType.byte))) (d + 1) D.lim as w Q := by
  intro as w Q h hok
  obtain ⟨hk, h⟩ := h
  unfold eC_J8_copyOfRange at h
  split at h
  · refine zx_body (by decide) (Or.inl ⟨rfl, rfl⟩) KnC.warm (Nat.le_of_ble_eq_true rfl) (fun Γ hΓ hQ G M => ?_)
    subst hΓ
    subst hQ
    exact zv_pick [0, 1, 2] rfl (cpC_J8_copyOfRange_0 hp G M S hl hk (hok _ (List.mem_cons_of_mem _ (List.mem_cons_self))) (hok _ (List.mem_cons_of_mem _ (List.mem_cons_of_mem _ (List.mem_cons_self)))) h)
  · exact h.elim
theorem gC_J8_copyOfRangeByte {d p : Nat} {D : CD} {l : Launch} (hp : D.K.1 = p) (hl : l.stackTraces = false) (S : SdC d D p l) : ∀ (as : List ZA) (w : CW) (Q : ZRes → CW → Prop), (0 ≤ d ∧ eC_J8_copyOfRangeByte p (wpC p d) as w Q) → zoks as → ZMX l (KnC D) (ZC D) yJ8_copyOfRangeByte (Cond.code yJ8_copyOfRangeByte cJ8_copyOfRangeByte 5 (Option.some (Jvm.ClassFile.FieldType.array Jvm.ClassFile.FieldType.byte))) (d + 1) D.lim as w Q := by
  intro as w Q h hok
  obtain ⟨hk, h⟩ := h
  unfold eC_J8_copyOfRangeByte at h
  split at h
  · refine zx_body (by decide) (Or.inl ⟨rfl, rfl⟩) KnC.warm (Nat.le_of_ble_eq_true rfl) (fun Γ hΓ hQ G M => ?_)
    subst hΓ
    subst hQ
    exact zv_pick [0, 1, 2] rfl (cpC_J8_copyOfRangeByte_0 hp G M S hl hk (hok _ (List.mem_cons_of_mem _ (List.mem_cons_self))) (hok _ (List.mem_cons_of_mem _ (List.mem_cons_of_mem _ (List.mem_cons_self)))) h)
  · exact h.elim
theorem gC_J8_checkLength {d p : Nat} {D : CD} {l : Launch} (hp : D.K.1 = p) (hl : l.stackTraces = false) (S : SdC d D p l) : ∀ (as : List ZA) (w : CW) (Q : ZRes → CW → Prop), (0 ≤ d ∧ eC_J8_checkLength p (wpC p d) as w Q) → zoks as → ZMX l (KnC D) (ZC D) yJ8_checkLength (Cond.code yJ8_checkLength cJ8_checkLength 2 (Option.none : Option Jvm.ClassFile.FieldType)) (d + 1) D.lim as w Q := by
  intro as w Q h hok
  obtain ⟨hk, h⟩ := h
  unfold eC_J8_checkLength at h
  split at h
  · refine zx_body (by decide) (Or.inl ⟨rfl, rfl⟩) KnC.warm (Nat.le_of_ble_eq_true rfl) (fun Γ hΓ hQ G M => ?_)
    subst hΓ
    subst hQ
    exact zv_pick [0, 1] rfl (cpC_J8_checkLength_0 hp G M S hl hk (hok _ List.mem_cons_self) (hok _ (List.mem_cons_of_mem _ (List.mem_cons_self))) h)
  · exact h.elim
theorem gC_J8_fill {d p : Nat} {D : CD} {l : Launch} (hp : D.K.1 = p) (hl : l.stackTraces = false) (S : SdC d D p l) : ∀ (as : List ZA) (w : CW) (Q : ZRes → CW → Prop), (0 ≤ d ∧ eC_J8_fill p (wpC p d) as w Q) → zoks as → ZMX l (KnC D) (ZC D) yJ8_fill (Cond.code yJ8_fill cJ8_fill 4 (Option.none : Option Jvm.ClassFile.FieldType)) (d + 1) D.lim as w Q := by
  intro as w Q h hok
  obtain ⟨hk, h⟩ := h
  unfold eC_J8_fill at h
  split at h
  · refine zx_body (by decide) (Or.inl ⟨rfl, rfl⟩) KnC.warm (Nat.le_of_ble_eq_true rfl) (fun Γ hΓ hQ G M => ?_)
    subst hΓ
    subst hQ
    exact zv_pick [0, 1] rfl (cpC_J8_fill_0 hp G M S hl hk h)
  · exact h.elim
theorem gC_J9_checkIndex {d p : Nat} {D : CD} {l : Launch} (hp : D.K.1 = p) (hl : l.stackTraces = false) (S : SdC d D p l) : ∀ (as : List ZA) (w : CW) (Q : ZRes → CW → Prop), (0 ≤ d ∧ eC_J9_checkIndex p (wpC p d) as w Q) → zoks as → ZMX l (KnC D) (ZC D) yJ9_checkIndex (Cond.code yJ9_checkIndex cJ9_checkIndex 3 (Option.some Jvm.ClassFile.FieldType.int)) (d + 1) D.lim as w Q := by
  intro as w Q h hok
  obtain ⟨hk, h⟩ := h
  unfold eC_J9_checkIndex at h
  split at h
  · refine zx_body (by decide) (Or.inl ⟨rfl, rfl⟩) KnC.warm (Nat.le_of_ble_eq_true rfl) (fun Γ hΓ hQ G M => ?_)
    subst hΓ
    subst hQ
    exact zv_pick [0, 1, 2] rfl (cpC_J9_checkIndex_0 hp G M S hl hk (hok _ List.mem_cons_self) (hok _ (List.mem_cons_of_mem _ (List.mem_cons_self))) h)
  · exact h.elim
theorem gC_J10_canEncode {d p : Nat} {D : CD} {l : Launch} (hp : D.K.1 = p) (hl : l.stackTraces = false) (S : SdC d D p l) : ∀ (as : List ZA) (w : CW) (Q : ZRes → CW → Prop), (0 ≤ d ∧ eC_J10_canEncode p (wpC p d) as w Q) → zoks as → ZMX l (KnC D) (ZC D) yJ10_canEncode (Cond.code yJ10_canEncode cJ10_canEncode 1 (Option.some Jvm.ClassFile.FieldType.boolean)) (d + 1) D.lim as w Q := by
  intro as w Q h hok
  obtain ⟨hk, h⟩ := h
  unfold eC_J10_canEncode at h
  split at h
  · refine zx_body (by decide) (Or.inl ⟨rfl, rfl⟩) KnC.warm (Nat.le_of_ble_eq_true rfl) (fun Γ hΓ hQ G M => ?_)
    subst hΓ
    subst hQ
    exact zv_pick [0] rfl (cpC_J10_canEncode_0 hp G M S hl hk (hok _ List.mem_cons_self) h)
  · exact h.elim
theorem gC_J10_indexOf {d p : Nat} {D : CD} {l : Launch} (hp : D.K.1 = p) (hl : l.stackTraces = false) (S : SdC d D p l) : ∀ (as : List ZA) (w : CW) (Q : ZRes → CW → Prop), (0 ≤ d ∧ eC_J10_indexOf p (wpC p d) as w Q) → zoks as → ZMX l (KnC D) (ZC D) yJ10_indexOf (Cond.code yJ10_indexOf cJ10_indexOf 2 (Option.some Jvm.ClassFile.FieldType.int)) (d + 1) D.lim as w Q := by
  intro as w Q h hok
  obtain ⟨hk, h⟩ := h
  unfold eC_J10_indexOf at h
  split at h
  · refine zx_body (by decide) (Or.inl ⟨rfl, rfl⟩) KnC.warm (Nat.le_of_ble_eq_true rfl) (fun Γ hΓ hQ G M => ?_)
    subst hΓ
    subst hQ
    exact zv_pick [0, 1] rfl (cpC_J10_indexOf_0 hp G M S hl hk h)
  · exact h.elim
theorem gC_J10_indexOf_2 {d p : Nat} {D : CD} {l : Launch} (hp : D.K.1 = p) (hl : l.stackTraces = false) (S : SdC d D p l) : ∀ (as : List ZA) (w : CW) (Q : ZRes → CW → Prop), (0 ≤ d ∧ eC_J10_indexOf_2 p (wpC p d) as w Q) → zoks as → ZMX l (KnC D) (ZC D) yJ10_indexOf_2 (Cond.code yJ10_indexOf_2 cJ10_indexOf_2 11 (Option.some Jvm.ClassFile.FieldType.int)) (d + 1) D.lim as w Q := by
  intro as w Q h hok
  obtain ⟨hk, h⟩ := h
  unfold eC_J10_indexOf_2 at h
  split at h
  · refine zx_body (by decide) (Or.inl ⟨rfl, rfl⟩) KnC.warm (Nat.le_of_ble_eq_true rfl) (fun Γ hΓ hQ G M => ?_)
    subst hΓ
    subst hQ
    exact zv_pick [0, 1, 2, 3, 4] rfl (cpC_J10_indexOf_2_0 hp G M S hl hk (hok _ (List.mem_cons_of_mem _ (List.mem_cons_self))) (hok _ (List.mem_cons_of_mem _ (List.mem_cons_of_mem _ (List.mem_cons_of_mem _ (List.mem_cons_self))))) (hok _ (List.mem_cons_of_mem _ (List.mem_cons_of_mem _ (List.mem_cons_of_mem _ (List.mem_cons_of_mem _ (List.mem_cons_self)))))) h)
  · exact h.elim
theorem gC_J10_indexOf_3 {d p : Nat} {D : CD} {l : Launch} (hp : D.K.1 = p) (hl : l.stackTraces = false) (S : SdC d D p l) : ∀ (as : List ZA) (w : CW) (Q : ZRes → CW → Prop), (0 ≤ d ∧ eC_J10_indexOf_3 p (wpC p d) as w Q) → zoks as → ZMX l (KnC D) (ZC D) yJ10_indexOf_3 (Cond.code yJ10_indexOf_3 cJ10_indexOf_3 4 (Option.some Jvm.ClassFile.FieldType.int)) (d + 1) D.lim as w Q := by
  intro as w Q h hok
  obtain ⟨hk, h⟩ := h
  unfold eC_J10_indexOf_3 at h
  split at h
  · refine zx_body (by decide) (Or.inl ⟨rfl, rfl⟩) KnC.warm (Nat.le_of_ble_eq_true rfl) (fun Γ hΓ hQ G M => ?_)
    subst hΓ
    subst hQ
    exact zv_pick [0, 1, 2, 3] rfl (cpC_J10_indexOf_3_0 hp G M S hl hk (hok _ (List.mem_cons_of_mem _ (List.mem_cons_self))) (hok _ (List.mem_cons_of_mem _ (List.mem_cons_of_mem _ (List.mem_cons_self)))) (hok _ (List.mem_cons_of_mem _ (List.mem_cons_of_mem _ (List.mem_cons_of_mem _ (List.mem_cons_self))))) h)
  · exact h.elim
theorem gC_J10_canEncode_2 {d p : Nat} {D : CD} {l : Launch} (hp : D.K.1 = p) (hl : l.stackTraces = false) (S : SdC d D p l) : ∀ (as : List ZA) (w : CW) (Q : ZRes → CW → Prop), (0 ≤ d ∧ eC_J10_canEncode_2 p (wpC p d) as w Q) → zoks as → ZMX l (KnC D) (ZC D) yJ10_canEncode_2 (Cond.code yJ10_canEncode_2 cJ10_canEncode_2 1 (Option.some Jvm.ClassFile.FieldType.boolean)) (d + 1) D.lim as w Q := by
  intro as w Q h hok
  obtain ⟨hk, h⟩ := h
  unfold eC_J10_canEncode_2 at h
  split at h
  · refine zx_body (by decide) (Or.inl ⟨rfl, rfl⟩) KnC.warm (Nat.le_of_ble_eq_true rfl) (fun Γ hΓ hQ G M => ?_)
    subst hΓ
    subst hQ
    exact zv_pick [0] rfl (cpC_J10_canEncode_2_0 hp G M S hl hk (hok _ List.mem_cons_self) h)
  · exact h.elim
theorem gC_J10_indexOfChar {d p : Nat} {D : CD} {l : Launch} (hp : D.K.1 = p) (hl : l.stackTraces = false) (S : SdC d D p l) : ∀ (as : List ZA) (w : CW) (Q : ZRes → CW → Prop), (0 ≤ d ∧ eC_J10_indexOfChar p (wpC p d) as w Q) → zoks as → ZMX l (KnC D) (ZC D) yJ10_indexOfChar (Cond.code yJ10_indexOfChar cJ10_indexOfChar 6 (Option.some Jvm.ClassFile.FieldType.int)) (d + 1) D.lim as w Q := by
  intro as w Q h hok
  obtain ⟨hk, h⟩ := h
  unfold eC_J10_indexOfChar at h
  split at h
  · refine zx_body (by decide) (Or.inl ⟨rfl, rfl⟩) KnC.warm (Nat.le_of_ble_eq_true rfl) (fun Γ hΓ hQ G M => ?_)
    subst hΓ
    subst hQ
    exact zv_pick [0, 1, 2, 3] rfl (cpC_J10_indexOfChar_0 hp G M S hl hk (hok _ (List.mem_cons_of_mem _ (List.mem_cons_self))) (hok _ (List.mem_cons_of_mem _ (List.mem_cons_of_mem _ (List.mem_cons_self)))) (hok _ (List.mem_cons_of_mem _ (List.mem_cons_of_mem _ (List.mem_cons_of_mem _ (List.mem_cons_self))))) h)
  · exact h.elim
theorem gC_J10_charAt {d p : Nat} {D : CD} {l : Launch} (hp : D.K.1 = p) (hl : l.stackTraces = false) (S : SdC d D p l) : ∀ (as : List ZA) (w : CW) (Q : ZRes → CW → Prop), (0 ≤ d ∧ eC_J10_charAt p (wpC p d) as w Q) → zoks as → ZMX l (KnC D) (ZC D) yJ10_charAt (Cond.code yJ10_charAt cJ10_charAt 2 (Option.some Jvm.ClassFile.FieldType.char)) (d + 1) D.lim as w Q := by
  intro as w Q h hok
  obtain ⟨hk, h⟩ := h
  unfold eC_J10_charAt at h
  split at h
  · refine zx_body (by decide) (Or.inl ⟨rfl, rfl⟩) KnC.warm (Nat.le_of_ble_eq_true rfl) (fun Γ hΓ hQ G M => ?_)
    subst hΓ
    subst hQ
    exact zv_pick [0, 1] rfl (cpC_J10_charAt_0 hp G M S hl hk (hok _ (List.mem_cons_of_mem _ (List.mem_cons_self))) h)
  · exact h.elim
set_option maxRecDepth 100000 in
theorem snd_C {p : Nat} {D : CD} {l : Launch} (hp : D.K.1 = p) (hl : l.stackTraces = false) : ∀ d, SdC d D p l := by
  intro d
  induction d with
  | zero => intro y e he as w Q h; exact h.elim
  | succ d S =>
    have F : zF2 (fun (e : Nat × (Nat → (Nat → List ZA → CW → (ZRes → CW → Prop) → Prop) → List ZA → CW → (ZRes → CW → Prop) → Prop)) (m : MethodName × Cond) => ∀ (as : List ZA) (w : CW) (Q : ZRes → CW → Prop), (e.1 ≤ d ∧ e.2 p (wpC p d) as w Q) → zoks as → ZMX l (KnC D) (ZC D) m.1 m.2 (d + 1) D.lim as w Q) tabC mtC := ⟨gC_X0_feed hp hl S, gC_X0_isIn hp hl S, gC_X0_read hp hl S, gC_X0_begin hp hl S, gC_X0_next hp hl S, gC_X0_blanks hp hl S, gC_X0_unit hp hl S, gC_X0_isSmall hp hl S, gC_X0_readLetters hp hl S, gC_X0_isFigure hp hl S, gC_X0_need hp hl S, gC_X0_quoted hp hl S, gC_X0_isWord hp hl S, gC_X0_readKind hp hl S, gC_X0_want hp hl S, gC_X0_named hp hl S, gC_X0_isSign hp hl S, gC_X0_readSort hp hl S, gC_X0_skip hp hl S, gC_X0_readFunction hp hl S, gC_X0_functionOf hp hl S, gC_X0_rule hp hl S, gC_X0_pattern hp hl S, gC_X0_plain hp hl S, gC_X0_nameAt hp hl S, gC_X0_bind hp hl S, gC_X0_range hp hl S, gC_X0_readWhole hp hl S, gC_X0_signed hp hl S, gC_X0_kinded hp hl S, gC_X0_isKind hp hl S, gC_X0_kindOf hp hl S, gC_X0_either hp hl S, gC_X0_binds hp hl S, gC_X0_guard hp hl S, gC_X0_sum hp hl S, gC_X0_term hp hl S, gC_X0_wholeName hp hl S, gC_X0_known hp hl S, gC_X0_answer hp hl S, gC_X0_isCall hp hl S, gC_X0_settle hp hl S, gC_X0_settleCall hp hl S, gC_X0_product hp hl S, gC_X0_clear hp hl S, gC_X0_fault hp hl S, gC_X0_add hp hl S, gC_X0_remake hp hl S, gC_X0_isFunction hp hl S, gC_X0_kind hp hl S, gC_X0_kindNamed hp hl S, gC_X0_function hp hl S, gC_X0_node hp hl S, gC_X0_isNode hp hl S, gC_X0_branch hp hl S, gC_X0_missing hp hl S, gC_X0_unreached hp hl S, gC_X0_whole hp hl S, gC_X0_keep hp hl S, gC_X0_truth hp hl S, gC_X0_letters hp hl S, gC_X0_nothing hp hl S, gC_X0_make hp hl S, gC_X0_isValue hp hl S, gC_X0_isOf hp hl S, gC_X0_value hp hl S, gC_X0_alike hp hl S, gC_X0_sort hp hl S, gC_X0_sorts hp hl S, gC_X0_run hp hl S, gC_X0_byTree hp hl S, gC_X0_asks hp hl S, gC_X0_plainly hp hl S, gC_X0_ends hp hl S, gC_X0_plain_2 hp hl S, gC_X0_told hp hl S, gC_X0_guard_2 hp hl S, gC_X0_bound hp hl S, gC_X0_init hp hl S, gC_X0_count hp hl S, gC_X1_init hp hl S, gC_X2_init hp hl S, gC_X3_init hp hl S, gC_X3_is hp hl S, gC_X4_init hp hl S, gC_X4_count hp hl S, gC_X4_lay hp hl S, gC_X4_place hp hl S, gC_X4_remake hp hl S, gC_X4_make hp hl S, gC_X5_init hp hl S, gC_X6_init hp hl S, gC_X6_ways hp hl S, gC_X6_row hp hl S, gC_X6_fits hp hl S, gC_X7_init hp hl S, gC_X7_holds hp hl S, gC_X8_init hp hl S, gC_X8_row hp hl S, gC_X9_init hp hl S, gC_X9_by hp hl S, gC_X9_holds hp hl S, gC_X10_init hp hl S, gC_X10_ways hp hl S, gC_X10_row hp hl S, gC_X10_by hp hl S, gC_X10_holds hp hl S, gC_X11_init hp hl S, gC_X11_ways hp hl S, gC_X11_row hp hl S, gC_X11_holds hp hl S, gC_X12_init hp hl S, gC_X12_by hp hl S, gC_X12_holds hp hl S, gC_X13_init hp hl S, gC_X13_by hp hl S, gC_X13_holds hp hl S, gC_X14_init hp hl S, gC_X14_by hp hl S, gC_X14_holds hp hl S, gC_X15_init hp hl S, gC_X15_holds hp hl S, gC_X15_sum hp hl S, gC_X15_term hp hl S, gC_X16_init hp hl S, gC_X16_add hp hl S, gC_X16_isOut hp hl S, gC_X16_asked hp hl S, gC_X16_left hp hl S, gC_X17_init hp hl S, gC_X17_isWithin hp hl S, gC_X17_of hp hl S, gC_X18_init hp hl S, gC_X18_make hp hl S, gC_X18_ends hp hl S, gC_X18_chosen hp hl S, gC_X18_wanted hp hl S, gC_X18_branches hp hl S, gC_X18_leafMany hp hl S, gC_X18_textMany hp hl S, gC_X18_borderMany hp hl S, gC_X18_put hp hl S, gC_X18_byKind hp hl S, gC_X18_leaves hp hl S, gC_X18_byTruth hp hl S, gC_X18_byText hp hl S, gC_X18_texts hp hl S, gC_X18_byWhole hp hl S, gC_X18_borders hp hl S, gC_X19_init hp hl S, gC_X19_isOut hp hl S, gC_X20_init hp hl S, gC_X21_init hp hl S, gC_X21_many hp hl S, gC_X21_depth hp hl S, gC_X21_find hp hl S, gC_X21_what hp hl S, gC_X21_rule hp hl S, gC_X21_place hp hl S, gC_X21_has hp hl S, gC_X21_go hp hl S, gC_X22_init hp hl S, gC_X23_init hp hl S, gC_X23_what hp hl S, gC_X23_rule hp hl S, gC_X23_binds hp hl S, gC_X24_init hp hl S, gC_X24_what hp hl S, gC_X24_go hp hl S, gC_X25_init hp hl S, gC_X25_place hp hl S, gC_X26_init hp hl S, gC_X26_what hp hl S, gC_X26_go hp hl S, gC_X27_init hp hl S, gC_X27_what hp hl S, gC_X27_go hp hl S, gC_X28_init hp hl S, gC_X28_what hp hl S, gC_X28_go hp hl S, gC_X29_init hp hl S, gC_X29_what hp hl S, gC_X29_go hp hl S, gC_X30_init hp hl S, gC_X30_kind hp hl S, gC_X30_told hp hl S, gC_X31_init hp hl S, gC_X31_what hp hl S, gC_X31_told hp hl S, gC_X31_isLike hp hl S, gC_X32_init hp hl S, gC_X32_what hp hl S, gC_X33_init hp hl S, gC_X33_what hp hl S, gC_X33_told hp hl S, gC_X33_isLike hp hl S, gC_X34_init hp hl S, gC_X34_what hp hl S, gC_X34_isLike hp hl S, gC_X35_what hp hl S, gC_X35_kind hp hl S, gC_X35_init hp hl S, gC_X35_told hp hl S, gC_X35_isLike hp hl S, gC_J0_init_2 hp hl S, gC_J1_init hp hl S, gC_J2_init hp hl S, gC_J2_append hp hl S, gC_J2_ensureCapacityInternal hp hl S, gC_J2_isLatin1 hp hl S, gC_J2_putStringAt hp hl S, gC_J2_inflateIfNeededFor hp hl S, gC_J2_append_2 hp hl S, gC_J2_getValue hp hl S, gC_J2_length hp hl S, gC_J3_init hp hl S, gC_J3_append hp hl S, gC_J3_append_2 hp hl S, gC_J3_append_3 hp hl S, gC_J3_toString hp hl S, gC_J3_length hp hl S, gC_J4_length hp hl S, gC_J4_coder hp hl S, gC_J4_getBytes hp hl S, gC_J4_checkIndex hp hl S, gC_J4_init hp hl S, gC_J4_init_2 hp hl S, gC_J4_contains hp hl S, gC_J4_toString hp hl S, gC_J4_indexOf hp hl S, gC_J4_isLatin1 hp hl S, gC_J4_indexOf_2 hp hl S, gC_J4_indexOf_3 hp hl S, gC_J4_charAt hp hl S, gC_J8_copyOfRange hp hl S, gC_J8_copyOfRangeByte hp hl S, gC_J8_checkLength hp hl S, gC_J8_fill hp hl S, gC_J9_checkIndex hp hl S, gC_J10_canEncode hp hl S, gC_J10_indexOf hp hl S, gC_J10_indexOf_2 hp hl S, gC_J10_indexOf_3 hp hl S, gC_J10_canEncode_2 hp hl S, gC_J10_indexOfChar hp hl S, gC_J10_charAt hp hl S, trivial⟩
    intro y e he as w Q h hok
    obtain ⟨a, ha, hP⟩ := zF2_get F y e he
    refine hP as w Q ?_ hok
    unfold wpC at h
    rw [ha] at h
    exact h
end ZSC
