/-! the table of the component's methods; the weakest precondition by depth; printed by tools/comp.py -/
section ZTCab
def eC_X0_feed (p : Nat) (call : Nat → List ZA → CW → (ZRes → CW → Prop) → Prop) (as : List ZA) (w : CW) (Q : ZRes → CW → Prop) : Prop := match as with
  | [.inr (.inr x0), .inr (.inl x1), .inl x3] => x0 = p ∧ pC_X0_feed_0 p call (fun v w => Q (.inl (some (ai v))) w) x1 x3 w
  | _ => False
def eC_X0_isIn (p : Nat) (call : Nat → List ZA → CW → (ZRes → CW → Prop) → Prop) (as : List ZA) (w : CW) (Q : ZRes → CW → Prop) : Prop := match as with
  | [.inr (.inl x0), .inr (.inl x2), .inr (.inl x4)] => pC_X0_isIn_0 p call (fun v w => Q (.inl (some (ai v))) w) x0 x2 x4 w
  | _ => False
def eC_X0_read (p : Nat) (call : Nat → List ZA → CW → (ZRes → CW → Prop) → Prop) (as : List ZA) (w : CW) (Q : ZRes → CW → Prop) : Prop := match as with
  | [.inr (.inr x0)] => x0 = p ∧ pC_X0_read_0 p call (fun v w => Q (.inl (some (ai v))) w) w
  | _ => False
def eC_X0_begin (p : Nat) (call : Nat → List ZA → CW → (ZRes → CW → Prop) → Prop) (as : List ZA) (w : CW) (Q : ZRes → CW → Prop) : Prop := match as with
  | [.inr (.inr x0)] => x0 = p ∧ pC_X0_begin_0 p call (fun w => Q (.inl none) w) (fun x w => Q (.inr x) w) w
  | _ => False
def eC_X0_next (p : Nat) (call : Nat → List ZA → CW → (ZRes → CW → Prop) → Prop) (as : List ZA) (w : CW) (Q : ZRes → CW → Prop) : Prop := match as with
  | [.inr (.inr x0)] => x0 = p ∧ pC_X0_next_0 p call (fun w => Q (.inl none) w) (fun x w => Q (.inr x) w) w
  | _ => False
def eC_X0_blanks (p : Nat) (call : Nat → List ZA → CW → (ZRes → CW → Prop) → Prop) (as : List ZA) (w : CW) (Q : ZRes → CW → Prop) : Prop := match as with
  | [.inr (.inr x0)] => x0 = p ∧ pC_X0_blanks_0 p call (fun w => Q (.inl none) w) w
  | _ => False
def eC_X0_unit (p : Nat) (call : Nat → List ZA → CW → (ZRes → CW → Prop) → Prop) (as : List ZA) (w : CW) (Q : ZRes → CW → Prop) : Prop := match as with
  | [.inr (.inr x0), .inl x1] => x0 = p ∧ pC_X0_unit_0 p call (fun v w => Q (.inl (some (ai v))) w) x1 w
  | _ => False
def eC_X0_isSmall (p : Nat) (call : Nat → List ZA → CW → (ZRes → CW → Prop) → Prop) (as : List ZA) (w : CW) (Q : ZRes → CW → Prop) : Prop := match as with
  | [.inl x0] => pC_X0_isSmall_0 p call (fun v w => Q (.inl (some (ai v))) w) x0 w
  | _ => False
def eC_X0_readLetters (p : Nat) (call : Nat → List ZA → CW → (ZRes → CW → Prop) → Prop) (as : List ZA) (w : CW) (Q : ZRes → CW → Prop) : Prop := match as with
  | [.inr (.inr x0), .inl x1] => x0 = p ∧ pC_X0_readLetters_0 p call (fun w => Q (.inl none) w) (fun x w => Q (.inr x) w) x1 w
  | _ => False
def eC_X0_isFigure (p : Nat) (call : Nat → List ZA → CW → (ZRes → CW → Prop) → Prop) (as : List ZA) (w : CW) (Q : ZRes → CW → Prop) : Prop := match as with
  | [.inl x0] => pC_X0_isFigure_0 p call (fun v w => Q (.inl (some (ai v))) w) x0 w
  | _ => False
def eC_X0_need (p : Nat) (call : Nat → List ZA → CW → (ZRes → CW → Prop) → Prop) (as : List ZA) (w : CW) (Q : ZRes → CW → Prop) : Prop := match as with
  | [.inr (.inr x0), .inl x1, .inl x2, .inl x3] => x0 = p ∧ pC_X0_need_0 p call (fun w => Q (.inl none) w) (fun x w => Q (.inr x) w) x1 x2 x3 w
  | _ => False
def eC_X0_quoted (p : Nat) (call : Nat → List ZA → CW → (ZRes → CW → Prop) → Prop) (as : List ZA) (w : CW) (Q : ZRes → CW → Prop) : Prop := match as with
  | [.inr (.inr x0)] => x0 = p ∧ pC_X0_quoted_0 p call (fun w => Q (.inl none) w) (fun x w => Q (.inr x) w) w
  | _ => False
def eC_X0_isWord (p : Nat) (call : Nat → List ZA → CW → (ZRes → CW → Prop) → Prop) (as : List ZA) (w : CW) (Q : ZRes → CW → Prop) : Prop := match as with
  | [.inr (.inr x0), .inr (.inr x1)] => x0 = p ∧ pC_X0_isWord_0 p call (fun v w => Q (.inl (some (ai v))) w) x1 w
  | _ => False
def eC_X0_readKind (p : Nat) (call : Nat → List ZA → CW → (ZRes → CW → Prop) → Prop) (as : List ZA) (w : CW) (Q : ZRes → CW → Prop) : Prop := match as with
  | [.inr (.inr x0), .inl x1] => x0 = p ∧ pC_X0_readKind_0 p call (fun w => Q (.inl none) w) (fun x w => Q (.inr x) w) x1 w
  | _ => False
def eC_X0_want (p : Nat) (call : Nat → List ZA → CW → (ZRes → CW → Prop) → Prop) (as : List ZA) (w : CW) (Q : ZRes → CW → Prop) : Prop := match as with
  | [.inr (.inr x0), .inl x1] => x0 = p ∧ pC_X0_want_0 p call (fun w => Q (.inl none) w) (fun x w => Q (.inr x) w) x1 w
  | _ => False
def eC_X0_named (p : Nat) (call : Nat → List ZA → CW → (ZRes → CW → Prop) → Prop) (as : List ZA) (w : CW) (Q : ZRes → CW → Prop) : Prop := match as with
  | [.inr (.inr x0), .inr (.inl x1)] => x0 = p ∧ pC_X0_named_0 p call (fun v w => Q (.inl (some (ar v))) w) x1 w
  | _ => False
def eC_X0_isSign (p : Nat) (call : Nat → List ZA → CW → (ZRes → CW → Prop) → Prop) (as : List ZA) (w : CW) (Q : ZRes → CW → Prop) : Prop := match as with
  | [.inr (.inr x0), .inl x1] => x0 = p ∧ pC_X0_isSign_0 p call (fun v w => Q (.inl (some (ai v))) w) x1 w
  | _ => False
def eC_X0_readSort (p : Nat) (call : Nat → List ZA → CW → (ZRes → CW → Prop) → Prop) (as : List ZA) (w : CW) (Q : ZRes → CW → Prop) : Prop := match as with
  | [.inr (.inr x0)] => x0 = p ∧ pC_X0_readSort_0 p call (fun v w => Q (.inl (some (ai v))) w) (fun x w => Q (.inr x) w) w
  | _ => False
def eC_X0_skip (p : Nat) (call : Nat → List ZA → CW → (ZRes → CW → Prop) → Prop) (as : List ZA) (w : CW) (Q : ZRes → CW → Prop) : Prop := match as with
  | [.inr (.inr x0), .inl x1] => x0 = p ∧ pC_X0_skip_0 p call (fun w => Q (.inl none) w) (fun x w => Q (.inr x) w) x1 w
  | _ => False
def eC_X0_readFunction (p : Nat) (call : Nat → List ZA → CW → (ZRes → CW → Prop) → Prop) (as : List ZA) (w : CW) (Q : ZRes → CW → Prop) : Prop := match as with
  | [.inr (.inr x0)] => x0 = p ∧ pC_X0_readFunction_0 p call (fun w => Q (.inl none) w) (fun x w => Q (.inr x) w) w
  | _ => False
def eC_X0_functionOf (p : Nat) (call : Nat → List ZA → CW → (ZRes → CW → Prop) → Prop) (as : List ZA) (w : CW) (Q : ZRes → CW → Prop) : Prop := match as with
  | [.inr (.inr x0), .inr (.inl x1)] => x0 = p ∧ pC_X0_functionOf_0 p call (fun v w => Q (.inl (some (ar v))) w) x1 w
  | _ => False
def eC_X0_rule (p : Nat) (call : Nat → List ZA → CW → (ZRes → CW → Prop) → Prop) (as : List ZA) (w : CW) (Q : ZRes → CW → Prop) : Prop := match as with
  | [.inr (.inr x0), .inr (.inr x1)] => x0 = p ∧ pC_X0_rule_0 p call (fun w => Q (.inl none) w) (fun x w => Q (.inr x) w) x1 w
  | _ => False
def eC_X0_pattern (p : Nat) (call : Nat → List ZA → CW → (ZRes → CW → Prop) → Prop) (as : List ZA) (w : CW) (Q : ZRes → CW → Prop) : Prop := match as with
  | [.inr (.inr x0), .inl x1] => x0 = p ∧ pC_X0_pattern_0 p call (fun v w => Q (.inl (some (ar v))) w) (fun x w => Q (.inr x) w) x1 w
  | _ => False
def eC_X0_plain (p : Nat) (call : Nat → List ZA → CW → (ZRes → CW → Prop) → Prop) (as : List ZA) (w : CW) (Q : ZRes → CW → Prop) : Prop := match as with
  | [.inr (.inr x0), .inl x1, .inl x2] => x0 = p ∧ pC_X0_plain_0 p call (fun v w => Q (.inl (some (ar v))) w) (fun x w => Q (.inr x) w) x1 x2 w
  | _ => False
def eC_X0_nameAt (p : Nat) (call : Nat → List ZA → CW → (ZRes → CW → Prop) → Prop) (as : List ZA) (w : CW) (Q : ZRes → CW → Prop) : Prop := match as with
  | [.inr (.inr x0), .inl x1] => x0 = p ∧ pC_X0_nameAt_0 p call (fun v w => Q (.inl (some (ai v))) w) (fun x w => Q (.inr x) w) w
  | _ => False
def eC_X0_bind (p : Nat) (call : Nat → List ZA → CW → (ZRes → CW → Prop) → Prop) (as : List ZA) (w : CW) (Q : ZRes → CW → Prop) : Prop := match as with
  | [.inr (.inr x0), .inl x1, .inl x2] => x0 = p ∧ pC_X0_bind_0 p call (fun v w => Q (.inl (some (ai v))) w) (fun x w => Q (.inr x) w) x1 x2 w
  | _ => False
def eC_X0_range (p : Nat) (call : Nat → List ZA → CW → (ZRes → CW → Prop) → Prop) (as : List ZA) (w : CW) (Q : ZRes → CW → Prop) : Prop := match as with
  | [.inr (.inr x0), .inl x1] => x0 = p ∧ pC_X0_range_0 p call (fun v w => Q (.inl (some (ar v))) w) (fun x w => Q (.inr x) w) x1 w
  | _ => False
def eC_X0_readWhole (p : Nat) (call : Nat → List ZA → CW → (ZRes → CW → Prop) → Prop) (as : List ZA) (w : CW) (Q : ZRes → CW → Prop) : Prop := match as with
  | [.inr (.inr x0)] => x0 = p ∧ pC_X0_readWhole_0 p call (fun v w => Q (.inl (some (ai v))) w) (fun x w => Q (.inr x) w) w
  | _ => False
def eC_X0_signed (p : Nat) (call : Nat → List ZA → CW → (ZRes → CW → Prop) → Prop) (as : List ZA) (w : CW) (Q : ZRes → CW → Prop) : Prop := match as with
  | [.inr (.inr x0)] => x0 = p ∧ pC_X0_signed_0 p call (fun v w => Q (.inl (some (ai v))) w) (fun x w => Q (.inr x) w) w
  | _ => False
def eC_X0_kinded (p : Nat) (call : Nat → List ZA → CW → (ZRes → CW → Prop) → Prop) (as : List ZA) (w : CW) (Q : ZRes → CW → Prop) : Prop := match as with
  | [.inr (.inr x0), .inl x1, .inl x2] => x0 = p ∧ pC_X0_kinded_0 p call (fun v w => Q (.inl (some (ar v))) w) (fun x w => Q (.inr x) w) x1 x2 w
  | _ => False
def eC_X0_isKind (p : Nat) (call : Nat → List ZA → CW → (ZRes → CW → Prop) → Prop) (as : List ZA) (w : CW) (Q : ZRes → CW → Prop) : Prop := match as with
  | [.inl x0] => pC_X0_isKind_0 p call (fun v w => Q (.inl (some (ai v))) w) x0 w
  | _ => False
def eC_X0_kindOf (p : Nat) (call : Nat → List ZA → CW → (ZRes → CW → Prop) → Prop) (as : List ZA) (w : CW) (Q : ZRes → CW → Prop) : Prop := match as with
  | [.inr (.inr x0), .inl x1] => x0 = p ∧ pC_X0_kindOf_0 p call (fun v w => Q (.inl (some (ar v))) w) x1 w
  | _ => False
def eC_X0_either (p : Nat) (call : Nat → List ZA → CW → (ZRes → CW → Prop) → Prop) (as : List ZA) (w : CW) (Q : ZRes → CW → Prop) : Prop := match as with
  | [.inr (.inr x0), .inl x1] => x0 = p ∧ pC_X0_either_0 p call (fun v w => Q (.inl (some (ar v))) w) (fun x w => Q (.inr x) w) x1 w
  | _ => False
def eC_X0_binds (p : Nat) (call : Nat → List ZA → CW → (ZRes → CW → Prop) → Prop) (as : List ZA) (w : CW) (Q : ZRes → CW → Prop) : Prop := match as with
  | [.inr (.inr x0), .inl x1] => x0 = p ∧ pC_X0_binds_0 p call (fun v w => Q (.inl (some (ai v))) w) (fun x w => Q (.inr x) w) x1 w
  | _ => False
def eC_X0_guard (p : Nat) (call : Nat → List ZA → CW → (ZRes → CW → Prop) → Prop) (as : List ZA) (w : CW) (Q : ZRes → CW → Prop) : Prop := match as with
  | [.inr (.inr x0)] => x0 = p ∧ pC_X0_guard_0 p call (fun v w => Q (.inl (some (ar v))) w) (fun x w => Q (.inr x) w) w
  | _ => False
def eC_X0_sum (p : Nat) (call : Nat → List ZA → CW → (ZRes → CW → Prop) → Prop) (as : List ZA) (w : CW) (Q : ZRes → CW → Prop) : Prop := match as with
  | [.inr (.inr x0), .inr (.inr x1), .inl x2] => x0 = p ∧ pC_X0_sum_0 p call (fun w => Q (.inl none) w) (fun x w => Q (.inr x) w) x1 x2 w
  | _ => False
def eC_X0_term (p : Nat) (call : Nat → List ZA → CW → (ZRes → CW → Prop) → Prop) (as : List ZA) (w : CW) (Q : ZRes → CW → Prop) : Prop := match as with
  | [.inr (.inr x0), .inr (.inr x1), .inl x2] => x0 = p ∧ pC_X0_term_0 p call (fun w => Q (.inl none) w) (fun x w => Q (.inr x) w) x1 x2 w
  | _ => False
def eC_X0_wholeName (p : Nat) (call : Nat → List ZA → CW → (ZRes → CW → Prop) → Prop) (as : List ZA) (w : CW) (Q : ZRes → CW → Prop) : Prop := match as with
  | [.inr (.inr x0)] => x0 = p ∧ pC_X0_wholeName_0 p call (fun v w => Q (.inl (some (ai v))) w) (fun x w => Q (.inr x) w) w
  | _ => False
def eC_X0_known (p : Nat) (call : Nat → List ZA → CW → (ZRes → CW → Prop) → Prop) (as : List ZA) (w : CW) (Q : ZRes → CW → Prop) : Prop := match as with
  | [.inr (.inr x0)] => x0 = p ∧ pC_X0_known_0 p call (fun v w => Q (.inl (some (ai v))) w) (fun x w => Q (.inr x) w) w
  | _ => False
def eC_X0_answer (p : Nat) (call : Nat → List ZA → CW → (ZRes → CW → Prop) → Prop) (as : List ZA) (w : CW) (Q : ZRes → CW → Prop) : Prop := match as with
  | [.inr (.inr x0), .inr (.inr x1)] => x0 = p ∧ pC_X0_answer_0 p call (fun w => Q (.inl none) w) (fun x w => Q (.inr x) w) x1 w
  | _ => False
def eC_X0_isCall (p : Nat) (call : Nat → List ZA → CW → (ZRes → CW → Prop) → Prop) (as : List ZA) (w : CW) (Q : ZRes → CW → Prop) : Prop := match as with
  | [.inr (.inr x0)] => x0 = p ∧ pC_X0_isCall_0 p call (fun v w => Q (.inl (some (ai v))) w) w
  | _ => False
def eC_X0_settle (p : Nat) (call : Nat → List ZA → CW → (ZRes → CW → Prop) → Prop) (as : List ZA) (w : CW) (Q : ZRes → CW → Prop) : Prop := match as with
  | [.inr (.inr x0)] => x0 = p ∧ pC_X0_settle_0 p call (fun w => Q (.inl none) w) (fun x w => Q (.inr x) w) w
  | _ => False
def eC_X0_settleCall (p : Nat) (call : Nat → List ZA → CW → (ZRes → CW → Prop) → Prop) (as : List ZA) (w : CW) (Q : ZRes → CW → Prop) : Prop := match as with
  | [.inr (.inr x0), .inr (.inr x1)] => x0 = p ∧ pC_X0_settleCall_0 p call (fun w => Q (.inl none) w) (fun x w => Q (.inr x) w) x1 w
  | _ => False
def eC_X0_product (p : Nat) (call : Nat → List ZA → CW → (ZRes → CW → Prop) → Prop) (as : List ZA) (w : CW) (Q : ZRes → CW → Prop) : Prop := match as with
  | [.inr (.inr x0)] => pC_X0_product_0 p call (fun v w => Q (.inl (some (ai v))) w) x0 w
  | _ => False
def eC_X0_clear (p : Nat) (call : Nat → List ZA → CW → (ZRes → CW → Prop) → Prop) (as : List ZA) (w : CW) (Q : ZRes → CW → Prop) : Prop := match as with
  | [.inr (.inr x0)] => x0 = p ∧ pC_X0_clear_0 p call (fun w => Q (.inl none) w) w
  | _ => False
def eC_X0_fault (p : Nat) (call : Nat → List ZA → CW → (ZRes → CW → Prop) → Prop) (as : List ZA) (w : CW) (Q : ZRes → CW → Prop) : Prop := match as with
  | [.inr (.inr x0)] => x0 = p ∧ pC_X0_fault_0 p call (fun v w => Q (.inl (some (ai v))) w) w
  | _ => False
def eC_X0_add (p : Nat) (call : Nat → List ZA → CW → (ZRes → CW → Prop) → Prop) (as : List ZA) (w : CW) (Q : ZRes → CW → Prop) : Prop := match as with
  | [.inr (.inr x0)] => x0 = p ∧ pC_X0_add_0 p call (fun v w => Q (.inl (some (ai v))) w) w
  | _ => False
def eC_X0_remake (p : Nat) (call : Nat → List ZA → CW → (ZRes → CW → Prop) → Prop) (as : List ZA) (w : CW) (Q : ZRes → CW → Prop) : Prop := match as with
  | [.inr (.inr x0), .inl x1, .inl x2] => x0 = p ∧ pC_X0_remake_0 p call (fun v w => Q (.inl (some (ai v))) w) x1 x2 w
  | _ => False
def eC_X0_isFunction (p : Nat) (call : Nat → List ZA → CW → (ZRes → CW → Prop) → Prop) (as : List ZA) (w : CW) (Q : ZRes → CW → Prop) : Prop := match as with
  | [.inr (.inr x0), .inl x1] => x0 = p ∧ pC_X0_isFunction_0 p call (fun v w => Q (.inl (some (ai v))) w) x1 w
  | _ => False
def eC_X0_kind (p : Nat) (call : Nat → List ZA → CW → (ZRes → CW → Prop) → Prop) (as : List ZA) (w : CW) (Q : ZRes → CW → Prop) : Prop := match as with
  | [.inr (.inr x0), .inl x1, .inl x2] => x0 = p ∧ pC_X0_kind_0 p call (fun v w => Q (.inl (some (ai v))) w) x1 x2 w
  | _ => False
def eC_X0_kindNamed (p : Nat) (call : Nat → List ZA → CW → (ZRes → CW → Prop) → Prop) (as : List ZA) (w : CW) (Q : ZRes → CW → Prop) : Prop := match as with
  | [.inr (.inr x0), .inr (.inl x1)] => x0 = p ∧ pC_X0_kindNamed_0 p call (fun v w => Q (.inl (some (ai v))) w) x1 w
  | _ => False
def eC_X0_function (p : Nat) (call : Nat → List ZA → CW → (ZRes → CW → Prop) → Prop) (as : List ZA) (w : CW) (Q : ZRes → CW → Prop) : Prop := match as with
  | [.inr (.inr x0), .inl x1, .inl x2] => x0 = p ∧ pC_X0_function_0 p call (fun v w => Q (.inl (some (ai v))) w) x1 x2 w
  | _ => False
def eC_X0_node (p : Nat) (call : Nat → List ZA → CW → (ZRes → CW → Prop) → Prop) (as : List ZA) (w : CW) (Q : ZRes → CW → Prop) : Prop := match as with
  | [.inr (.inr x0), .inl x1, .inl x2, .inl x3] => x0 = p ∧ pC_X0_node_0 p call (fun v w => Q (.inl (some (ai v))) w) x1 x2 x3 w
  | _ => False
def eC_X0_isNode (p : Nat) (call : Nat → List ZA → CW → (ZRes → CW → Prop) → Prop) (as : List ZA) (w : CW) (Q : ZRes → CW → Prop) : Prop := match as with
  | [.inr (.inr x0), .inl x1, .inl x2] => x0 = p ∧ pC_X0_isNode_0 p call (fun v w => Q (.inl (some (ai v))) w) x1 x2 w
  | _ => False
def eC_X0_branch (p : Nat) (call : Nat → List ZA → CW → (ZRes → CW → Prop) → Prop) (as : List ZA) (w : CW) (Q : ZRes → CW → Prop) : Prop := match as with
  | [.inr (.inr x0), .inl x1, .inl x2, .inl x3] => x0 = p ∧ pC_X0_branch_0 p call (fun v w => Q (.inl (some (ai v))) w) x1 x2 x3 w
  | _ => False
def eC_X0_missing (p : Nat) (call : Nat → List ZA → CW → (ZRes → CW → Prop) → Prop) (as : List ZA) (w : CW) (Q : ZRes → CW → Prop) : Prop := match as with
  | [.inr (.inr x0), .inl x1] => x0 = p ∧ pC_X0_missing_0 p call (fun v w => Q (.inl (some (ai v))) w) x1 w
  | _ => False
def eC_X0_unreached (p : Nat) (call : Nat → List ZA → CW → (ZRes → CW → Prop) → Prop) (as : List ZA) (w : CW) (Q : ZRes → CW → Prop) : Prop := match as with
  | [.inr (.inr x0), .inl x1, .inl x2] => x0 = p ∧ pC_X0_unreached_0 p call (fun v w => Q (.inl (some (ai v))) w) x1 x2 w
  | _ => False
def eC_X0_whole (p : Nat) (call : Nat → List ZA → CW → (ZRes → CW → Prop) → Prop) (as : List ZA) (w : CW) (Q : ZRes → CW → Prop) : Prop := match as with
  | [.inr (.inr x0), .inl x1] => x0 = p ∧ pC_X0_whole_0 p call (fun v w => Q (.inl (some (ai v))) w) x1 w
  | _ => False
def eC_X0_keep (p : Nat) (call : Nat → List ZA → CW → (ZRes → CW → Prop) → Prop) (as : List ZA) (w : CW) (Q : ZRes → CW → Prop) : Prop := match as with
  | [.inr (.inr x0), .inr (.inr x1)] => x0 = p ∧ pC_X0_keep_0 p call (fun v w => Q (.inl (some (ai v))) w) x1 w
  | _ => False
def eC_X0_truth (p : Nat) (call : Nat → List ZA → CW → (ZRes → CW → Prop) → Prop) (as : List ZA) (w : CW) (Q : ZRes → CW → Prop) : Prop := match as with
  | [.inr (.inr x0), .inl x1] => x0 = p ∧ pC_X0_truth_0 p call (fun v w => Q (.inl (some (ai v))) w) x1 w
  | _ => False
def eC_X0_letters (p : Nat) (call : Nat → List ZA → CW → (ZRes → CW → Prop) → Prop) (as : List ZA) (w : CW) (Q : ZRes → CW → Prop) : Prop := match as with
  | [.inr (.inr x0), .inr (.inl x1)] => x0 = p ∧ pC_X0_letters_0 p call (fun v w => Q (.inl (some (ai v))) w) x1 w
  | _ => False
def eC_X0_nothing (p : Nat) (call : Nat → List ZA → CW → (ZRes → CW → Prop) → Prop) (as : List ZA) (w : CW) (Q : ZRes → CW → Prop) : Prop := match as with
  | [.inr (.inr x0)] => x0 = p ∧ pC_X0_nothing_0 p call (fun v w => Q (.inl (some (ai v))) w) w
  | _ => False
def eC_X0_make (p : Nat) (call : Nat → List ZA → CW → (ZRes → CW → Prop) → Prop) (as : List ZA) (w : CW) (Q : ZRes → CW → Prop) : Prop := match as with
  | [.inr (.inr x0), .inl x1, .inl x2, .inl x3, .inl x4, .inl x5] => x0 = p ∧ pC_X0_make_0 p call (fun v w => Q (.inl (some (ai v))) w) x1 x2 x3 x4 x5 w
  | _ => False
def eC_X0_isValue (p : Nat) (call : Nat → List ZA → CW → (ZRes → CW → Prop) → Prop) (as : List ZA) (w : CW) (Q : ZRes → CW → Prop) : Prop := match as with
  | [.inr (.inr x0), .inl x1] => x0 = p ∧ pC_X0_isValue_0 p call (fun v w => Q (.inl (some (ai v))) w) x1 w
  | _ => False
def eC_X0_isOf (p : Nat) (call : Nat → List ZA → CW → (ZRes → CW → Prop) → Prop) (as : List ZA) (w : CW) (Q : ZRes → CW → Prop) : Prop := match as with
  | [.inr (.inr x0), .inr (.inr x1), .inl x2] => x0 = p ∧ pC_X0_isOf_0 p call (fun v w => Q (.inl (some (ai v))) w) x1 x2 w
  | _ => False
def eC_X0_value (p : Nat) (call : Nat → List ZA → CW → (ZRes → CW → Prop) → Prop) (as : List ZA) (w : CW) (Q : ZRes → CW → Prop) : Prop := match as with
  | [.inr (.inr x0), .inl x1, .inl x2] => x0 = p ∧ pC_X0_value_0 p call (fun v w => Q (.inl (some (ai v))) w) x1 x2 w
  | _ => False
def eC_X0_alike (p : Nat) (call : Nat → List ZA → CW → (ZRes → CW → Prop) → Prop) (as : List ZA) (w : CW) (Q : ZRes → CW → Prop) : Prop := match as with
  | [.inr (.inr x0), .inl x1, .inl x2] => x0 = p ∧ pC_X0_alike_0 p call (fun v w => Q (.inl (some (ai v))) w) x1 x2 w
  | _ => False
def eC_X0_sort (p : Nat) (call : Nat → List ZA → CW → (ZRes → CW → Prop) → Prop) (as : List ZA) (w : CW) (Q : ZRes → CW → Prop) : Prop := match as with
  | [.inr (.inr x0), .inl x1, .inl x2, .inl x3, .inl x4] => x0 = p ∧ pC_X0_sort_0 p call (fun v w => Q (.inl (some (ai v))) w) x1 x2 x3 x4 w
  | _ => False
def eC_X0_sorts (p : Nat) (call : Nat → List ZA → CW → (ZRes → CW → Prop) → Prop) (as : List ZA) (w : CW) (Q : ZRes → CW → Prop) : Prop := match as with
  | [.inr (.inr x0), .inl x1, .inl x2, .inl x3, .inl x4, .inl x5] => x0 = p ∧ pC_X0_sorts_0 p call (fun v w => Q (.inl (some (ai v))) w) x1 x2 x3 x4 x5 w
  | _ => False
def eC_X0_run (p : Nat) (call : Nat → List ZA → CW → (ZRes → CW → Prop) → Prop) (as : List ZA) (w : CW) (Q : ZRes → CW → Prop) : Prop := match as with
  | [.inr (.inr x0), .inr (.inr x1), .inr (.inr x2), .inl x3] => x0 = p ∧ pC_X0_run_0 p call (fun v w => Q (.inl (some (ai v))) w) x1 x2 x3 w
  | _ => False
def eC_X0_byTree (p : Nat) (call : Nat → List ZA → CW → (ZRes → CW → Prop) → Prop) (as : List ZA) (w : CW) (Q : ZRes → CW → Prop) : Prop := match as with
  | [.inr (.inr x0), .inr (.inr x1), .inr (.inr x2), .inr (.inr x3)] => x0 = p ∧ pC_X0_byTree_0 p call (fun v w => Q (.inl (some (ar v))) w) x1 x2 x3 w
  | _ => False
def eC_X0_asks (p : Nat) (call : Nat → List ZA → CW → (ZRes → CW → Prop) → Prop) (as : List ZA) (w : CW) (Q : ZRes → CW → Prop) : Prop := match as with
  | [.inr (.inr x0), .inr (.inr x1), .inr (.inr x2), .inr (.inr x3)] => x0 = p ∧ pC_X0_asks_0 p call (fun v w => Q (.inl (some (ai v))) w) x1 x2 x3 w
  | _ => False
def eC_X0_plainly (p : Nat) (call : Nat → List ZA → CW → (ZRes → CW → Prop) → Prop) (as : List ZA) (w : CW) (Q : ZRes → CW → Prop) : Prop := match as with
  | [.inr (.inr x0), .inr (.inr x1), .inr (.inr x2), .inr (.inr x3)] => x0 = p ∧ pC_X0_plainly_0 p call (fun v w => Q (.inl (some (ar v))) w) x1 x2 x3 w
  | _ => False
def eC_X0_ends (p : Nat) (call : Nat → List ZA → CW → (ZRes → CW → Prop) → Prop) (as : List ZA) (w : CW) (Q : ZRes → CW → Prop) : Prop := match as with
  | [.inr (.inr x0), .inl x1, .inl x2, .inr (.inr x3), .inl x4] => x0 = p ∧ pC_X0_ends_0 p call (fun w => Q (.inl none) w) x1 x2 x3 x4 w
  | _ => False
def eC_X0_plain_2 (p : Nat) (call : Nat → List ZA → CW → (ZRes → CW → Prop) → Prop) (as : List ZA) (w : CW) (Q : ZRes → CW → Prop) : Prop := match as with
  | [.inr (.inr x0), .inl x1, .inl x2, .inl x3, .inl x4] => x0 = p ∧ pC_X0_plain_2_0 p call (fun v w => Q (.inl (some (ai v))) w) x1 x2 x3 x4 w
  | _ => False
def eC_X0_told (p : Nat) (call : Nat → List ZA → CW → (ZRes → CW → Prop) → Prop) (as : List ZA) (w : CW) (Q : ZRes → CW → Prop) : Prop := match as with
  | [.inr (.inr x0), .inl x1] => x0 = p ∧ pC_X0_told_0 p call (fun v w => Q (.inl (some (ai v))) w) x1 w
  | _ => False
def eC_X0_guard_2 (p : Nat) (call : Nat → List ZA → CW → (ZRes → CW → Prop) → Prop) (as : List ZA) (w : CW) (Q : ZRes → CW → Prop) : Prop := match as with
  | [.inr (.inr x0), .inl x1] => x0 = p ∧ pC_X0_guard_2_0 p call (fun v w => Q (.inl (some (ai v))) w) x1 w
  | _ => False
def eC_X0_bound (p : Nat) (call : Nat → List ZA → CW → (ZRes → CW → Prop) → Prop) (as : List ZA) (w : CW) (Q : ZRes → CW → Prop) : Prop := match as with
  | [.inr (.inr x0), .inl x1] => x0 = p ∧ pC_X0_bound_0 p call (fun v w => Q (.inl (some (ai v))) w) x1 w
  | _ => False
def eC_X0_init (p : Nat) (call : Nat → List ZA → CW → (ZRes → CW → Prop) → Prop) (as : List ZA) (w : CW) (Q : ZRes → CW → Prop) : Prop := match as with
  | [.inr (.inr x0)] => x0 = p ∧ pC_X0_init_0 p call (fun w => Q (.inl none) w) w
  | _ => False
def eC_X0_count (p : Nat) (call : Nat → List ZA → CW → (ZRes → CW → Prop) → Prop) (as : List ZA) (w : CW) (Q : ZRes → CW → Prop) : Prop := match as with
  | [.inr (.inr x0), .inl x1] => x0 = p ∧ pC_X0_count_0 p call (fun v w => Q (.inl (some (ai v))) w) x1 w
  | _ => False
def eC_X1_init (p : Nat) (call : Nat → List ZA → CW → (ZRes → CW → Prop) → Prop) (as : List ZA) (w : CW) (Q : ZRes → CW → Prop) : Prop := match as with
  | [.inr (.inr x0)] => pC_X1_init_0 p call (fun w => Q (.inl none) w) x0 w
  | _ => False
def eC_X2_init (p : Nat) (call : Nat → List ZA → CW → (ZRes → CW → Prop) → Prop) (as : List ZA) (w : CW) (Q : ZRes → CW → Prop) : Prop := match as with
  | [.inr (.inr x0), .inl x1, .inl x2] => pC_X2_init_0 p call (fun w => Q (.inl none) w) x0 x1 x2 w
  | _ => False
def eC_X3_init (p : Nat) (call : Nat → List ZA → CW → (ZRes → CW → Prop) → Prop) (as : List ZA) (w : CW) (Q : ZRes → CW → Prop) : Prop := match as with
  | [.inr (.inr x0), .inl x1, .inr (.inl x2), .inr (.inr x4)] => pC_X3_init_0 p call (fun w => Q (.inl none) w) x0 x1 x2 x4 w
  | _ => False
def eC_X3_is (p : Nat) (call : Nat → List ZA → CW → (ZRes → CW → Prop) → Prop) (as : List ZA) (w : CW) (Q : ZRes → CW → Prop) : Prop := match as with
  | [.inr (.inr x0), .inr (.inr x1)] => pC_X3_is_0 p call (fun v w => Q (.inl (some (ai v))) w) x0 x1 w
  | _ => False
def eC_X4_init (p : Nat) (call : Nat → List ZA → CW → (ZRes → CW → Prop) → Prop) (as : List ZA) (w : CW) (Q : ZRes → CW → Prop) : Prop := match as with
  | [.inr (.inr x0), .inr (.inr x1), .inl x2, .inr (.inl x3)] => pC_X4_init_0 p call (fun w => Q (.inl none) w) x0 x1 x2 x3 w
  | _ => False
def eC_X4_count (p : Nat) (call : Nat → List ZA → CW → (ZRes → CW → Prop) → Prop) (as : List ZA) (w : CW) (Q : ZRes → CW → Prop) : Prop := match as with
  | [.inr (.inr x0), .inl x1] => pC_X4_count_0 p call (fun v w => Q (.inl (some (ai v))) w) x0 x1 w
  | _ => False
def eC_X4_lay (p : Nat) (call : Nat → List ZA → CW → (ZRes → CW → Prop) → Prop) (as : List ZA) (w : CW) (Q : ZRes → CW → Prop) : Prop := match as with
  | [.inr (.inr x0)] => pC_X4_lay_0 p call (fun w => Q (.inl none) w) x0 w
  | _ => False
def eC_X4_place (p : Nat) (call : Nat → List ZA → CW → (ZRes → CW → Prop) → Prop) (as : List ZA) (w : CW) (Q : ZRes → CW → Prop) : Prop := match as with
  | [.inr (.inr x0), .inr (.inr x1), .inr (.inr x2), .inl x3, .inl x4] => pC_X4_place_0 p call (fun v w => Q (.inl (some (ar v))) w) x0 x1 x2 x3 x4 w
  | _ => False
def eC_X4_remake (p : Nat) (call : Nat → List ZA → CW → (ZRes → CW → Prop) → Prop) (as : List ZA) (w : CW) (Q : ZRes → CW → Prop) : Prop := match as with
  | [.inr (.inr x0), .inl x1] => pC_X4_remake_0 p call (fun w => Q (.inl none) w) (fun x w => Q (.inr x) w) x0 x1 w
  | _ => False
def eC_X4_make (p : Nat) (call : Nat → List ZA → CW → (ZRes → CW → Prop) → Prop) (as : List ZA) (w : CW) (Q : ZRes → CW → Prop) : Prop := match as with
  | [.inr (.inr x0), .inl x1, .inl x2] => pC_X4_make_0 p call (fun v w => Q (.inl (some (ar v))) w) (fun x w => Q (.inr x) w) x0 x1 x2 w
  | _ => False
def eC_X5_init (p : Nat) (call : Nat → List ZA → CW → (ZRes → CW → Prop) → Prop) (as : List ZA) (w : CW) (Q : ZRes → CW → Prop) : Prop := match as with
  | [.inr (.inr x0), .inl x1, .inl x2] => pC_X5_init_0 p call (fun w => Q (.inl none) w) x0 x1 x2 w
  | _ => False
def eC_X6_init (p : Nat) (call : Nat → List ZA → CW → (ZRes → CW → Prop) → Prop) (as : List ZA) (w : CW) (Q : ZRes → CW → Prop) : Prop := match as with
  | [.inr (.inr x0)] => pC_X6_init_0 p call (fun w => Q (.inl none) w) x0 w
  | _ => False
def eC_X6_ways (p : Nat) (call : Nat → List ZA → CW → (ZRes → CW → Prop) → Prop) (as : List ZA) (w : CW) (Q : ZRes → CW → Prop) : Prop := match as with
  | [.inr (.inr x0)] => pC_X6_ways_0 p call (fun v w => Q (.inl (some (ai v))) w) w
  | _ => False
def eC_X6_row (p : Nat) (call : Nat → List ZA → CW → (ZRes → CW → Prop) → Prop) (as : List ZA) (w : CW) (Q : ZRes → CW → Prop) : Prop := match as with
  | [.inr (.inr x0), .inl x1, .inr (.inr x2), .inr (.inr x3), .inr (.inr x4)] => pC_X6_row_0 p call (fun w => Q (.inl none) w) x0 x2 x4 w
  | _ => False
def eC_X6_fits (p : Nat) (call : Nat → List ZA → CW → (ZRes → CW → Prop) → Prop) (as : List ZA) (w : CW) (Q : ZRes → CW → Prop) : Prop := match as with
  | [.inr (.inr x0), .inr (.inr x1), .inr (.inr x2)] => pC_X6_fits_0 p call (fun v w => Q (.inl (some (ai v))) w) x0 x1 x2 w
  | _ => False
def eC_X7_init (p : Nat) (call : Nat → List ZA → CW → (ZRes → CW → Prop) → Prop) (as : List ZA) (w : CW) (Q : ZRes → CW → Prop) : Prop := match as with
  | [.inr (.inr x0)] => pC_X7_init_0 p call (fun w => Q (.inl none) w) x0 w
  | _ => False
def eC_X7_holds (p : Nat) (call : Nat → List ZA → CW → (ZRes → CW → Prop) → Prop) (as : List ZA) (w : CW) (Q : ZRes → CW → Prop) : Prop := match as with
  | [.inr (.inr x0), .inr (.inr x1), .inr (.inr x2)] => pC_X7_holds_0 p call (fun v w => Q (.inl (some (ai v))) w) w
  | _ => False
def eC_X8_init (p : Nat) (call : Nat → List ZA → CW → (ZRes → CW → Prop) → Prop) (as : List ZA) (w : CW) (Q : ZRes → CW → Prop) : Prop := match as with
  | [.inr (.inr x0)] => pC_X8_init_0 p call (fun w => Q (.inl none) w) x0 w
  | _ => False
def eC_X8_row (p : Nat) (call : Nat → List ZA → CW → (ZRes → CW → Prop) → Prop) (as : List ZA) (w : CW) (Q : ZRes → CW → Prop) : Prop := match as with
  | [.inr (.inr x0), .inl x1, .inr (.inr x2), .inr (.inr x3), .inr (.inr x4)] => pC_X8_row_0 p call (fun w => Q (.inl none) w) x0 x1 x2 x3 x4 w
  | _ => False
def eC_X9_init (p : Nat) (call : Nat → List ZA → CW → (ZRes → CW → Prop) → Prop) (as : List ZA) (w : CW) (Q : ZRes → CW → Prop) : Prop := match as with
  | [.inr (.inr x0), .inl x1, .inl x2] => pC_X9_init_0 p call (fun w => Q (.inl none) w) x0 x1 x2 w
  | _ => False
def eC_X9_by (p : Nat) (call : Nat → List ZA → CW → (ZRes → CW → Prop) → Prop) (as : List ZA) (w : CW) (Q : ZRes → CW → Prop) : Prop := match as with
  | [.inr (.inr x0), .inr (.inr x1), .inr (.inr x2)] => pC_X9_by_0 p call (fun v w => Q (.inl (some (ai v))) w) x0 x1 x2 w
  | _ => False
def eC_X9_holds (p : Nat) (call : Nat → List ZA → CW → (ZRes → CW → Prop) → Prop) (as : List ZA) (w : CW) (Q : ZRes → CW → Prop) : Prop := match as with
  | [.inr (.inr x0), .inr (.inr x1), .inr (.inr x2)] => pC_X9_holds_0 p call (fun v w => Q (.inl (some (ai v))) w) x0 x1 w
  | _ => False
def eC_X10_init (p : Nat) (call : Nat → List ZA → CW → (ZRes → CW → Prop) → Prop) (as : List ZA) (w : CW) (Q : ZRes → CW → Prop) : Prop := match as with
  | [.inr (.inr x0), .inr (.inr x1), .inr (.inr x2)] => pC_X10_init_0 p call (fun w => Q (.inl none) w) x0 x1 x2 w
  | _ => False
def eC_X10_ways (p : Nat) (call : Nat → List ZA → CW → (ZRes → CW → Prop) → Prop) (as : List ZA) (w : CW) (Q : ZRes → CW → Prop) : Prop := match as with
  | [.inr (.inr x0)] => pC_X10_ways_0 p call (fun v w => Q (.inl (some (ai v))) w) x0 w
  | _ => False
def eC_X10_row (p : Nat) (call : Nat → List ZA → CW → (ZRes → CW → Prop) → Prop) (as : List ZA) (w : CW) (Q : ZRes → CW → Prop) : Prop := match as with
  | [.inr (.inr x0), .inl x1, .inr (.inr x2), .inr (.inr x3), .inr (.inr x4)] => pC_X10_row_0 p call (fun w => Q (.inl none) w) x0 x1 x2 x3 x4 w
  | _ => False
def eC_X10_by (p : Nat) (call : Nat → List ZA → CW → (ZRes → CW → Prop) → Prop) (as : List ZA) (w : CW) (Q : ZRes → CW → Prop) : Prop := match as with
  | [.inr (.inr x0), .inr (.inr x1), .inr (.inr x2)] => pC_X10_by_0 p call (fun v w => Q (.inl (some (ai v))) w) x0 x1 x2 w
  | _ => False
def eC_X10_holds (p : Nat) (call : Nat → List ZA → CW → (ZRes → CW → Prop) → Prop) (as : List ZA) (w : CW) (Q : ZRes → CW → Prop) : Prop := match as with
  | [.inr (.inr x0), .inr (.inr x1), .inr (.inr x2)] => pC_X10_holds_0 p call (fun v w => Q (.inl (some (ai v))) w) x0 x1 x2 w
  | _ => False
def eC_X11_init (p : Nat) (call : Nat → List ZA → CW → (ZRes → CW → Prop) → Prop) (as : List ZA) (w : CW) (Q : ZRes → CW → Prop) : Prop := match as with
  | [.inr (.inr x0), .inr (.inr x1)] => pC_X11_init_0 p call (fun w => Q (.inl none) w) x0 x1 w
  | _ => False
def eC_X11_ways (p : Nat) (call : Nat → List ZA → CW → (ZRes → CW → Prop) → Prop) (as : List ZA) (w : CW) (Q : ZRes → CW → Prop) : Prop := match as with
  | [.inr (.inr x0)] => pC_X11_ways_0 p call (fun v w => Q (.inl (some (ai v))) w) x0 w
  | _ => False
def eC_X11_row (p : Nat) (call : Nat → List ZA → CW → (ZRes → CW → Prop) → Prop) (as : List ZA) (w : CW) (Q : ZRes → CW → Prop) : Prop := match as with
  | [.inr (.inr x0), .inl x1, .inr (.inr x2), .inr (.inr x3), .inr (.inr x4)] => pC_X11_row_0 p call (fun w => Q (.inl none) w) x0 x1 x2 x3 x4 w
  | _ => False
def eC_X11_holds (p : Nat) (call : Nat → List ZA → CW → (ZRes → CW → Prop) → Prop) (as : List ZA) (w : CW) (Q : ZRes → CW → Prop) : Prop := match as with
  | [.inr (.inr x0), .inr (.inr x1), .inr (.inr x2)] => pC_X11_holds_0 p call (fun v w => Q (.inl (some (ai v))) w) x0 x1 x2 w
  | _ => False
def eC_X12_init (p : Nat) (call : Nat → List ZA → CW → (ZRes → CW → Prop) → Prop) (as : List ZA) (w : CW) (Q : ZRes → CW → Prop) : Prop := match as with
  | [.inr (.inr x0), .inr (.inl x1)] => pC_X12_init_0 p call (fun w => Q (.inl none) w) x0 x1 w
  | _ => False
def eC_X12_by (p : Nat) (call : Nat → List ZA → CW → (ZRes → CW → Prop) → Prop) (as : List ZA) (w : CW) (Q : ZRes → CW → Prop) : Prop := match as with
  | [.inr (.inr x0), .inr (.inr x1), .inr (.inr x2)] => pC_X12_by_0 p call (fun v w => Q (.inl (some (ai v))) w) x0 x1 x2 w
  | _ => False
def eC_X12_holds (p : Nat) (call : Nat → List ZA → CW → (ZRes → CW → Prop) → Prop) (as : List ZA) (w : CW) (Q : ZRes → CW → Prop) : Prop := match as with
  | [.inr (.inr x0), .inr (.inr x1), .inr (.inr x2)] => pC_X12_holds_0 p call (fun v w => Q (.inl (some (ai v))) w) x0 x1 w
  | _ => False
def eC_X13_init (p : Nat) (call : Nat → List ZA → CW → (ZRes → CW → Prop) → Prop) (as : List ZA) (w : CW) (Q : ZRes → CW → Prop) : Prop := match as with
  | [.inr (.inr x0), .inl x1] => pC_X13_init_0 p call (fun w => Q (.inl none) w) x0 x1 w
  | _ => False
def eC_X13_by (p : Nat) (call : Nat → List ZA → CW → (ZRes → CW → Prop) → Prop) (as : List ZA) (w : CW) (Q : ZRes → CW → Prop) : Prop := match as with
  | [.inr (.inr x0), .inr (.inr x1), .inr (.inr x2)] => pC_X13_by_0 p call (fun v w => Q (.inl (some (ai v))) w) x0 x1 x2 w
  | _ => False
def eC_X13_holds (p : Nat) (call : Nat → List ZA → CW → (ZRes → CW → Prop) → Prop) (as : List ZA) (w : CW) (Q : ZRes → CW → Prop) : Prop := match as with
  | [.inr (.inr x0), .inr (.inr x1), .inr (.inr x2)] => pC_X13_holds_0 p call (fun v w => Q (.inl (some (ai v))) w) x0 x1 w
  | _ => False
def eC_X14_init (p : Nat) (call : Nat → List ZA → CW → (ZRes → CW → Prop) → Prop) (as : List ZA) (w : CW) (Q : ZRes → CW → Prop) : Prop := match as with
  | [.inr (.inr x0)] => pC_X14_init_0 p call (fun w => Q (.inl none) w) x0 w
  | _ => False
def eC_X14_by (p : Nat) (call : Nat → List ZA → CW → (ZRes → CW → Prop) → Prop) (as : List ZA) (w : CW) (Q : ZRes → CW → Prop) : Prop := match as with
  | [.inr (.inr x0), .inr (.inr x1), .inr (.inr x2)] => pC_X14_by_0 p call (fun v w => Q (.inl (some (ai v))) w) x1 x2 w
  | _ => False
def eC_X14_holds (p : Nat) (call : Nat → List ZA → CW → (ZRes → CW → Prop) → Prop) (as : List ZA) (w : CW) (Q : ZRes → CW → Prop) : Prop := match as with
  | [.inr (.inr x0), .inr (.inr x1), .inr (.inr x2)] => pC_X14_holds_0 p call (fun v w => Q (.inl (some (ai v))) w) x1 w
  | _ => False
def eC_X15_init (p : Nat) (call : Nat → List ZA → CW → (ZRes → CW → Prop) → Prop) (as : List ZA) (w : CW) (Q : ZRes → CW → Prop) : Prop := match as with
  | [.inr (.inr x0)] => pC_X15_init_0 p call (fun w => Q (.inl none) w) x0 w
  | _ => False
def eC_X15_holds (p : Nat) (call : Nat → List ZA → CW → (ZRes → CW → Prop) → Prop) (as : List ZA) (w : CW) (Q : ZRes → CW → Prop) : Prop := match as with
  | [.inr (.inr x0), .inr (.inr x1)] => pC_X15_holds_0 p call (fun v w => Q (.inl (some (ai v))) w) (fun x w => Q (.inr x) w) x0 x1 w
  | _ => False
def eC_X15_sum (p : Nat) (call : Nat → List ZA → CW → (ZRes → CW → Prop) → Prop) (as : List ZA) (w : CW) (Q : ZRes → CW → Prop) : Prop := match as with
  | [.inr (.inr x0), .inl x1, .inr (.inr x2)] => pC_X15_sum_0 p call (fun v w => Q (.inl (some (ai v))) w) (fun x w => Q (.inr x) w) x0 x1 x2 w
  | _ => False
def eC_X15_term (p : Nat) (call : Nat → List ZA → CW → (ZRes → CW → Prop) → Prop) (as : List ZA) (w : CW) (Q : ZRes → CW → Prop) : Prop := match as with
  | [.inr (.inr x0), .inl x1, .inr (.inr x2)] => pC_X15_term_0 p call (fun v w => Q (.inl (some (ai v))) w) x0 x1 x2 w
  | _ => False
def eC_X16_init (p : Nat) (call : Nat → List ZA → CW → (ZRes → CW → Prop) → Prop) (as : List ZA) (w : CW) (Q : ZRes → CW → Prop) : Prop := match as with
  | [.inr (.inr x0), .inr (.inr x1)] => pC_X16_init_0 p call (fun w => Q (.inl none) w) x0 x1 w
  | _ => False
def eC_X16_add (p : Nat) (call : Nat → List ZA → CW → (ZRes → CW → Prop) → Prop) (as : List ZA) (w : CW) (Q : ZRes → CW → Prop) : Prop := match as with
  | [.inr (.inr x0), .inr (.inr x1), .inr (.inr x2)] => pC_X16_add_0 p call (fun w => Q (.inl none) w) x0 x1 x2 w
  | _ => False
def eC_X16_isOut (p : Nat) (call : Nat → List ZA → CW → (ZRes → CW → Prop) → Prop) (as : List ZA) (w : CW) (Q : ZRes → CW → Prop) : Prop := match as with
  | [.inr (.inr x0), .inr (.inr x1)] => pC_X16_isOut_0 p call (fun v w => Q (.inl (some (ai v))) w) x0 x1 w
  | _ => False
def eC_X16_asked (p : Nat) (call : Nat → List ZA → CW → (ZRes → CW → Prop) → Prop) (as : List ZA) (w : CW) (Q : ZRes → CW → Prop) : Prop := match as with
  | [.inr (.inr x0), .inr (.inr x1), .inr (.inr x2)] => pC_X16_asked_0 p call (fun v w => Q (.inl (some (ai v))) w) x0 x1 x2 w
  | _ => False
def eC_X16_left (p : Nat) (call : Nat → List ZA → CW → (ZRes → CW → Prop) → Prop) (as : List ZA) (w : CW) (Q : ZRes → CW → Prop) : Prop := match as with
  | [.inr (.inr x0), .inr (.inr x1), .inr (.inr x2)] => pC_X16_left_0 p call (fun v w => Q (.inl (some (ar v))) w) x0 x1 x2 w
  | _ => False
def eC_X17_init (p : Nat) (call : Nat → List ZA → CW → (ZRes → CW → Prop) → Prop) (as : List ZA) (w : CW) (Q : ZRes → CW → Prop) : Prop := match as with
  | [.inr (.inr x0), .inr (.inr x1), .inr (.inr x2), .inl x3, .inl x4, .inl x5] => pC_X17_init_0 p call (fun w => Q (.inl none) w) x0 x1 x2 x3 x4 x5 w
  | _ => False
def eC_X17_isWithin (p : Nat) (call : Nat → List ZA → CW → (ZRes → CW → Prop) → Prop) (as : List ZA) (w : CW) (Q : ZRes → CW → Prop) : Prop := match as with
  | [.inr (.inr x0), .inr (.inr x1)] => pC_X17_isWithin_0 p call (fun v w => Q (.inl (some (ai v))) w) x0 x1 w
  | _ => False
def eC_X17_of (p : Nat) (call : Nat → List ZA → CW → (ZRes → CW → Prop) → Prop) (as : List ZA) (w : CW) (Q : ZRes → CW → Prop) : Prop := match as with
  | [.inr (.inr x0), .inr (.inr x1)] => pC_X17_of_0 p call (fun v w => Q (.inl (some (ar v))) w) x0 x1 w
  | _ => False
def eC_X18_init (p : Nat) (call : Nat → List ZA → CW → (ZRes → CW → Prop) → Prop) (as : List ZA) (w : CW) (Q : ZRes → CW → Prop) : Prop := match as with
  | [.inr (.inr x0), .inr (.inr x1), .inr (.inr x2), .inl x3] => pC_X18_init_0 p call (fun w => Q (.inl none) w) x0 x1 x2 x3 w
  | _ => False
def eC_X18_make (p : Nat) (call : Nat → List ZA → CW → (ZRes → CW → Prop) → Prop) (as : List ZA) (w : CW) (Q : ZRes → CW → Prop) : Prop := match as with
  | [.inr (.inr x0), .inr (.inr x1), .inl x2] => pC_X18_make_0 p call (fun v w => Q (.inl (some (ar v))) w) (fun x w => Q (.inr x) w) x0 x1 x2 w
  | _ => False
def eC_X18_ends (p : Nat) (call : Nat → List ZA → CW → (ZRes → CW → Prop) → Prop) (as : List ZA) (w : CW) (Q : ZRes → CW → Prop) : Prop := match as with
  | [.inr (.inr x0), .inl x1, .inr (.inr x2), .inl x3] => pC_X18_ends_0 p call (fun v w => Q (.inl (some (ar v))) w) (fun x w => Q (.inr x) w) x0 x1 x2 x3 w
  | _ => False
def eC_X18_chosen (p : Nat) (call : Nat → List ZA → CW → (ZRes → CW → Prop) → Prop) (as : List ZA) (w : CW) (Q : ZRes → CW → Prop) : Prop := match as with
  | [.inr (.inr x0), .inr (.inr x1), .inl x2, .inl x3] => pC_X18_chosen_0 p call (fun v w => Q (.inl (some (ar v))) w) x0 x1 x2 x3 w
  | _ => False
def eC_X18_wanted (p : Nat) (call : Nat → List ZA → CW → (ZRes → CW → Prop) → Prop) (as : List ZA) (w : CW) (Q : ZRes → CW → Prop) : Prop := match as with
  | [.inr (.inr x0), .inr (.inr x1), .inl x2, .inr (.inr x3)] => pC_X18_wanted_0 p call (fun v w => Q (.inl (some (ai v))) w) x0 x1 x2 x3 w
  | _ => False
def eC_X18_branches (p : Nat) (call : Nat → List ZA → CW → (ZRes → CW → Prop) → Prop) (as : List ZA) (w : CW) (Q : ZRes → CW → Prop) : Prop := match as with
  | [.inr (.inr x0), .inr (.inr x1), .inl x2, .inr (.inr x3)] => pC_X18_branches_0 p call (fun v w => Q (.inl (some (ai v))) w) x0 x1 x2 x3 w
  | _ => False
def eC_X18_leafMany (p : Nat) (call : Nat → List ZA → CW → (ZRes → CW → Prop) → Prop) (as : List ZA) (w : CW) (Q : ZRes → CW → Prop) : Prop := match as with
  | [.inr (.inr x0), .inl x1] => pC_X18_leafMany_0 p call (fun v w => Q (.inl (some (ai v))) w) x0 x1 w
  | _ => False
def eC_X18_textMany (p : Nat) (call : Nat → List ZA → CW → (ZRes → CW → Prop) → Prop) (as : List ZA) (w : CW) (Q : ZRes → CW → Prop) : Prop := match as with
  | [.inr (.inr x0), .inr (.inr x1), .inl x2, .inr (.inr x3)] => pC_X18_textMany_0 p call (fun v w => Q (.inl (some (ai v))) w) x0 x1 x2 x3 w
  | _ => False
def eC_X18_borderMany (p : Nat) (call : Nat → List ZA → CW → (ZRes → CW → Prop) → Prop) (as : List ZA) (w : CW) (Q : ZRes → CW → Prop) : Prop := match as with
  | [.inr (.inr x0), .inr (.inr x1), .inl x2, .inr (.inr x3)] => pC_X18_borderMany_0 p call (fun v w => Q (.inl (some (ai v))) w) x0 x1 x2 x3 w
  | _ => False
def eC_X18_put (p : Nat) (call : Nat → List ZA → CW → (ZRes → CW → Prop) → Prop) (as : List ZA) (w : CW) (Q : ZRes → CW → Prop) : Prop := match as with
  | [.inr (.inr x0), .inr (.inr x1), .inl x2, .inl x3] => pC_X18_put_0 p call (fun v w => Q (.inl (some (ai v))) w) x1 x2 x3 w
  | _ => False
def eC_X18_byKind (p : Nat) (call : Nat → List ZA → CW → (ZRes → CW → Prop) → Prop) (as : List ZA) (w : CW) (Q : ZRes → CW → Prop) : Prop := match as with
  | [.inr (.inr x0), .inl x1, .inr (.inr x2), .inr (.inr x3), .inl x4] => pC_X18_byKind_0 p call (fun v w => Q (.inl (some (ar v))) w) (fun x w => Q (.inr x) w) x0 x1 x2 x3 x4 w
  | _ => False
def eC_X18_leaves (p : Nat) (call : Nat → List ZA → CW → (ZRes → CW → Prop) → Prop) (as : List ZA) (w : CW) (Q : ZRes → CW → Prop) : Prop := match as with
  | [.inr (.inr x0), .inl x1] => pC_X18_leaves_0 p call (fun v w => Q (.inl (some (ar v))) w) x0 x1 w
  | _ => False
def eC_X18_byTruth (p : Nat) (call : Nat → List ZA → CW → (ZRes → CW → Prop) → Prop) (as : List ZA) (w : CW) (Q : ZRes → CW → Prop) : Prop := match as with
  | [.inr (.inr x0), .inl x1, .inr (.inr x2), .inr (.inr x3), .inl x4] => pC_X18_byTruth_0 p call (fun v w => Q (.inl (some (ar v))) w) (fun x w => Q (.inr x) w) x0 x1 x2 x3 x4 w
  | _ => False
def eC_X18_byText (p : Nat) (call : Nat → List ZA → CW → (ZRes → CW → Prop) → Prop) (as : List ZA) (w : CW) (Q : ZRes → CW → Prop) : Prop := match as with
  | [.inr (.inr x0), .inl x1, .inr (.inr x2), .inr (.inr x3), .inl x4] => pC_X18_byText_0 p call (fun v w => Q (.inl (some (ar v))) w) (fun x w => Q (.inr x) w) x0 x1 x2 x3 x4 w
  | _ => False
def eC_X18_texts (p : Nat) (call : Nat → List ZA → CW → (ZRes → CW → Prop) → Prop) (as : List ZA) (w : CW) (Q : ZRes → CW → Prop) : Prop := match as with
  | [.inr (.inr x0), .inr (.inr x1), .inl x2, .inr (.inr x3)] => pC_X18_texts_0 p call (fun v w => Q (.inl (some (ar v))) w) x0 x1 x2 x3 w
  | _ => False
def eC_X18_byWhole (p : Nat) (call : Nat → List ZA → CW → (ZRes → CW → Prop) → Prop) (as : List ZA) (w : CW) (Q : ZRes → CW → Prop) : Prop := match as with
  | [.inr (.inr x0), .inl x1, .inr (.inr x2), .inr (.inr x3), .inl x4] => pC_X18_byWhole_0 p call (fun v w => Q (.inl (some (ar v))) w) (fun x w => Q (.inr x) w) x0 x1 x2 x3 x4 w
  | _ => False
def eC_X18_borders (p : Nat) (call : Nat → List ZA → CW → (ZRes → CW → Prop) → Prop) (as : List ZA) (w : CW) (Q : ZRes → CW → Prop) : Prop := match as with
  | [.inr (.inr x0), .inr (.inr x1), .inl x2, .inr (.inr x3)] => pC_X18_borders_0 p call (fun v w => Q (.inl (some (ar v))) w) x0 x1 x2 x3 w
  | _ => False
def eC_X19_init (p : Nat) (call : Nat → List ZA → CW → (ZRes → CW → Prop) → Prop) (as : List ZA) (w : CW) (Q : ZRes → CW → Prop) : Prop := match as with
  | [.inr (.inr x0), .inl x1] => pC_X19_init_0 p call (fun w => Q (.inl none) w) x0 x1 w
  | _ => False
def eC_X19_isOut (p : Nat) (call : Nat → List ZA → CW → (ZRes → CW → Prop) → Prop) (as : List ZA) (w : CW) (Q : ZRes → CW → Prop) : Prop := match as with
  | [.inr (.inr x0), .inr (.inr x1), .inr (.inl x2)] => pC_X19_isOut_0 p call (fun v w => Q (.inl (some (ai v))) w) x0 x1 x2 w
  | _ => False
def eC_X20_init (p : Nat) (call : Nat → List ZA → CW → (ZRes → CW → Prop) → Prop) (as : List ZA) (w : CW) (Q : ZRes → CW → Prop) : Prop := match as with
  | [.inr (.inr x0)] => pC_X20_init_0 p call (fun w => Q (.inl none) w) x0 w
  | _ => False
def eC_X21_init (p : Nat) (call : Nat → List ZA → CW → (ZRes → CW → Prop) → Prop) (as : List ZA) (w : CW) (Q : ZRes → CW → Prop) : Prop := match as with
  | [.inr (.inr x0), .inl x1] => pC_X21_init_0 p call (fun w => Q (.inl none) w) x0 x1 w
  | _ => False
def eC_X21_many (p : Nat) (call : Nat → List ZA → CW → (ZRes → CW → Prop) → Prop) (as : List ZA) (w : CW) (Q : ZRes → CW → Prop) : Prop := match as with
  | [.inr (.inr x0)] => pC_X21_many_0 p call (fun v w => Q (.inl (some (ai v))) w) x0 w
  | _ => False
def eC_X21_depth (p : Nat) (call : Nat → List ZA → CW → (ZRes → CW → Prop) → Prop) (as : List ZA) (w : CW) (Q : ZRes → CW → Prop) : Prop := match as with
  | [.inr (.inr x0)] => pC_X21_depth_0 p call (fun v w => Q (.inl (some (ai v))) w) x0 w
  | _ => False
def eC_X21_find (p : Nat) (call : Nat → List ZA → CW → (ZRes → CW → Prop) → Prop) (as : List ZA) (w : CW) (Q : ZRes → CW → Prop) : Prop := match as with
  | [.inr (.inr x0), .inl x1] => pC_X21_find_0 p call (fun v w => Q (.inl (some (ar v))) w) x0 x1 w
  | _ => False
def eC_X21_what (p : Nat) (call : Nat → List ZA → CW → (ZRes → CW → Prop) → Prop) (as : List ZA) (w : CW) (Q : ZRes → CW → Prop) : Prop := match as with
  | [.inr (.inr x0)] => pC_X21_what_0 p call (fun v w => Q (.inl (some (ai v))) w) w
  | _ => False
def eC_X21_rule (p : Nat) (call : Nat → List ZA → CW → (ZRes → CW → Prop) → Prop) (as : List ZA) (w : CW) (Q : ZRes → CW → Prop) : Prop := match as with
  | [.inr (.inr x0)] => pC_X21_rule_0 p call (fun v w => Q (.inl (some (ar v))) w) w
  | _ => False
def eC_X21_place (p : Nat) (call : Nat → List ZA → CW → (ZRes → CW → Prop) → Prop) (as : List ZA) (w : CW) (Q : ZRes → CW → Prop) : Prop := match as with
  | [.inr (.inr x0)] => pC_X21_place_0 p call (fun v w => Q (.inl (some (ar v))) w) w
  | _ => False
def eC_X21_has (p : Nat) (call : Nat → List ZA → CW → (ZRes → CW → Prop) → Prop) (as : List ZA) (w : CW) (Q : ZRes → CW → Prop) : Prop := match as with
  | [.inr (.inr x0), .inr (.inr x1)] => pC_X21_has_0 p call (fun v w => Q (.inl (some (ai v))) w) x0 x1 w
  | _ => False
def eC_X21_go (p : Nat) (call : Nat → List ZA → CW → (ZRes → CW → Prop) → Prop) (as : List ZA) (w : CW) (Q : ZRes → CW → Prop) : Prop := match as with
  | [.inr (.inr x0), .inr (.inr x1)] => pC_X21_go_0 p call (fun v w => Q (.inl (some (ar v))) w) w
  | _ => False
def eC_X22_init (p : Nat) (call : Nat → List ZA → CW → (ZRes → CW → Prop) → Prop) (as : List ZA) (w : CW) (Q : ZRes → CW → Prop) : Prop := match as with
  | [.inr (.inr x0), .inl x1] => pC_X22_init_0 p call (fun w => Q (.inl none) w) x0 x1 w
  | _ => False
def eC_X23_init (p : Nat) (call : Nat → List ZA → CW → (ZRes → CW → Prop) → Prop) (as : List ZA) (w : CW) (Q : ZRes → CW → Prop) : Prop := match as with
  | [.inr (.inr x0), .inl x1, .inr (.inr x2)] => pC_X23_init_0 p call (fun w => Q (.inl none) w) x0 x1 x2 w
  | _ => False
def eC_X23_what (p : Nat) (call : Nat → List ZA → CW → (ZRes → CW → Prop) → Prop) (as : List ZA) (w : CW) (Q : ZRes → CW → Prop) : Prop := match as with
  | [.inr (.inr x0)] => pC_X23_what_0 p call (fun v w => Q (.inl (some (ai v))) w) w
  | _ => False
def eC_X23_rule (p : Nat) (call : Nat → List ZA → CW → (ZRes → CW → Prop) → Prop) (as : List ZA) (w : CW) (Q : ZRes → CW → Prop) : Prop := match as with
  | [.inr (.inr x0)] => pC_X23_rule_0 p call (fun v w => Q (.inl (some (ar v))) w) x0 w
  | _ => False
def eC_X23_binds (p : Nat) (call : Nat → List ZA → CW → (ZRes → CW → Prop) → Prop) (as : List ZA) (w : CW) (Q : ZRes → CW → Prop) : Prop := match as with
  | [.inr (.inr x0), .inr (.inr x1), .inr (.inr x2)] => pC_X23_binds_0 p call (fun w => Q (.inl none) w) x0 x1 x2 w
  | _ => False
def eC_X24_init (p : Nat) (call : Nat → List ZA → CW → (ZRes → CW → Prop) → Prop) (as : List ZA) (w : CW) (Q : ZRes → CW → Prop) : Prop := match as with
  | [.inr (.inr x0), .inl x1, .inr (.inr x2)] => pC_X24_init_0 p call (fun w => Q (.inl none) w) x0 x1 x2 w
  | _ => False
def eC_X24_what (p : Nat) (call : Nat → List ZA → CW → (ZRes → CW → Prop) → Prop) (as : List ZA) (w : CW) (Q : ZRes → CW → Prop) : Prop := match as with
  | [.inr (.inr x0)] => pC_X24_what_0 p call (fun v w => Q (.inl (some (ai v))) w) w
  | _ => False
def eC_X24_go (p : Nat) (call : Nat → List ZA → CW → (ZRes → CW → Prop) → Prop) (as : List ZA) (w : CW) (Q : ZRes → CW → Prop) : Prop := match as with
  | [.inr (.inr x0), .inr (.inr x1)] => pC_X24_go_0 p call (fun v w => Q (.inl (some (ar v))) w) x0 w
  | _ => False
def eC_X25_init (p : Nat) (call : Nat → List ZA → CW → (ZRes → CW → Prop) → Prop) (as : List ZA) (w : CW) (Q : ZRes → CW → Prop) : Prop := match as with
  | [.inr (.inr x0), .inl x1, .inr (.inr x2)] => pC_X25_init_0 p call (fun w => Q (.inl none) w) x0 x1 x2 w
  | _ => False
def eC_X25_place (p : Nat) (call : Nat → List ZA → CW → (ZRes → CW → Prop) → Prop) (as : List ZA) (w : CW) (Q : ZRes → CW → Prop) : Prop := match as with
  | [.inr (.inr x0)] => pC_X25_place_0 p call (fun v w => Q (.inl (some (ar v))) w) x0 w
  | _ => False
def eC_X26_init (p : Nat) (call : Nat → List ZA → CW → (ZRes → CW → Prop) → Prop) (as : List ZA) (w : CW) (Q : ZRes → CW → Prop) : Prop := match as with
  | [.inr (.inr x0), .inl x1, .inr (.inr x2), .inr (.inr x3)] => pC_X26_init_0 p call (fun w => Q (.inl none) w) x0 x1 x2 x3 w
  | _ => False
def eC_X26_what (p : Nat) (call : Nat → List ZA → CW → (ZRes → CW → Prop) → Prop) (as : List ZA) (w : CW) (Q : ZRes → CW → Prop) : Prop := match as with
  | [.inr (.inr x0)] => pC_X26_what_0 p call (fun v w => Q (.inl (some (ai v))) w) w
  | _ => False
def eC_X26_go (p : Nat) (call : Nat → List ZA → CW → (ZRes → CW → Prop) → Prop) (as : List ZA) (w : CW) (Q : ZRes → CW → Prop) : Prop := match as with
  | [.inr (.inr x0), .inr (.inr x1)] => pC_X26_go_0 p call (fun v w => Q (.inl (some (ar v))) w) x0 x1 w
  | _ => False
def eC_X27_init (p : Nat) (call : Nat → List ZA → CW → (ZRes → CW → Prop) → Prop) (as : List ZA) (w : CW) (Q : ZRes → CW → Prop) : Prop := match as with
  | [.inr (.inr x0), .inl x1, .inr (.inr x2)] => pC_X27_init_0 p call (fun w => Q (.inl none) w) x0 x1 x2 w
  | _ => False
def eC_X27_what (p : Nat) (call : Nat → List ZA → CW → (ZRes → CW → Prop) → Prop) (as : List ZA) (w : CW) (Q : ZRes → CW → Prop) : Prop := match as with
  | [.inr (.inr x0)] => pC_X27_what_0 p call (fun v w => Q (.inl (some (ai v))) w) w
  | _ => False
def eC_X27_go (p : Nat) (call : Nat → List ZA → CW → (ZRes → CW → Prop) → Prop) (as : List ZA) (w : CW) (Q : ZRes → CW → Prop) : Prop := match as with
  | [.inr (.inr x0), .inr (.inr x1)] => pC_X27_go_0 p call (fun v w => Q (.inl (some (ar v))) w) x0 x1 w
  | _ => False
def eC_X28_init (p : Nat) (call : Nat → List ZA → CW → (ZRes → CW → Prop) → Prop) (as : List ZA) (w : CW) (Q : ZRes → CW → Prop) : Prop := match as with
  | [.inr (.inr x0), .inl x1, .inr (.inr x2), .inr (.inr x3)] => pC_X28_init_0 p call (fun w => Q (.inl none) w) x0 x1 x2 x3 w
  | _ => False
def eC_X28_what (p : Nat) (call : Nat → List ZA → CW → (ZRes → CW → Prop) → Prop) (as : List ZA) (w : CW) (Q : ZRes → CW → Prop) : Prop := match as with
  | [.inr (.inr x0)] => pC_X28_what_0 p call (fun v w => Q (.inl (some (ai v))) w) w
  | _ => False
def eC_X28_go (p : Nat) (call : Nat → List ZA → CW → (ZRes → CW → Prop) → Prop) (as : List ZA) (w : CW) (Q : ZRes → CW → Prop) : Prop := match as with
  | [.inr (.inr x0), .inr (.inr x1)] => pC_X28_go_0 p call (fun v w => Q (.inl (some (ar v))) w) x0 x1 w
  | _ => False
def eC_X29_init (p : Nat) (call : Nat → List ZA → CW → (ZRes → CW → Prop) → Prop) (as : List ZA) (w : CW) (Q : ZRes → CW → Prop) : Prop := match as with
  | [.inr (.inr x0), .inl x1, .inr (.inr x2), .inr (.inr x3)] => pC_X29_init_0 p call (fun w => Q (.inl none) w) x0 x1 x2 x3 w
  | _ => False
def eC_X29_what (p : Nat) (call : Nat → List ZA → CW → (ZRes → CW → Prop) → Prop) (as : List ZA) (w : CW) (Q : ZRes → CW → Prop) : Prop := match as with
  | [.inr (.inr x0)] => pC_X29_what_0 p call (fun v w => Q (.inl (some (ai v))) w) w
  | _ => False
def eC_X29_go (p : Nat) (call : Nat → List ZA → CW → (ZRes → CW → Prop) → Prop) (as : List ZA) (w : CW) (Q : ZRes → CW → Prop) : Prop := match as with
  | [.inr (.inr x0), .inr (.inr x1)] => pC_X29_go_0 p call (fun v w => Q (.inl (some (ar v))) w) x0 x1 w
  | _ => False
def eC_X30_init (p : Nat) (call : Nat → List ZA → CW → (ZRes → CW → Prop) → Prop) (as : List ZA) (w : CW) (Q : ZRes → CW → Prop) : Prop := match as with
  | [.inr (.inr x0), .inl x1, .inl x2] => pC_X30_init_0 p call (fun w => Q (.inl none) w) x0 x1 x2 w
  | _ => False
def eC_X30_kind (p : Nat) (call : Nat → List ZA → CW → (ZRes → CW → Prop) → Prop) (as : List ZA) (w : CW) (Q : ZRes → CW → Prop) : Prop := match as with
  | [.inr (.inr x0)] => pC_X30_kind_0 p call (fun v w => Q (.inl (some (ar v))) w) w
  | _ => False
def eC_X30_told (p : Nat) (call : Nat → List ZA → CW → (ZRes → CW → Prop) → Prop) (as : List ZA) (w : CW) (Q : ZRes → CW → Prop) : Prop := match as with
  | [.inr (.inr x0)] => pC_X30_told_0 p call (fun v w => Q (.inl (some (ai v))) w) w
  | _ => False
def eC_X31_init (p : Nat) (call : Nat → List ZA → CW → (ZRes → CW → Prop) → Prop) (as : List ZA) (w : CW) (Q : ZRes → CW → Prop) : Prop := match as with
  | [.inr (.inr x0), .inl x1, .inl x2] => pC_X31_init_0 p call (fun w => Q (.inl none) w) x0 x1 x2 w
  | _ => False
def eC_X31_what (p : Nat) (call : Nat → List ZA → CW → (ZRes → CW → Prop) → Prop) (as : List ZA) (w : CW) (Q : ZRes → CW → Prop) : Prop := match as with
  | [.inr (.inr x0)] => pC_X31_what_0 p call (fun v w => Q (.inl (some (ai v))) w) w
  | _ => False
def eC_X31_told (p : Nat) (call : Nat → List ZA → CW → (ZRes → CW → Prop) → Prop) (as : List ZA) (w : CW) (Q : ZRes → CW → Prop) : Prop := match as with
  | [.inr (.inr x0)] => pC_X31_told_0 p call (fun v w => Q (.inl (some (ai v))) w) x0 w
  | _ => False
def eC_X31_isLike (p : Nat) (call : Nat → List ZA → CW → (ZRes → CW → Prop) → Prop) (as : List ZA) (w : CW) (Q : ZRes → CW → Prop) : Prop := match as with
  | [.inr (.inr x0), .inr (.inr x1)] => pC_X31_isLike_0 p call (fun v w => Q (.inl (some (ai v))) w) x0 x1 w
  | _ => False
def eC_X32_init (p : Nat) (call : Nat → List ZA → CW → (ZRes → CW → Prop) → Prop) (as : List ZA) (w : CW) (Q : ZRes → CW → Prop) : Prop := match as with
  | [.inr (.inr x0), .inl x1, .inl x2] => pC_X32_init_0 p call (fun w => Q (.inl none) w) x0 x1 x2 w
  | _ => False
def eC_X32_what (p : Nat) (call : Nat → List ZA → CW → (ZRes → CW → Prop) → Prop) (as : List ZA) (w : CW) (Q : ZRes → CW → Prop) : Prop := match as with
  | [.inr (.inr x0)] => pC_X32_what_0 p call (fun v w => Q (.inl (some (ai v))) w) w
  | _ => False
def eC_X33_init (p : Nat) (call : Nat → List ZA → CW → (ZRes → CW → Prop) → Prop) (as : List ZA) (w : CW) (Q : ZRes → CW → Prop) : Prop := match as with
  | [.inr (.inr x0), .inl x1, .inr (.inl x2)] => pC_X33_init_0 p call (fun w => Q (.inl none) w) x0 x1 x2 w
  | _ => False
def eC_X33_what (p : Nat) (call : Nat → List ZA → CW → (ZRes → CW → Prop) → Prop) (as : List ZA) (w : CW) (Q : ZRes → CW → Prop) : Prop := match as with
  | [.inr (.inr x0)] => pC_X33_what_0 p call (fun v w => Q (.inl (some (ai v))) w) w
  | _ => False
def eC_X33_told (p : Nat) (call : Nat → List ZA → CW → (ZRes → CW → Prop) → Prop) (as : List ZA) (w : CW) (Q : ZRes → CW → Prop) : Prop := match as with
  | [.inr (.inr x0)] => pC_X33_told_0 p call (fun v w => Q (.inl (some (ai v))) w) x0 w
  | _ => False
def eC_X33_isLike (p : Nat) (call : Nat → List ZA → CW → (ZRes → CW → Prop) → Prop) (as : List ZA) (w : CW) (Q : ZRes → CW → Prop) : Prop := match as with
  | [.inr (.inr x0), .inr (.inr x1)] => pC_X33_isLike_0 p call (fun v w => Q (.inl (some (ai v))) w) x0 x1 w
  | _ => False
def eC_X34_init (p : Nat) (call : Nat → List ZA → CW → (ZRes → CW → Prop) → Prop) (as : List ZA) (w : CW) (Q : ZRes → CW → Prop) : Prop := match as with
  | [.inr (.inr x0), .inl x1, .inl x2] => pC_X34_init_0 p call (fun w => Q (.inl none) w) x0 x1 x2 w
  | _ => False
def eC_X34_what (p : Nat) (call : Nat → List ZA → CW → (ZRes → CW → Prop) → Prop) (as : List ZA) (w : CW) (Q : ZRes → CW → Prop) : Prop := match as with
  | [.inr (.inr x0)] => pC_X34_what_0 p call (fun v w => Q (.inl (some (ai v))) w) w
  | _ => False
def eC_X34_isLike (p : Nat) (call : Nat → List ZA → CW → (ZRes → CW → Prop) → Prop) (as : List ZA) (w : CW) (Q : ZRes → CW → Prop) : Prop := match as with
  | [.inr (.inr x0), .inr (.inr x1)] => pC_X34_isLike_0 p call (fun v w => Q (.inl (some (ai v))) w) x0 x1 w
  | _ => False
def eC_X35_what (p : Nat) (call : Nat → List ZA → CW → (ZRes → CW → Prop) → Prop) (as : List ZA) (w : CW) (Q : ZRes → CW → Prop) : Prop := match as with
  | [.inr (.inr x0)] => pC_X35_what_0 p call (fun v w => Q (.inl (some (ai v))) w) w
  | _ => False
def eC_X35_kind (p : Nat) (call : Nat → List ZA → CW → (ZRes → CW → Prop) → Prop) (as : List ZA) (w : CW) (Q : ZRes → CW → Prop) : Prop := match as with
  | [.inr (.inr x0)] => pC_X35_kind_0 p call (fun v w => Q (.inl (some (ar v))) w) x0 w
  | _ => False
def eC_X35_init (p : Nat) (call : Nat → List ZA → CW → (ZRes → CW → Prop) → Prop) (as : List ZA) (w : CW) (Q : ZRes → CW → Prop) : Prop := match as with
  | [.inr (.inr x0), .inl x1, .inl x2, .inr (.inr x3), .inr (.inr x4)] => pC_X35_init_0 p call (fun w => Q (.inl none) w) x0 x1 x2 x3 x4 w
  | _ => False
def eC_X35_told (p : Nat) (call : Nat → List ZA → CW → (ZRes → CW → Prop) → Prop) (as : List ZA) (w : CW) (Q : ZRes → CW → Prop) : Prop := match as with
  | [.inr (.inr x0)] => pC_X35_told_0 p call (fun v w => Q (.inl (some (ai v))) w) x0 w
  | _ => False
def eC_X35_isLike (p : Nat) (call : Nat → List ZA → CW → (ZRes → CW → Prop) → Prop) (as : List ZA) (w : CW) (Q : ZRes → CW → Prop) : Prop := match as with
  | [.inr (.inr x0), .inr (.inr x1)] => pC_X35_isLike_0 p call (fun v w => Q (.inl (some (ai v))) w) x0 x1 w
  | _ => False
def eC_J0_init_2 (p : Nat) (call : Nat → List ZA → CW → (ZRes → CW → Prop) → Prop) (as : List ZA) (w : CW) (Q : ZRes → CW → Prop) : Prop := match as with
  | [.inr (.inr x0), .inr (.inr x1), .inr (.inr x2), .inl x3, .inl x4] => pC_J0_init_2_0 p call (fun w => Q (.inl none) w) x0 x1 x2 x3 x4 w
  | _ => False
def eC_J1_init (p : Nat) (call : Nat → List ZA → CW → (ZRes → CW → Prop) → Prop) (as : List ZA) (w : CW) (Q : ZRes → CW → Prop) : Prop := match as with
  | [.inr (.inr x0), .inr (.inr x1), .inr (.inr x2), .inl x3, .inl x4] => pC_J1_init_0 p call (fun w => Q (.inl none) w) x0 x1 x2 x3 x4 w
  | _ => False
def eC_J2_init (p : Nat) (call : Nat → List ZA → CW → (ZRes → CW → Prop) → Prop) (as : List ZA) (w : CW) (Q : ZRes → CW → Prop) : Prop := match as with
  | [.inr (.inr x0), .inr (.inr x1)] => pC_J2_init_0 p call (fun w => Q (.inl none) w) x0 x1 w
  | _ => False
def eC_J2_append (p : Nat) (call : Nat → List ZA → CW → (ZRes → CW → Prop) → Prop) (as : List ZA) (w : CW) (Q : ZRes → CW → Prop) : Prop := match as with
  | [.inr (.inr x0), .inr (.inr x1)] => pC_J2_append_0 p call (fun v w => Q (.inl (some (ar v))) w) x0 x1 w
  | _ => False
def eC_J2_ensureCapacityInternal (p : Nat) (call : Nat → List ZA → CW → (ZRes → CW → Prop) → Prop) (as : List ZA) (w : CW) (Q : ZRes → CW → Prop) : Prop := match as with
  | [.inr (.inr x0), .inl x1] => pC_J2_ensureCapacityInternal_0 p call (fun w => Q (.inl none) w) x0 x1 w
  | _ => False
def eC_J2_isLatin1 (p : Nat) (call : Nat → List ZA → CW → (ZRes → CW → Prop) → Prop) (as : List ZA) (w : CW) (Q : ZRes → CW → Prop) : Prop := match as with
  | [.inr (.inr x0)] => pC_J2_isLatin1_0 p call (fun v w => Q (.inl (some (ai v))) w) x0 w
  | _ => False
def eC_J2_putStringAt (p : Nat) (call : Nat → List ZA → CW → (ZRes → CW → Prop) → Prop) (as : List ZA) (w : CW) (Q : ZRes → CW → Prop) : Prop := match as with
  | [.inr (.inr x0), .inl x1, .inr (.inr x2)] => pC_J2_putStringAt_0 p call (fun w => Q (.inl none) w) x0 x1 x2 w
  | _ => False
def eC_J2_inflateIfNeededFor (p : Nat) (call : Nat → List ZA → CW → (ZRes → CW → Prop) → Prop) (as : List ZA) (w : CW) (Q : ZRes → CW → Prop) : Prop := match as with
  | [.inr (.inr x0), .inr (.inr x1)] => pC_J2_inflateIfNeededFor_0 p call (fun w => Q (.inl none) w) x0 x1 w
  | _ => False
def eC_J2_append_2 (p : Nat) (call : Nat → List ZA → CW → (ZRes → CW → Prop) → Prop) (as : List ZA) (w : CW) (Q : ZRes → CW → Prop) : Prop := match as with
  | [.inr (.inr x0), .inl x1] => pC_J2_append_2_0 p call (fun v w => Q (.inl (some (ar v))) w) x0 x1 w
  | _ => False
def eC_J2_getValue (p : Nat) (call : Nat → List ZA → CW → (ZRes → CW → Prop) → Prop) (as : List ZA) (w : CW) (Q : ZRes → CW → Prop) : Prop := match as with
  | [.inr (.inr x0)] => pC_J2_getValue_0 p call (fun v w => Q (.inl (some (ar v))) w) x0 w
  | _ => False
def eC_J2_length (p : Nat) (call : Nat → List ZA → CW → (ZRes → CW → Prop) → Prop) (as : List ZA) (w : CW) (Q : ZRes → CW → Prop) : Prop := match as with
  | [.inr (.inr x0)] => pC_J2_length_0 p call (fun v w => Q (.inl (some (ai v))) w) x0 w
  | _ => False
def eC_J3_init (p : Nat) (call : Nat → List ZA → CW → (ZRes → CW → Prop) → Prop) (as : List ZA) (w : CW) (Q : ZRes → CW → Prop) : Prop := match as with
  | [.inr (.inr x0), .inr (.inr x1)] => pC_J3_init_0 p call (fun w => Q (.inl none) w) x0 x1 w
  | _ => False
def eC_J3_append (p : Nat) (call : Nat → List ZA → CW → (ZRes → CW → Prop) → Prop) (as : List ZA) (w : CW) (Q : ZRes → CW → Prop) : Prop := match as with
  | [.inr (.inr x0), .inr (.inr x1)] => pC_J3_append_0 p call (fun v w => Q (.inl (some (ar v))) w) x0 x1 w
  | _ => False
def eC_J3_append_2 (p : Nat) (call : Nat → List ZA → CW → (ZRes → CW → Prop) → Prop) (as : List ZA) (w : CW) (Q : ZRes → CW → Prop) : Prop := match as with
  | [.inr (.inr x0), .inr (.inr x1)] => pC_J3_append_2_0 p call (fun v w => Q (.inl (some (ar v))) w) x0 x1 w
  | _ => False
def eC_J3_append_3 (p : Nat) (call : Nat → List ZA → CW → (ZRes → CW → Prop) → Prop) (as : List ZA) (w : CW) (Q : ZRes → CW → Prop) : Prop := match as with
  | [.inr (.inr x0), .inl x1] => pC_J3_append_3_0 p call (fun v w => Q (.inl (some (ar v))) w) x0 x1 w
  | _ => False
def eC_J3_toString (p : Nat) (call : Nat → List ZA → CW → (ZRes → CW → Prop) → Prop) (as : List ZA) (w : CW) (Q : ZRes → CW → Prop) : Prop := match as with
  | [.inr (.inr x0)] => pC_J3_toString_0 p call (fun v w => Q (.inl (some (ar v))) w) x0 w
  | _ => False
def eC_J3_length (p : Nat) (call : Nat → List ZA → CW → (ZRes → CW → Prop) → Prop) (as : List ZA) (w : CW) (Q : ZRes → CW → Prop) : Prop := match as with
  | [.inr (.inr x0)] => pC_J3_length_0 p call (fun v w => Q (.inl (some (ai v))) w) x0 w
  | _ => False
def eC_J4_length (p : Nat) (call : Nat → List ZA → CW → (ZRes → CW → Prop) → Prop) (as : List ZA) (w : CW) (Q : ZRes → CW → Prop) : Prop := match as with
  | [.inr (.inr x0)] => pC_J4_length_0 p call (fun v w => Q (.inl (some (ai v))) w) x0 w
  | _ => False
def eC_J4_coder (p : Nat) (call : Nat → List ZA → CW → (ZRes → CW → Prop) → Prop) (as : List ZA) (w : CW) (Q : ZRes → CW → Prop) : Prop := match as with
  | [.inr (.inr x0)] => pC_J4_coder_0 p call (fun v w => Q (.inl (some (ai v))) w) x0 w
  | _ => False
def eC_J4_getBytes (p : Nat) (call : Nat → List ZA → CW → (ZRes → CW → Prop) → Prop) (as : List ZA) (w : CW) (Q : ZRes → CW → Prop) : Prop := match as with
  | [.inr (.inr x0), .inr (.inr x1), .inl x2, .inl x3] => pC_J4_getBytes_0 p call (fun w => Q (.inl none) w) x0 x1 x2 x3 w
  | _ => False
def eC_J4_checkIndex (p : Nat) (call : Nat → List ZA → CW → (ZRes → CW → Prop) → Prop) (as : List ZA) (w : CW) (Q : ZRes → CW → Prop) : Prop := match as with
  | [.inl x0, .inl x1] => pC_J4_checkIndex_0 p call (fun w => Q (.inl none) w) x0 x1 w
  | _ => False
def eC_J4_init (p : Nat) (call : Nat → List ZA → CW → (ZRes → CW → Prop) → Prop) (as : List ZA) (w : CW) (Q : ZRes → CW → Prop) : Prop := match as with
  | [.inr (.inr x0), .inr (.inr x1)] => pC_J4_init_0 p call (fun w => Q (.inl none) w) x0 x1 w
  | _ => False
def eC_J4_init_2 (p : Nat) (call : Nat → List ZA → CW → (ZRes → CW → Prop) → Prop) (as : List ZA) (w : CW) (Q : ZRes → CW → Prop) : Prop := match as with
  | [.inr (.inr x0), .inr (.inr x1), .inr (.inr x2)] => pC_J4_init_2_0 p call (fun w => Q (.inl none) w) x0 x1 w
  | _ => False
def eC_J4_contains (p : Nat) (call : Nat → List ZA → CW → (ZRes → CW → Prop) → Prop) (as : List ZA) (w : CW) (Q : ZRes → CW → Prop) : Prop := match as with
  | [.inr (.inr x0), .inr (.inr x1)] => pC_J4_contains_0 p call (fun v w => Q (.inl (some (ai v))) w) x0 x1 w
  | _ => False
def eC_J4_toString (p : Nat) (call : Nat → List ZA → CW → (ZRes → CW → Prop) → Prop) (as : List ZA) (w : CW) (Q : ZRes → CW → Prop) : Prop := match as with
  | [.inr (.inr x0)] => pC_J4_toString_0 p call (fun v w => Q (.inl (some (ar v))) w) x0 w
  | _ => False
def eC_J4_indexOf (p : Nat) (call : Nat → List ZA → CW → (ZRes → CW → Prop) → Prop) (as : List ZA) (w : CW) (Q : ZRes → CW → Prop) : Prop := match as with
  | [.inr (.inr x0), .inr (.inr x1)] => pC_J4_indexOf_0 p call (fun v w => Q (.inl (some (ai v))) w) x0 x1 w
  | _ => False
def eC_J4_isLatin1 (p : Nat) (call : Nat → List ZA → CW → (ZRes → CW → Prop) → Prop) (as : List ZA) (w : CW) (Q : ZRes → CW → Prop) : Prop := match as with
  | [.inr (.inr x0)] => pC_J4_isLatin1_0 p call (fun v w => Q (.inl (some (ai v))) w) x0 w
  | _ => False
def eC_J4_indexOf_2 (p : Nat) (call : Nat → List ZA → CW → (ZRes → CW → Prop) → Prop) (as : List ZA) (w : CW) (Q : ZRes → CW → Prop) : Prop := match as with
  | [.inr (.inr x0), .inl x1] => pC_J4_indexOf_2_0 p call (fun v w => Q (.inl (some (ai v))) w) x0 x1 w
  | _ => False
def eC_J4_indexOf_3 (p : Nat) (call : Nat → List ZA → CW → (ZRes → CW → Prop) → Prop) (as : List ZA) (w : CW) (Q : ZRes → CW → Prop) : Prop := match as with
  | [.inr (.inr x0), .inl x1, .inl x2] => pC_J4_indexOf_3_0 p call (fun v w => Q (.inl (some (ai v))) w) x0 x1 x2 w
  | _ => False
def eC_J4_charAt (p : Nat) (call : Nat → List ZA → CW → (ZRes → CW → Prop) → Prop) (as : List ZA) (w : CW) (Q : ZRes → CW → Prop) : Prop := match as with
  | [.inr (.inr x0), .inl x1] => pC_J4_charAt_0 p call (fun v w => Q (.inl (some (ai v))) w) x0 x1 w
  | _ => False
def eC_J8_copyOfRange (p : Nat) (call : Nat → List ZA → CW → (ZRes → CW → Prop) → Prop) (as : List ZA) (w : CW) (Q : ZRes → CW → Prop) : Prop := match as with
  | [.inr (.inr x0), .inl x1, .inl x2] => pC_J8_copyOfRange_0 p call (fun v w => Q (.inl (some (ar v))) w) x0 x1 x2 w
  | _ => False
def eC_J8_copyOfRangeByte (p : Nat) (call : Nat → List ZA → CW → (ZRes → CW → Prop) → Prop) (as : List ZA) (w : CW) (Q : ZRes → CW → Prop) : Prop := match as with
  | [.inr (.inr x0), .inl x1, .inl x2] => pC_J8_copyOfRangeByte_0 p call (fun v w => Q (.inl (some (ar v))) w) x0 x1 x2 w
  | _ => False
def eC_J8_checkLength (p : Nat) (call : Nat → List ZA → CW → (ZRes → CW → Prop) → Prop) (as : List ZA) (w : CW) (Q : ZRes → CW → Prop) : Prop := match as with
  | [.inl x0, .inl x1] => pC_J8_checkLength_0 p call (fun w => Q (.inl none) w) x0 x1 w
  | _ => False
def eC_J8_fill (p : Nat) (call : Nat → List ZA → CW → (ZRes → CW → Prop) → Prop) (as : List ZA) (w : CW) (Q : ZRes → CW → Prop) : Prop := match as with
  | [.inr (.inr x0), .inr (.inr x1)] => pC_J8_fill_0 p call (fun w => Q (.inl none) w) x0 x1 w
  | _ => False
def eC_J9_checkIndex (p : Nat) (call : Nat → List ZA → CW → (ZRes → CW → Prop) → Prop) (as : List ZA) (w : CW) (Q : ZRes → CW → Prop) : Prop := match as with
  | [.inl x0, .inl x1, .inr (.inr x2)] => pC_J9_checkIndex_0 p call (fun v w => Q (.inl (some (ai v))) w) x0 x1 x2 w
  | _ => False
def eC_J10_canEncode (p : Nat) (call : Nat → List ZA → CW → (ZRes → CW → Prop) → Prop) (as : List ZA) (w : CW) (Q : ZRes → CW → Prop) : Prop := match as with
  | [.inl x0] => pC_J10_canEncode_0 p call (fun v w => Q (.inl (some (ai v))) w) x0 w
  | _ => False
def eC_J10_indexOf (p : Nat) (call : Nat → List ZA → CW → (ZRes → CW → Prop) → Prop) (as : List ZA) (w : CW) (Q : ZRes → CW → Prop) : Prop := match as with
  | [.inr (.inr x0), .inr (.inr x1)] => pC_J10_indexOf_0 p call (fun v w => Q (.inl (some (ai v))) w) x0 x1 w
  | _ => False
def eC_J10_indexOf_2 (p : Nat) (call : Nat → List ZA → CW → (ZRes → CW → Prop) → Prop) (as : List ZA) (w : CW) (Q : ZRes → CW → Prop) : Prop := match as with
  | [.inr (.inr x0), .inl x1, .inr (.inr x2), .inl x3, .inl x4] => pC_J10_indexOf_2_0 p call (fun v w => Q (.inl (some (ai v))) w) x0 x1 x2 x3 x4 w
  | _ => False
def eC_J10_indexOf_3 (p : Nat) (call : Nat → List ZA → CW → (ZRes → CW → Prop) → Prop) (as : List ZA) (w : CW) (Q : ZRes → CW → Prop) : Prop := match as with
  | [.inr (.inr x0), .inl x1, .inl x2, .inl x3] => pC_J10_indexOf_3_0 p call (fun v w => Q (.inl (some (ai v))) w) x0 x1 x2 x3 w
  | _ => False
def eC_J10_canEncode_2 (p : Nat) (call : Nat → List ZA → CW → (ZRes → CW → Prop) → Prop) (as : List ZA) (w : CW) (Q : ZRes → CW → Prop) : Prop := match as with
  | [.inl x0] => pC_J10_canEncode_2_0 p call (fun v w => Q (.inl (some (ai v))) w) x0 w
  | _ => False
def eC_J10_indexOfChar (p : Nat) (call : Nat → List ZA → CW → (ZRes → CW → Prop) → Prop) (as : List ZA) (w : CW) (Q : ZRes → CW → Prop) : Prop := match as with
  | [.inr (.inr x0), .inl x1, .inl x2, .inl x3] => pC_J10_indexOfChar_0 p call (fun v w => Q (.inl (some (ai v))) w) x0 x1 x2 x3 w
  | _ => False
def eC_J10_charAt (p : Nat) (call : Nat → List ZA → CW → (ZRes → CW → Prop) → Prop) (as : List ZA) (w : CW) (Q : ZRes → CW → Prop) : Prop := match as with
  | [.inr (.inr x0), .inl x1] => pC_J10_charAt_0 p call (fun v w => Q (.inl (some (ai v))) w) x0 x1 w
  | _ => False
def tabC : List (Nat × (Nat → (Nat → List ZA → CW → (ZRes → CW → Prop) → Prop) → List ZA → CW → (ZRes → CW → Prop) → Prop)) := [(0, eC_X0_feed), (0, eC_X0_isIn), (0, eC_X0_read), (0, eC_X0_begin), (0, eC_X0_next), (0, eC_X0_blanks), (0, eC_X0_unit), (0, eC_X0_isSmall), (0, eC_X0_readLetters), (0, eC_X0_isFigure), (0, eC_X0_need), (0, eC_X0_quoted), (0, eC_X0_isWord), (0, eC_X0_readKind), (0, eC_X0_want), (0, eC_X0_named), (0, eC_X0_isSign), (0, eC_X0_readSort), (0, eC_X0_skip), (0, eC_X0_readFunction), (0, eC_X0_functionOf), (0, eC_X0_rule), (0, eC_X0_pattern), (0, eC_X0_plain), (0, eC_X0_nameAt), (0, eC_X0_bind), (0, eC_X0_range), (0, eC_X0_readWhole), (0, eC_X0_signed), (0, eC_X0_kinded), (0, eC_X0_isKind), (0, eC_X0_kindOf), (0, eC_X0_either), (0, eC_X0_binds), (0, eC_X0_guard), (0, eC_X0_sum), (0, eC_X0_term), (0, eC_X0_wholeName), (0, eC_X0_known), (0, eC_X0_answer), (0, eC_X0_isCall), (0, eC_X0_settle), (0, eC_X0_settleCall), (0, eC_X0_product), (0, eC_X0_clear), (0, eC_X0_fault), (0, eC_X0_add), (0, eC_X0_remake), (0, eC_X0_isFunction), (0, eC_X0_kind), (0, eC_X0_kindNamed), (0, eC_X0_function), (0, eC_X0_node), (0, eC_X0_isNode), (0, eC_X0_branch), (0, eC_X0_missing), (0, eC_X0_unreached), (0, eC_X0_whole), (0, eC_X0_keep), (0, eC_X0_truth), (0, eC_X0_letters), (0, eC_X0_nothing), (0, eC_X0_make), (0, eC_X0_isValue), (0, eC_X0_isOf), (0, eC_X0_value), (0, eC_X0_alike), (0, eC_X0_sort), (0, eC_X0_sorts), (0, eC_X0_run), (0, eC_X0_byTree), (0, eC_X0_asks), (0, eC_X0_plainly), (0, eC_X0_ends), (0, eC_X0_plain_2), (0, eC_X0_told), (0, eC_X0_guard_2), (0, eC_X0_bound), (0, eC_X0_init), (0, eC_X0_count), (0, eC_X1_init), (0, eC_X2_init), (0, eC_X3_init), (0, eC_X3_is), (0, eC_X4_init), (0, eC_X4_count), (0, eC_X4_lay), (0, eC_X4_place), (0, eC_X4_remake), (0, eC_X4_make), (0, eC_X5_init), (0, eC_X6_init), (0, eC_X6_ways), (0, eC_X6_row), (0, eC_X6_fits), (0, eC_X7_init), (0, eC_X7_holds), (0, eC_X8_init), (0, eC_X8_row), (0, eC_X9_init), (0, eC_X9_by), (0, eC_X9_holds), (0, eC_X10_init), (0, eC_X10_ways), (0, eC_X10_row), (0, eC_X10_by), (0, eC_X10_holds), (0, eC_X11_init), (0, eC_X11_ways), (0, eC_X11_row), (0, eC_X11_holds), (0, eC_X12_init), (0, eC_X12_by), (0, eC_X12_holds), (0, eC_X13_init), (0, eC_X13_by), (0, eC_X13_holds), (0, eC_X14_init), (0, eC_X14_by), (0, eC_X14_holds), (0, eC_X15_init), (0, eC_X15_holds), (7, eC_X15_sum), (0, eC_X15_term), (0, eC_X16_init), (0, eC_X16_add), (0, eC_X16_isOut), (0, eC_X16_asked), (0, eC_X16_left), (0, eC_X17_init), (0, eC_X17_isWithin), (0, eC_X17_of), (0, eC_X18_init), (0, eC_X18_make), (0, eC_X18_ends), (0, eC_X18_chosen), (0, eC_X18_wanted), (0, eC_X18_branches), (0, eC_X18_leafMany), (0, eC_X18_textMany), (0, eC_X18_borderMany), (0, eC_X18_put), (0, eC_X18_byKind), (0, eC_X18_leaves), (0, eC_X18_byTruth), (0, eC_X18_byText), (0, eC_X18_texts), (0, eC_X18_byWhole), (0, eC_X18_borders), (0, eC_X19_init), (0, eC_X19_isOut), (0, eC_X20_init), (0, eC_X21_init), (0, eC_X21_many), (0, eC_X21_depth), (0, eC_X21_find), (0, eC_X21_what), (0, eC_X21_rule), (0, eC_X21_place), (0, eC_X21_has), (0, eC_X21_go), (0, eC_X22_init), (0, eC_X23_init), (0, eC_X23_what), (0, eC_X23_rule), (0, eC_X23_binds), (0, eC_X24_init), (0, eC_X24_what), (0, eC_X24_go), (0, eC_X25_init), (0, eC_X25_place), (0, eC_X26_init), (0, eC_X26_what), (0, eC_X26_go), (0, eC_X27_init), (0, eC_X27_what), (0, eC_X27_go), (0, eC_X28_init), (0, eC_X28_what), (0, eC_X28_go), (0, eC_X29_init), (0, eC_X29_what), (0, eC_X29_go), (0, eC_X30_init), (0, eC_X30_kind), (0, eC_X30_told), (0, eC_X31_init), (0, eC_X31_what), (0, eC_X31_told), (0, eC_X31_isLike), (0, eC_X32_init), (0, eC_X32_what), (0, eC_X33_init), (0, eC_X33_what), (0, eC_X33_told), (0, eC_X33_isLike), (0, eC_X34_init), (0, eC_X34_what), (0, eC_X34_isLike), (0, eC_X35_what), (0, eC_X35_kind), (0, eC_X35_init), (0, eC_X35_told), (0, eC_X35_isLike), (0, eC_J0_init_2), (0, eC_J1_init), (0, eC_J2_init), (0, eC_J2_append), (0, eC_J2_ensureCapacityInternal), (0, eC_J2_isLatin1), (0, eC_J2_putStringAt), (0, eC_J2_inflateIfNeededFor), (0, eC_J2_append_2), (0, eC_J2_getValue), (0, eC_J2_length), (0, eC_J3_init), (0, eC_J3_append), (0, eC_J3_append_2), (0, eC_J3_append_3), (0, eC_J3_toString), (0, eC_J3_length), (0, eC_J4_length), (0, eC_J4_coder), (0, eC_J4_getBytes), (0, eC_J4_checkIndex), (0, eC_J4_init), (0, eC_J4_init_2), (0, eC_J4_contains), (0, eC_J4_toString), (0, eC_J4_indexOf), (0, eC_J4_isLatin1), (0, eC_J4_indexOf_2), (0, eC_J4_indexOf_3), (0, eC_J4_charAt), (0, eC_J8_copyOfRange), (0, eC_J8_copyOfRangeByte), (0, eC_J8_checkLength), (0, eC_J8_fill), (0, eC_J9_checkIndex), (0, eC_J10_canEncode), (0, eC_J10_indexOf), (0, eC_J10_indexOf_2), (0, eC_J10_indexOf_3), (0, eC_J10_canEncode_2), (0, eC_J10_indexOfChar), (0, eC_J10_charAt)]
def wpC (p : Nat) : Nat → Nat → List ZA → CW → (ZRes → CW → Prop) → Prop
  | 0, _, _, _, _ => False
  | d + 1, y, as, w, Q => match tabC[y]? with
    | some e => e.1 ≤ d ∧ e.2 p (wpC p d) as w Q
    | none => False
theorem wpC_none {p d : Nat} {as : List ZA} {w : CW} {Q : ZRes → CW → Prop} (h : wpC p d 9999 as w Q) : False := by
  cases d with
  | zero => exact h
  | succ d =>
    unfold wpC at h
    rw [show tabC[9999]? = none from rfl] at h
    exact h
def mtC : List (MethodName × Cond) := [(yX0_feed, Cond.code yX0_feed cX0_feed 5 (Option.some Jvm.ClassFile.FieldType.int)), (yX0_isIn, Cond.code yX0_isIn cX0_isIn 6 (Option.some Jvm.ClassFile.FieldType.boolean)), (yX0_read, Cond.codeWith yX0_read cX0_read 3 (Option.some Jvm.ClassFile.FieldType.int) [(15, 127, 130, 61), (15, 127, 154, 443)]), (yX0_begin, Cond.code yX0_begin cX0_begin 1 (Option.none : Option Jvm.ClassFile.FieldType)), (yX0_next, Cond.code yX0_next cX0_next 3 (Option.none : Option Jvm.ClassFile.FieldType)), (yX0_blanks, Cond.code yX0_blanks cX0_blanks 1 (Option.none : Option Jvm.ClassFile.FieldType)), (yX0_unit, Cond.code yX0_unit cX0_unit 2 (Option.some Jvm.ClassFile.FieldType.int)), (yX0_isSmall, Cond.code yX0_isSmall cX0_isSmall 1 (Option.some Jvm.ClassFile.FieldType.boolean)), (yX0_readLetters, Cond.code yX0_readLetters cX0_readLetters 5 (Option.none : Option Jvm.ClassFile.FieldType)), (yX0_isFigure, Cond.code yX0_isFigure cX0_isFigure 1 (Option.some Jvm.ClassFile.FieldType.boolean)), (yX0_need, Cond.code yX0_need cX0_need 4 (Option.none : Option Jvm.ClassFile.FieldType)), (yX0_quoted, Cond.code yX0_quoted cX0_quoted 2 (Option.none : Option Jvm.ClassFile.FieldType)), (yX0_isWord, Cond.code yX0_isWord cX0_isWord 4 (Option.some Jvm.ClassFile.FieldType.boolean)), (yX0_readKind, Cond.code yX0_readKind cX0_readKind 7 (Option.none : Option Jvm.ClassFile.FieldType)), (yX0_want, Cond.code yX0_want cX0_want 2 (Option.none : Option Jvm.ClassFile.FieldType)), (yX0_named, Cond.code yX0_named cX0_named 4 (Option.some (Jvm.ClassFile.FieldType.object "LetterPost$Kind"))), (yX0_isSign, Cond.code yX0_isSign cX0_isSign 2 (Option.some Jvm.ClassFile.FieldType.boolean)), (yX0_readSort, Cond.code yX0_readSort cX0_readSort 3 (Option.some Jvm.ClassFile.FieldType.int)), (yX0_skip, Cond.code yX0_skip cX0_skip 2 (Option.none : Option Jvm.ClassFile.FieldType)), (yX0_readFunction, Cond.code yX0_readFunction cX0_readFunction 3 (Option.none : Option Jvm.ClassFile.FieldType)), (yX0_functionOf, Cond.code yX0_functionOf cX0_functionOf 4 (Option.some (Jvm.ClassFile.FieldType.object "LetterPost$Function"))), (yX0_rule, Cond.code yX0_rule cX0_rule 4 (Option.none : Option Jvm.ClassFile.FieldType)), (yX0_pattern, Cond.code yX0_pattern cX0_pattern 6 (Option.some (Jvm.ClassFile.FieldType.object "LetterPost$Pattern"))), (yX0_plain, Cond.code yX0_plain cX0_plain 6 (Option.some (Jvm.ClassFile.FieldType.object "LetterPost$Pattern"))), (yX0_nameAt, Cond.code yX0_nameAt cX0_nameAt 3 (Option.some Jvm.ClassFile.FieldType.int)), (yX0_bind, Cond.code yX0_bind cX0_bind 3 (Option.some Jvm.ClassFile.FieldType.int)), (yX0_range, Cond.code yX0_range cX0_range 4 (Option.some (Jvm.ClassFile.FieldType.object "LetterPost$Pattern"))), (yX0_readWhole, Cond.code yX0_readWhole cX0_readWhole 2 (Option.some Jvm.ClassFile.FieldType.int)), (yX0_signed, Cond.code yX0_signed cX0_signed 2 (Option.some Jvm.ClassFile.FieldType.int)), (yX0_kinded, Cond.code yX0_kinded cX0_kinded 6 (Option.some (Jvm.ClassFile.FieldType.object "LetterPost$Pattern"))), (yX0_isKind, Cond.code yX0_isKind cX0_isKind 1 (Option.some Jvm.ClassFile.FieldType.boolean)), (yX0_kindOf, Cond.code yX0_kindOf cX0_kindOf 2 (Option.some (Jvm.ClassFile.FieldType.object "LetterPost$Kind"))), (yX0_either, Cond.code yX0_either cX0_either 13 (Option.some (Jvm.ClassFile.FieldType.object "LetterPost$Pattern"))), (yX0_binds, Cond.code yX0_binds cX0_binds 2 (Option.some Jvm.ClassFile.FieldType.int)), (yX0_guard, Cond.code yX0_guard cX0_guard 2 (Option.some (Jvm.ClassFile.FieldType.object "LetterPost$Guard"))), (yX0_sum, Cond.code yX0_sum cX0_sum 3 (Option.none : Option Jvm.ClassFile.FieldType)), (yX0_term, Cond.code yX0_term cX0_term 3 (Option.none : Option Jvm.ClassFile.FieldType)), (yX0_wholeName, Cond.code yX0_wholeName cX0_wholeName 2 (Option.some Jvm.ClassFile.FieldType.int)), (yX0_known, Cond.code yX0_known cX0_known 2 (Option.some Jvm.ClassFile.FieldType.int)), (yX0_answer, Cond.code yX0_answer cX0_answer 5 (Option.none : Option Jvm.ClassFile.FieldType)), (yX0_isCall, Cond.code yX0_isCall cX0_isCall 2 (Option.some Jvm.ClassFile.FieldType.boolean)), (yX0_settle, Cond.code yX0_settle cX0_settle 5 (Option.none : Option Jvm.ClassFile.FieldType)), (yX0_settleCall, Cond.code yX0_settleCall cX0_settleCall 6 (Option.none : Option Jvm.ClassFile.FieldType)), (yX0_product, Cond.code yX0_product cX0_product 6 (Option.some Jvm.ClassFile.FieldType.int)), (yX0_clear, Cond.code yX0_clear cX0_clear 2 (Option.none : Option Jvm.ClassFile.FieldType)), (yX0_fault, Cond.code yX0_fault cX0_fault 1 (Option.some Jvm.ClassFile.FieldType.int)), (yX0_add, Cond.codeWith yX0_add cX0_add 4 (Option.some Jvm.ClassFile.FieldType.int) [(20, 76, 79, 61)]), (yX0_remake, Cond.codeWith yX0_remake cX0_remake 5 (Option.some Jvm.ClassFile.FieldType.int) [(29, 41, 42, 443)]), (yX0_isFunction, Cond.code yX0_isFunction cX0_isFunction 2 (Option.some Jvm.ClassFile.FieldType.boolean)), (yX0_kind, Cond.code yX0_kind cX0_kind 4 (Option.some Jvm.ClassFile.FieldType.int)), (yX0_kindNamed, Cond.code yX0_kindNamed cX0_kindNamed 4 (Option.some Jvm.ClassFile.FieldType.int)), (yX0_function, Cond.code yX0_function cX0_function 4 (Option.some Jvm.ClassFile.FieldType.int)), (yX0_node, Cond.code yX0_node cX0_node 5 (Option.some Jvm.ClassFile.FieldType.int)), (yX0_isNode, Cond.code yX0_isNode cX0_isNode 3 (Option.some Jvm.ClassFile.FieldType.boolean)), (yX0_branch, Cond.code yX0_branch cX0_branch 5 (Option.some Jvm.ClassFile.FieldType.int)), (yX0_missing, Cond.codeWith yX0_missing cX0_missing 3 (Option.some Jvm.ClassFile.FieldType.int) [(10, 33, 34, 443)]), (yX0_unreached, Cond.codeWith yX0_unreached cX0_unreached 4 (Option.some Jvm.ClassFile.FieldType.int) [(31, 64, 65, 443)]), (yX0_whole, Cond.code yX0_whole cX0_whole 2 (Option.some Jvm.ClassFile.FieldType.int)), (yX0_keep, Cond.code yX0_keep cX0_keep 2 (Option.some Jvm.ClassFile.FieldType.int)), (yX0_truth, Cond.code yX0_truth cX0_truth 2 (Option.some Jvm.ClassFile.FieldType.int)), (yX0_letters, Cond.code yX0_letters cX0_letters 6 (Option.some Jvm.ClassFile.FieldType.int)), (yX0_nothing, Cond.code yX0_nothing cX0_nothing 1 (Option.some Jvm.ClassFile.FieldType.int)), (yX0_make, Cond.code yX0_make cX0_make 11 (Option.some Jvm.ClassFile.FieldType.int)), (yX0_isValue, Cond.code yX0_isValue cX0_isValue 2 (Option.some Jvm.ClassFile.FieldType.boolean)), (yX0_isOf, Cond.code yX0_isOf cX0_isOf 3 (Option.some Jvm.ClassFile.FieldType.boolean)), (yX0_value, Cond.code yX0_value cX0_value 4 (Option.some Jvm.ClassFile.FieldType.int)), (yX0_alike, Cond.code yX0_alike cX0_alike 3 (Option.some Jvm.ClassFile.FieldType.int)), (yX0_sort, Cond.code yX0_sort cX0_sort 5 (Option.some Jvm.ClassFile.FieldType.int)), (yX0_sorts, Cond.code yX0_sorts cX0_sorts 9 (Option.some Jvm.ClassFile.FieldType.int)), (yX0_run, Cond.code yX0_run cX0_run 9 (Option.some Jvm.ClassFile.FieldType.int)), (yX0_byTree, Cond.code yX0_byTree cX0_byTree 6 (Option.some (Jvm.ClassFile.FieldType.object "LetterPost$Rule"))), (yX0_asks, Cond.codeWith yX0_asks cX0_asks 5 (Option.some Jvm.ClassFile.FieldType.boolean) [(44, 52, 53, 577)]), (yX0_plainly, Cond.code yX0_plainly cX0_plainly 8 (Option.some (Jvm.ClassFile.FieldType.object "LetterPost$Rule"))), (yX0_ends, Cond.code yX0_ends cX0_ends 5 (Option.none : Option Jvm.ClassFile.FieldType)), (yX0_plain_2, Cond.code yX0_plain_2 cX0_plain_2 5 (Option.some Jvm.ClassFile.FieldType.int)), (yX0_told, Cond.code yX0_told cX0_told 2 (Option.some Jvm.ClassFile.FieldType.int)), (yX0_guard_2, Cond.code yX0_guard_2 cX0_guard_2 2 (Option.some Jvm.ClassFile.FieldType.int)), (yX0_bound, Cond.code yX0_bound cX0_bound 3 (Option.some Jvm.ClassFile.FieldType.int)), (yX0_init, Cond.code yX0_init cX0_init 1 (Option.none : Option Jvm.ClassFile.FieldType)), (yX0_count, Cond.code yX0_count cX0_count 2 (Option.some Jvm.ClassFile.FieldType.int)), (yX1_init, Cond.code yX1_init cX1_init 1 (Option.none : Option Jvm.ClassFile.FieldType)), (yX2_init, Cond.code yX2_init cX2_init 3 (Option.none : Option Jvm.ClassFile.FieldType)), (yX3_init, Cond.code yX3_init cX3_init 5 (Option.none : Option Jvm.ClassFile.FieldType)), (yX3_is, Cond.code yX3_is cX3_is 3 (Option.some Jvm.ClassFile.FieldType.boolean)), (yX4_init, Cond.code yX4_init cX4_init 5 (Option.none : Option Jvm.ClassFile.FieldType)), (yX4_count, Cond.code yX4_count cX4_count 4 (Option.some Jvm.ClassFile.FieldType.int)), (yX4_lay, Cond.code yX4_lay cX4_lay 10 (Option.none : Option Jvm.ClassFile.FieldType)), (yX4_place, Cond.code yX4_place cX4_place 7 (Option.some (Jvm.ClassFile.FieldType.object "LetterPost$Place"))), (yX4_remake, Cond.code yX4_remake cX4_remake 2 (Option.none : Option Jvm.ClassFile.FieldType)), (yX4_make, Cond.code yX4_make cX4_make 9 (Option.some (Jvm.ClassFile.FieldType.object "LetterPost$Node"))), (yX5_init, Cond.code yX5_init cX5_init 3 (Option.none : Option Jvm.ClassFile.FieldType)), (yX6_init, Cond.code yX6_init cX6_init 1 (Option.none : Option Jvm.ClassFile.FieldType)), (yX6_ways, Cond.code yX6_ways cX6_ways 1 (Option.some Jvm.ClassFile.FieldType.int)), (yX6_row, Cond.code yX6_row cX6_row 5 (Option.none : Option Jvm.ClassFile.FieldType)), (yX6_fits, Cond.code yX6_fits cX6_fits 3 (Option.some Jvm.ClassFile.FieldType.boolean)), (yX7_init, Cond.code yX7_init cX7_init 1 (Option.none : Option Jvm.ClassFile.FieldType)), (yX7_holds, Cond.code yX7_holds cX7_holds 3 (Option.some Jvm.ClassFile.FieldType.boolean)), (yX8_init, Cond.code yX8_init cX8_init 1 (Option.none : Option Jvm.ClassFile.FieldType)), (yX8_row, Cond.code yX8_row cX8_row 5 (Option.none : Option Jvm.ClassFile.FieldType)), (yX9_init, Cond.code yX9_init cX9_init 3 (Option.none : Option Jvm.ClassFile.FieldType)), (yX9_by, Cond.code yX9_by cX9_by 5 (Option.some Jvm.ClassFile.FieldType.int)), (yX9_holds, Cond.code yX9_holds cX9_holds 3 (Option.some Jvm.ClassFile.FieldType.boolean)), (yX10_init, Cond.code yX10_init cX10_init 3 (Option.none : Option Jvm.ClassFile.FieldType)), (yX10_ways, Cond.code yX10_ways cX10_ways 1 (Option.some Jvm.ClassFile.FieldType.int)), (yX10_row, Cond.code yX10_row cX10_row 8 (Option.none : Option Jvm.ClassFile.FieldType)), (yX10_by, Cond.code yX10_by cX10_by 4 (Option.some Jvm.ClassFile.FieldType.int)), (yX10_holds, Cond.code yX10_holds cX10_holds 5 (Option.some Jvm.ClassFile.FieldType.boolean)), (yX11_init, Cond.code yX11_init cX11_init 2 (Option.none : Option Jvm.ClassFile.FieldType)), (yX11_ways, Cond.code yX11_ways cX11_ways 6 (Option.some Jvm.ClassFile.FieldType.int)), (yX11_row, Cond.code yX11_row cX11_row 7 (Option.none : Option Jvm.ClassFile.FieldType)), (yX11_holds, Cond.code yX11_holds cX11_holds 5 (Option.some Jvm.ClassFile.FieldType.boolean)), (yX12_init, Cond.code yX12_init cX12_init 3 (Option.none : Option Jvm.ClassFile.FieldType)), (yX12_by, Cond.code yX12_by cX12_by 3 (Option.some Jvm.ClassFile.FieldType.int)), (yX12_holds, Cond.code yX12_holds cX12_holds 3 (Option.some Jvm.ClassFile.FieldType.boolean)), (yX13_init, Cond.code yX13_init cX13_init 2 (Option.none : Option Jvm.ClassFile.FieldType)), (yX13_by, Cond.code yX13_by cX13_by 4 (Option.some Jvm.ClassFile.FieldType.int)), (yX13_holds, Cond.code yX13_holds cX13_holds 3 (Option.some Jvm.ClassFile.FieldType.boolean)), (yX14_init, Cond.code yX14_init cX14_init 1 (Option.none : Option Jvm.ClassFile.FieldType)), (yX14_by, Cond.code yX14_by cX14_by 4 (Option.some Jvm.ClassFile.FieldType.int)), (yX14_holds, Cond.code yX14_holds cX14_holds 3 (Option.some Jvm.ClassFile.FieldType.boolean)), (yX15_init, Cond.code yX15_init cX15_init 1 (Option.none : Option Jvm.ClassFile.FieldType)), (yX15_holds, Cond.code yX15_holds cX15_holds 4 (Option.some Jvm.ClassFile.FieldType.boolean)), (yX15_sum, Cond.code yX15_sum cX15_sum 5 (Option.some Jvm.ClassFile.FieldType.int)), (yX15_term, Cond.code yX15_term cX15_term 3 (Option.some Jvm.ClassFile.FieldType.int)), (yX16_init, Cond.code yX16_init cX16_init 2 (Option.none : Option Jvm.ClassFile.FieldType)), (yX16_add, Cond.code yX16_add cX16_add 5 (Option.none : Option Jvm.ClassFile.FieldType)), (yX16_isOut, Cond.code yX16_isOut cX16_isOut 4 (Option.some Jvm.ClassFile.FieldType.boolean)), (yX16_asked, Cond.code yX16_asked cX16_asked 7 (Option.some Jvm.ClassFile.FieldType.int)), (yX16_left, Cond.code yX16_left cX16_left 4 (Option.some (Jvm.ClassFile.FieldType.object "LetterPost$Test"))), (yX17_init, Cond.code yX17_init cX17_init 6 (Option.none : Option Jvm.ClassFile.FieldType)), (yX17_isWithin, Cond.code yX17_isWithin cX17_isWithin 3 (Option.some Jvm.ClassFile.FieldType.boolean)), (yX17_of, Cond.code yX17_of cX17_of 2 (Option.some (Jvm.ClassFile.FieldType.object "LetterPost$Value"))), (yX18_init, Cond.code yX18_init cX18_init 4 (Option.none : Option Jvm.ClassFile.FieldType)), (yX18_make, Cond.code yX18_make cX18_make 8 (Option.some (Jvm.ClassFile.FieldType.object "LetterPost$Node"))), (yX18_ends, Cond.code yX18_ends cX18_ends 9 (Option.some (Jvm.ClassFile.FieldType.object "LetterPost$Node"))), (yX18_chosen, Cond.code yX18_chosen cX18_chosen 7 (Option.some (Jvm.ClassFile.FieldType.object "LetterPost$Place"))), (yX18_wanted, Cond.code yX18_wanted cX18_wanted 6 (Option.some Jvm.ClassFile.FieldType.int)), (yX18_branches, Cond.code yX18_branches cX18_branches 4 (Option.some Jvm.ClassFile.FieldType.int)), (yX18_leafMany, Cond.code yX18_leafMany cX18_leafMany 4 (Option.some Jvm.ClassFile.FieldType.int)), (yX18_textMany, Cond.code yX18_textMany cX18_textMany 11 (Option.some Jvm.ClassFile.FieldType.int)), (yX18_borderMany, Cond.code yX18_borderMany cX18_borderMany 9 (Option.some Jvm.ClassFile.FieldType.int)), (yX18_put, Cond.code yX18_put cX18_put 5 (Option.some Jvm.ClassFile.FieldType.int)), (yX18_byKind, Cond.code yX18_byKind cX18_byKind 8 (Option.some (Jvm.ClassFile.FieldType.object "LetterPost$Node"))), (yX18_leaves, Cond.code yX18_leaves cX18_leaves 5 (Option.some (Jvm.ClassFile.FieldType.array (Jvm.ClassFile.FieldType.object "LetterPost$Kind")))), (yX18_byTruth, Cond.code yX18_byTruth cX18_byTruth 7 (Option.some (Jvm.ClassFile.FieldType.object "LetterPost$Node"))), (yX18_byText, Cond.code yX18_byText cX18_byText 9 (Option.some (Jvm.ClassFile.FieldType.object "LetterPost$Node"))), (yX18_texts, Cond.code yX18_texts cX18_texts 5 (Option.some (Jvm.ClassFile.FieldType.array Jvm.ClassFile.FieldType.long))), (yX18_byWhole, Cond.code yX18_byWhole cX18_byWhole 9 (Option.some (Jvm.ClassFile.FieldType.object "LetterPost$Node"))), (yX18_borders, Cond.code yX18_borders cX18_borders 5 (Option.some (Jvm.ClassFile.FieldType.array Jvm.ClassFile.FieldType.int))), (yX19_init, Cond.code yX19_init cX19_init 3 (Option.none : Option Jvm.ClassFile.FieldType)), (yX19_isOut, Cond.code yX19_isOut cX19_isOut 6 (Option.some Jvm.ClassFile.FieldType.boolean)), (yX20_init, Cond.code yX20_init cX20_init 1 (Option.none : Option Jvm.ClassFile.FieldType)), (yX21_init, Cond.code yX21_init cX21_init 2 (Option.none : Option Jvm.ClassFile.FieldType)), (yX21_many, Cond.code yX21_many cX21_many 6 (Option.some Jvm.ClassFile.FieldType.int)), (yX21_depth, Cond.code yX21_depth cX21_depth 6 (Option.some Jvm.ClassFile.FieldType.int)), (yX21_find, Cond.code yX21_find cX21_find 4 (Option.some (Jvm.ClassFile.FieldType.object "LetterPost$Node"))), (yX21_what, Cond.code yX21_what cX21_what 1 (Option.some Jvm.ClassFile.FieldType.int)), (yX21_rule, Cond.code yX21_rule cX21_rule 1 (Option.some (Jvm.ClassFile.FieldType.object "LetterPost$Rule"))), (yX21_place, Cond.code yX21_place cX21_place 1 (Option.some (Jvm.ClassFile.FieldType.object "LetterPost$Place"))), (yX21_has, Cond.code yX21_has cX21_has 4 (Option.some Jvm.ClassFile.FieldType.boolean)), (yX21_go, Cond.code yX21_go cX21_go 2 (Option.some (Jvm.ClassFile.FieldType.object "LetterPost$Node"))), (yX22_init, Cond.code yX22_init cX22_init 2 (Option.none : Option Jvm.ClassFile.FieldType)), (yX23_init, Cond.code yX23_init cX23_init 3 (Option.none : Option Jvm.ClassFile.FieldType)), (yX23_what, Cond.code yX23_what cX23_what 1 (Option.some Jvm.ClassFile.FieldType.int)), (yX23_rule, Cond.code yX23_rule cX23_rule 1 (Option.some (Jvm.ClassFile.FieldType.object "LetterPost$Rule"))), (yX23_binds, Cond.code yX23_binds cX23_binds 4 (Option.none : Option Jvm.ClassFile.FieldType)), (yX24_init, Cond.code yX24_init cX24_init 3 (Option.none : Option Jvm.ClassFile.FieldType)), (yX24_what, Cond.code yX24_what cX24_what 1 (Option.some Jvm.ClassFile.FieldType.int)), (yX24_go, Cond.code yX24_go cX24_go 2 (Option.some (Jvm.ClassFile.FieldType.object "LetterPost$Node"))), (yX25_init, Cond.code yX25_init cX25_init 3 (Option.none : Option Jvm.ClassFile.FieldType)), (yX25_place, Cond.code yX25_place cX25_place 1 (Option.some (Jvm.ClassFile.FieldType.object "LetterPost$Place"))), (yX26_init, Cond.code yX26_init cX26_init 4 (Option.none : Option Jvm.ClassFile.FieldType)), (yX26_what, Cond.code yX26_what cX26_what 1 (Option.some Jvm.ClassFile.FieldType.int)), (yX26_go, Cond.code yX26_go cX26_go 4 (Option.some (Jvm.ClassFile.FieldType.object "LetterPost$Node"))), (yX27_init, Cond.code yX27_init cX27_init 3 (Option.none : Option Jvm.ClassFile.FieldType)), (yX27_what, Cond.code yX27_what cX27_what 1 (Option.some Jvm.ClassFile.FieldType.int)), (yX27_go, Cond.code yX27_go cX27_go 2 (Option.some (Jvm.ClassFile.FieldType.object "LetterPost$Node"))), (yX28_init, Cond.code yX28_init cX28_init 4 (Option.none : Option Jvm.ClassFile.FieldType)), (yX28_what, Cond.code yX28_what cX28_what 1 (Option.some Jvm.ClassFile.FieldType.int)), (yX28_go, Cond.code yX28_go cX28_go 5 (Option.some (Jvm.ClassFile.FieldType.object "LetterPost$Node"))), (yX29_init, Cond.code yX29_init cX29_init 4 (Option.none : Option Jvm.ClassFile.FieldType)), (yX29_what, Cond.code yX29_what cX29_what 1 (Option.some Jvm.ClassFile.FieldType.int)), (yX29_go, Cond.code yX29_go cX29_go 4 (Option.some (Jvm.ClassFile.FieldType.object "LetterPost$Node"))), (yX30_init, Cond.code yX30_init cX30_init 3 (Option.none : Option Jvm.ClassFile.FieldType)), (yX30_kind, Cond.code yX30_kind cX30_kind 1 (Option.some (Jvm.ClassFile.FieldType.object "LetterPost$Kind"))), (yX30_told, Cond.code yX30_told cX30_told 1 (Option.some Jvm.ClassFile.FieldType.int)), (yX31_init, Cond.code yX31_init cX31_init 3 (Option.none : Option Jvm.ClassFile.FieldType)), (yX31_what, Cond.code yX31_what cX31_what 1 (Option.some Jvm.ClassFile.FieldType.int)), (yX31_told, Cond.code yX31_told cX31_told 1 (Option.some Jvm.ClassFile.FieldType.int)), (yX31_isLike, Cond.code yX31_isLike cX31_isLike 2 (Option.some Jvm.ClassFile.FieldType.boolean)), (yX32_init, Cond.code yX32_init cX32_init 3 (Option.none : Option Jvm.ClassFile.FieldType)), (yX32_what, Cond.code yX32_what cX32_what 1 (Option.some Jvm.ClassFile.FieldType.int)), (yX33_init, Cond.code yX33_init cX33_init 4 (Option.none : Option Jvm.ClassFile.FieldType)), (yX33_what, Cond.code yX33_what cX33_what 1 (Option.some Jvm.ClassFile.FieldType.int)), (yX33_told, Cond.code yX33_told cX33_told 4 (Option.some Jvm.ClassFile.FieldType.int)), (yX33_isLike, Cond.code yX33_isLike cX33_isLike 2 (Option.some Jvm.ClassFile.FieldType.boolean)), (yX34_init, Cond.code yX34_init cX34_init 3 (Option.none : Option Jvm.ClassFile.FieldType)), (yX34_what, Cond.code yX34_what cX34_what 1 (Option.some Jvm.ClassFile.FieldType.int)), (yX34_isLike, Cond.code yX34_isLike cX34_isLike 2 (Option.some Jvm.ClassFile.FieldType.boolean)), (yX35_what, Cond.code yX35_what cX35_what 1 (Option.some Jvm.ClassFile.FieldType.int)), (yX35_kind, Cond.code yX35_kind cX35_kind 1 (Option.some (Jvm.ClassFile.FieldType.object "LetterPost$Kind"))), (yX35_init, Cond.code yX35_init cX35_init 5 (Option.none : Option Jvm.ClassFile.FieldType)), (yX35_told, Cond.code yX35_told cX35_told 1 (Option.some Jvm.ClassFile.FieldType.int)), (yX35_isLike, Cond.code yX35_isLike cX35_isLike 4 (Option.some Jvm.ClassFile.FieldType.boolean)), (yJ0_init_2, Cond.code yJ0_init_2 cJ0_init_2 5 (Option.none : Option Jvm.ClassFile.FieldType)), (yJ1_init, Cond.code yJ1_init cJ1_init 5 (Option.none : Option Jvm.ClassFile.FieldType)), (yJ2_init, Cond.code yJ2_init cJ2_init 5 (Option.none : Option Jvm.ClassFile.FieldType)), (yJ2_append, Cond.code yJ2_append cJ2_append 3 (Option.some (Jvm.ClassFile.FieldType.object "java/lang/AbstractStringBuilder"))), (yJ2_ensureCapacityInternal, Cond.code yJ2_ensureCapacityInternal cJ2_ensureCapacityInternal 3 (Option.none : Option Jvm.ClassFile.FieldType)), (yJ2_isLatin1, Cond.code yJ2_isLatin1 cJ2_isLatin1 1 (Option.some Jvm.ClassFile.FieldType.boolean)), (yJ2_putStringAt, Cond.code yJ2_putStringAt cJ2_putStringAt 3 (Option.none : Option Jvm.ClassFile.FieldType)), (yJ2_inflateIfNeededFor, Cond.code yJ2_inflateIfNeededFor cJ2_inflateIfNeededFor 2 (Option.none : Option Jvm.ClassFile.FieldType)), (yJ2_append_2, Cond.code yJ2_append_2 cJ2_append_2 2 (Option.some (Jvm.ClassFile.FieldType.object "java/lang/AbstractStringBuilder"))), (yJ2_getValue, Cond.code yJ2_getValue cJ2_getValue 1 (Option.some (Jvm.ClassFile.FieldType.array Jvm.ClassFile.FieldType.byte))), (yJ2_length, Cond.code yJ2_length cJ2_length 1 (Option.some Jvm.ClassFile.FieldType.int)), (yJ3_init, Cond.code yJ3_init cJ3_init 2 (Option.none : Option Jvm.ClassFile.FieldType)), (yJ3_append, Cond.code yJ3_append cJ3_append 2 (Option.some (Jvm.ClassFile.FieldType.object "java/lang/AbstractStringBuilder"))), (yJ3_append_2, Cond.code yJ3_append_2 cJ3_append_2 2 (Option.some (Jvm.ClassFile.FieldType.object "java/lang/StringBuilder"))), (yJ3_append_3, Cond.code yJ3_append_3 cJ3_append_3 2 (Option.some (Jvm.ClassFile.FieldType.object "java/lang/StringBuilder"))), (yJ3_toString, Cond.code yJ3_toString cJ3_toString 1 (Option.some (Jvm.ClassFile.FieldType.object "java/lang/String"))), (yJ3_length, Cond.code yJ3_length cJ3_length 1 (Option.some Jvm.ClassFile.FieldType.int)), (yJ4_length, Cond.code yJ4_length cJ4_length 1 (Option.some Jvm.ClassFile.FieldType.int)), (yJ4_coder, Cond.code yJ4_coder cJ4_coder 1 (Option.some Jvm.ClassFile.FieldType.byte)), (yJ4_getBytes, Cond.code yJ4_getBytes cJ4_getBytes 4 (Option.none : Option Jvm.ClassFile.FieldType)), (yJ4_checkIndex, Cond.code yJ4_checkIndex cJ4_checkIndex 2 (Option.none : Option Jvm.ClassFile.FieldType)), (yJ4_init, Cond.code yJ4_init cJ4_init 2 (Option.none : Option Jvm.ClassFile.FieldType)), (yJ4_init_2, Cond.code yJ4_init_2 cJ4_init_2 5 (Option.none : Option Jvm.ClassFile.FieldType)), (yJ4_contains, Cond.code yJ4_contains cJ4_contains 2 (Option.some Jvm.ClassFile.FieldType.boolean)), (yJ4_toString, Cond.code yJ4_toString cJ4_toString 1 (Option.some (Jvm.ClassFile.FieldType.object "java/lang/String"))), (yJ4_indexOf, Cond.code yJ4_indexOf cJ4_indexOf 3 (Option.some Jvm.ClassFile.FieldType.int)), (yJ4_isLatin1, Cond.code yJ4_isLatin1 cJ4_isLatin1 1 (Option.some Jvm.ClassFile.FieldType.boolean)), (yJ4_indexOf_2, Cond.code yJ4_indexOf_2 cJ4_indexOf_2 2 (Option.some Jvm.ClassFile.FieldType.int)), (yJ4_indexOf_3, Cond.code yJ4_indexOf_3 cJ4_indexOf_3 3 (Option.some Jvm.ClassFile.FieldType.int)), (yJ4_charAt, Cond.code yJ4_charAt cJ4_charAt 2 (Option.some Jvm.ClassFile.FieldType.char)), (yJ8_copyOfRange, Cond.code yJ8_copyOfRange cJ8_copyOfRange 3 (Option.some (Jvm.ClassFile.FieldType.array Jvm.ClassFile.FieldType.byte))), (yJ8_copyOfRangeByte, Cond.code yJ8_copyOfRangeByte cJ8_copyOfRangeByte 5 (Option.some (Jvm.ClassFile.FieldType.array Jvm.ClassFile.FieldType.byte))), (yJ8_checkLength, Cond.code yJ8_checkLength cJ8_checkLength 2 (Option.none : Option Jvm.ClassFile.FieldType)), (yJ8_fill, Cond.code yJ8_fill cJ8_fill 4 (Option.none : Option Jvm.ClassFile.FieldType)), (yJ9_checkIndex, Cond.code yJ9_checkIndex cJ9_checkIndex 3 (Option.some Jvm.ClassFile.FieldType.int)), (yJ10_canEncode, Cond.code yJ10_canEncode cJ10_canEncode 1 (Option.some Jvm.ClassFile.FieldType.boolean)), (yJ10_indexOf, Cond.code yJ10_indexOf cJ10_indexOf 2 (Option.some Jvm.ClassFile.FieldType.int)), (yJ10_indexOf_2, Cond.code yJ10_indexOf_2 cJ10_indexOf_2 11 (Option.some Jvm.ClassFile.FieldType.int)), (yJ10_indexOf_3, Cond.code yJ10_indexOf_3 cJ10_indexOf_3 4 (Option.some Jvm.ClassFile.FieldType.int)), (yJ10_canEncode_2, Cond.code yJ10_canEncode_2 cJ10_canEncode_2 1 (Option.some Jvm.ClassFile.FieldType.boolean)), (yJ10_indexOfChar, Cond.code yJ10_indexOfChar cJ10_indexOfChar 6 (Option.some Jvm.ClassFile.FieldType.int)), (yJ10_charAt, Cond.code yJ10_charAt cJ10_charAt 2 (Option.some Jvm.ClassFile.FieldType.char))]
/-- every method is as its weakest precondition says, at depth d -/
def SdC (d : Nat) (D : CD) (p : Nat) (l : Launch) : Prop := ∀ (y : Nat) (e : MethodName × Cond), mtC[y]? = some e → ∀ (as : List ZA) (w : CW) (Q : ZRes → CW → Prop), wpC p d y as w Q → zoks as → ZMX l (KnC D) (ZC D) e.1 e.2 d D.lim as w Q
theorem md_X0_feed : ZMd yX0_feed 2 := ⟨by decide, by decide, by decide +kernel⟩
theorem md_X0_isIn : ZMd yX0_isIn 3 := ⟨by decide, by decide, by decide +kernel⟩
theorem md_X0_read : ZMd yX0_read 0 := ⟨by decide, by decide, by decide +kernel⟩
theorem md_X0_begin : ZMd yX0_begin 0 := ⟨by decide, by decide, by decide +kernel⟩
theorem md_X0_next : ZMd yX0_next 0 := ⟨by decide, by decide, by decide +kernel⟩
theorem md_X0_blanks : ZMd yX0_blanks 0 := ⟨by decide, by decide, by decide +kernel⟩
theorem md_X0_unit : ZMd yX0_unit 1 := ⟨by decide, by decide, by decide +kernel⟩
theorem md_X0_isSmall : ZMd yX0_isSmall 1 := ⟨by decide, by decide, by decide +kernel⟩
theorem md_X0_readLetters : ZMd yX0_readLetters 1 := ⟨by decide, by decide, by decide +kernel⟩
theorem md_X0_isFigure : ZMd yX0_isFigure 1 := ⟨by decide, by decide, by decide +kernel⟩
theorem md_X0_need : ZMd yX0_need 3 := ⟨by decide, by decide, by decide +kernel⟩
theorem md_X0_quoted : ZMd yX0_quoted 0 := ⟨by decide, by decide, by decide +kernel⟩
theorem md_X0_isWord : ZMd yX0_isWord 1 := ⟨by decide, by decide, by decide +kernel⟩
theorem md_X0_readKind : ZMd yX0_readKind 1 := ⟨by decide, by decide, by decide +kernel⟩
theorem md_X0_want : ZMd yX0_want 1 := ⟨by decide, by decide, by decide +kernel⟩
theorem md_X0_named : ZMd yX0_named 1 := ⟨by decide, by decide, by decide +kernel⟩
theorem md_X0_isSign : ZMd yX0_isSign 1 := ⟨by decide, by decide, by decide +kernel⟩
theorem md_X0_readSort : ZMd yX0_readSort 0 := ⟨by decide, by decide, by decide +kernel⟩
theorem md_X0_skip : ZMd yX0_skip 1 := ⟨by decide, by decide, by decide +kernel⟩
theorem md_X0_readFunction : ZMd yX0_readFunction 0 := ⟨by decide, by decide, by decide +kernel⟩
theorem md_X0_functionOf : ZMd yX0_functionOf 1 := ⟨by decide, by decide, by decide +kernel⟩
theorem md_X0_rule : ZMd yX0_rule 1 := ⟨by decide, by decide, by decide +kernel⟩
theorem md_X0_pattern : ZMd yX0_pattern 1 := ⟨by decide, by decide, by decide +kernel⟩
theorem md_X0_plain : ZMd yX0_plain 2 := ⟨by decide, by decide, by decide +kernel⟩
theorem md_X0_nameAt : ZMd yX0_nameAt 1 := ⟨by decide, by decide, by decide +kernel⟩
theorem md_X0_bind : ZMd yX0_bind 2 := ⟨by decide, by decide, by decide +kernel⟩
theorem md_X0_range : ZMd yX0_range 1 := ⟨by decide, by decide, by decide +kernel⟩
theorem md_X0_readWhole : ZMd yX0_readWhole 0 := ⟨by decide, by decide, by decide +kernel⟩
theorem md_X0_signed : ZMd yX0_signed 0 := ⟨by decide, by decide, by decide +kernel⟩
theorem md_X0_kinded : ZMd yX0_kinded 2 := ⟨by decide, by decide, by decide +kernel⟩
theorem md_X0_isKind : ZMd yX0_isKind 1 := ⟨by decide, by decide, by decide +kernel⟩
theorem md_X0_kindOf : ZMd yX0_kindOf 1 := ⟨by decide, by decide, by decide +kernel⟩
theorem md_X0_either : ZMd yX0_either 1 := ⟨by decide, by decide, by decide +kernel⟩
theorem md_X0_binds : ZMd yX0_binds 1 := ⟨by decide, by decide, by decide +kernel⟩
theorem md_X0_guard : ZMd yX0_guard 0 := ⟨by decide, by decide, by decide +kernel⟩
theorem md_X0_sum : ZMd yX0_sum 2 := ⟨by decide, by decide, by decide +kernel⟩
theorem md_X0_term : ZMd yX0_term 2 := ⟨by decide, by decide, by decide +kernel⟩
theorem md_X0_wholeName : ZMd yX0_wholeName 0 := ⟨by decide, by decide, by decide +kernel⟩
theorem md_X0_known : ZMd yX0_known 0 := ⟨by decide, by decide, by decide +kernel⟩
theorem md_X0_answer : ZMd yX0_answer 1 := ⟨by decide, by decide, by decide +kernel⟩
theorem md_X0_isCall : ZMd yX0_isCall 0 := ⟨by decide, by decide, by decide +kernel⟩
theorem md_X0_settle : ZMd yX0_settle 0 := ⟨by decide, by decide, by decide +kernel⟩
theorem md_X0_settleCall : ZMd yX0_settleCall 1 := ⟨by decide, by decide, by decide +kernel⟩
theorem md_X0_product : ZMd yX0_product 1 := ⟨by decide, by decide, by decide +kernel⟩
theorem md_X0_clear : ZMd yX0_clear 0 := ⟨by decide, by decide, by decide +kernel⟩
theorem md_X0_fault : ZMd yX0_fault 0 := ⟨by decide, by decide, by decide +kernel⟩
theorem md_X0_add : ZMd yX0_add 0 := ⟨by decide, by decide, by decide +kernel⟩
theorem md_X0_remake : ZMd yX0_remake 2 := ⟨by decide, by decide, by decide +kernel⟩
theorem md_X0_isFunction : ZMd yX0_isFunction 1 := ⟨by decide, by decide, by decide +kernel⟩
theorem md_X0_kind : ZMd yX0_kind 2 := ⟨by decide, by decide, by decide +kernel⟩
theorem md_X0_kindNamed : ZMd yX0_kindNamed 1 := ⟨by decide, by decide, by decide +kernel⟩
theorem md_X0_function : ZMd yX0_function 2 := ⟨by decide, by decide, by decide +kernel⟩
theorem md_X0_node : ZMd yX0_node 3 := ⟨by decide, by decide, by decide +kernel⟩
theorem md_X0_isNode : ZMd yX0_isNode 2 := ⟨by decide, by decide, by decide +kernel⟩
theorem md_X0_branch : ZMd yX0_branch 3 := ⟨by decide, by decide, by decide +kernel⟩
theorem md_X0_missing : ZMd yX0_missing 1 := ⟨by decide, by decide, by decide +kernel⟩
theorem md_X0_unreached : ZMd yX0_unreached 2 := ⟨by decide, by decide, by decide +kernel⟩
theorem md_X0_whole : ZMd yX0_whole 1 := ⟨by decide, by decide, by decide +kernel⟩
theorem md_X0_keep : ZMd yX0_keep 1 := ⟨by decide, by decide, by decide +kernel⟩
theorem md_X0_truth : ZMd yX0_truth 1 := ⟨by decide, by decide, by decide +kernel⟩
theorem md_X0_letters : ZMd yX0_letters 1 := ⟨by decide, by decide, by decide +kernel⟩
theorem md_X0_nothing : ZMd yX0_nothing 0 := ⟨by decide, by decide, by decide +kernel⟩
theorem md_X0_make : ZMd yX0_make 5 := ⟨by decide, by decide, by decide +kernel⟩
theorem md_X0_isValue : ZMd yX0_isValue 1 := ⟨by decide, by decide, by decide +kernel⟩
theorem md_X0_isOf : ZMd yX0_isOf 2 := ⟨by decide, by decide, by decide +kernel⟩
theorem md_X0_value : ZMd yX0_value 2 := ⟨by decide, by decide, by decide +kernel⟩
theorem md_X0_alike : ZMd yX0_alike 2 := ⟨by decide, by decide, by decide +kernel⟩
theorem md_X0_sort : ZMd yX0_sort 4 := ⟨by decide, by decide, by decide +kernel⟩
theorem md_X0_sorts : ZMd yX0_sorts 5 := ⟨by decide, by decide, by decide +kernel⟩
theorem md_X0_run : ZMd yX0_run 3 := ⟨by decide, by decide, by decide +kernel⟩
theorem md_X0_byTree : ZMd yX0_byTree 3 := ⟨by decide, by decide, by decide +kernel⟩
theorem md_X0_asks : ZMd yX0_asks 3 := ⟨by decide, by decide, by decide +kernel⟩
theorem md_X0_plainly : ZMd yX0_plainly 3 := ⟨by decide, by decide, by decide +kernel⟩
theorem md_X0_ends : ZMd yX0_ends 4 := ⟨by decide, by decide, by decide +kernel⟩
theorem md_X0_plain_2 : ZMd yX0_plain_2 4 := ⟨by decide, by decide, by decide +kernel⟩
theorem md_X0_told : ZMd yX0_told 1 := ⟨by decide, by decide, by decide +kernel⟩
theorem md_X0_guard_2 : ZMd yX0_guard_2 1 := ⟨by decide, by decide, by decide +kernel⟩
theorem md_X0_bound : ZMd yX0_bound 1 := ⟨by decide, by decide, by decide +kernel⟩
theorem md_X0_init : ZMd yX0_init 0 := ⟨by decide, by decide, by decide +kernel⟩
theorem md_X0_count : ZMd yX0_count 1 := ⟨by decide, by decide, by decide +kernel⟩
theorem md_X1_init : ZMd yX1_init 0 := ⟨by decide, by decide, by decide +kernel⟩
theorem md_X2_init : ZMd yX2_init 2 := ⟨by decide, by decide, by decide +kernel⟩
theorem md_X3_init : ZMd yX3_init 3 := ⟨by decide, by decide, by decide +kernel⟩
theorem md_X3_is : ZMd yX3_is 1 := ⟨by decide, by decide, by decide +kernel⟩
theorem md_X4_init : ZMd yX4_init 3 := ⟨by decide, by decide, by decide +kernel⟩
theorem md_X4_count : ZMd yX4_count 1 := ⟨by decide, by decide, by decide +kernel⟩
theorem md_X4_lay : ZMd yX4_lay 0 := ⟨by decide, by decide, by decide +kernel⟩
theorem md_X4_place : ZMd yX4_place 4 := ⟨by decide, by decide, by decide +kernel⟩
theorem md_X4_remake : ZMd yX4_remake 1 := ⟨by decide, by decide, by decide +kernel⟩
theorem md_X4_make : ZMd yX4_make 2 := ⟨by decide, by decide, by decide +kernel⟩
theorem md_X5_init : ZMd yX5_init 2 := ⟨by decide, by decide, by decide +kernel⟩
theorem md_X6_init : ZMd yX6_init 0 := ⟨by decide, by decide, by decide +kernel⟩
theorem md_X6_ways : ZMd yX6_ways 0 := ⟨by decide, by decide, by decide +kernel⟩
theorem md_X6_row : ZMd yX6_row 4 := ⟨by decide, by decide, by decide +kernel⟩
theorem md_X6_fits : ZMd yX6_fits 2 := ⟨by decide, by decide, by decide +kernel⟩
theorem md_X7_init : ZMd yX7_init 0 := ⟨by decide, by decide, by decide +kernel⟩
theorem md_X7_holds : ZMd yX7_holds 2 := ⟨by decide, by decide, by decide +kernel⟩
theorem md_X8_init : ZMd yX8_init 0 := ⟨by decide, by decide, by decide +kernel⟩
theorem md_X8_row : ZMd yX8_row 4 := ⟨by decide, by decide, by decide +kernel⟩
theorem md_X9_init : ZMd yX9_init 2 := ⟨by decide, by decide, by decide +kernel⟩
theorem md_X9_by : ZMd yX9_by 2 := ⟨by decide, by decide, by decide +kernel⟩
theorem md_X9_holds : ZMd yX9_holds 2 := ⟨by decide, by decide, by decide +kernel⟩
theorem md_X10_init : ZMd yX10_init 2 := ⟨by decide, by decide, by decide +kernel⟩
theorem md_X10_ways : ZMd yX10_ways 0 := ⟨by decide, by decide, by decide +kernel⟩
theorem md_X10_row : ZMd yX10_row 4 := ⟨by decide, by decide, by decide +kernel⟩
theorem md_X10_by : ZMd yX10_by 2 := ⟨by decide, by decide, by decide +kernel⟩
theorem md_X10_holds : ZMd yX10_holds 2 := ⟨by decide, by decide, by decide +kernel⟩
theorem md_X11_init : ZMd yX11_init 1 := ⟨by decide, by decide, by decide +kernel⟩
theorem md_X11_ways : ZMd yX11_ways 0 := ⟨by decide, by decide, by decide +kernel⟩
theorem md_X11_row : ZMd yX11_row 4 := ⟨by decide, by decide, by decide +kernel⟩
theorem md_X11_holds : ZMd yX11_holds 2 := ⟨by decide, by decide, by decide +kernel⟩
theorem md_X12_init : ZMd yX12_init 1 := ⟨by decide, by decide, by decide +kernel⟩
theorem md_X12_by : ZMd yX12_by 2 := ⟨by decide, by decide, by decide +kernel⟩
theorem md_X12_holds : ZMd yX12_holds 2 := ⟨by decide, by decide, by decide +kernel⟩
theorem md_X13_init : ZMd yX13_init 1 := ⟨by decide, by decide, by decide +kernel⟩
theorem md_X13_by : ZMd yX13_by 2 := ⟨by decide, by decide, by decide +kernel⟩
theorem md_X13_holds : ZMd yX13_holds 2 := ⟨by decide, by decide, by decide +kernel⟩
theorem md_X14_init : ZMd yX14_init 0 := ⟨by decide, by decide, by decide +kernel⟩
theorem md_X14_by : ZMd yX14_by 2 := ⟨by decide, by decide, by decide +kernel⟩
theorem md_X14_holds : ZMd yX14_holds 2 := ⟨by decide, by decide, by decide +kernel⟩
theorem md_X15_init : ZMd yX15_init 0 := ⟨by decide, by decide, by decide +kernel⟩
theorem md_X15_holds : ZMd yX15_holds 1 := ⟨by decide, by decide, by decide +kernel⟩
theorem md_X15_sum : ZMd yX15_sum 2 := ⟨by decide, by decide, by decide +kernel⟩
theorem md_X15_term : ZMd yX15_term 2 := ⟨by decide, by decide, by decide +kernel⟩
theorem md_X16_init : ZMd yX16_init 1 := ⟨by decide, by decide, by decide +kernel⟩
theorem md_X16_add : ZMd yX16_add 2 := ⟨by decide, by decide, by decide +kernel⟩
theorem md_X16_isOut : ZMd yX16_isOut 1 := ⟨by decide, by decide, by decide +kernel⟩
theorem md_X16_asked : ZMd yX16_asked 2 := ⟨by decide, by decide, by decide +kernel⟩
theorem md_X16_left : ZMd yX16_left 2 := ⟨by decide, by decide, by decide +kernel⟩
theorem md_X17_init : ZMd yX17_init 5 := ⟨by decide, by decide, by decide +kernel⟩
theorem md_X17_isWithin : ZMd yX17_isWithin 1 := ⟨by decide, by decide, by decide +kernel⟩
theorem md_X17_of : ZMd yX17_of 1 := ⟨by decide, by decide, by decide +kernel⟩
theorem md_X18_init : ZMd yX18_init 3 := ⟨by decide, by decide, by decide +kernel⟩
theorem md_X18_make : ZMd yX18_make 2 := ⟨by decide, by decide, by decide +kernel⟩
theorem md_X18_ends : ZMd yX18_ends 3 := ⟨by decide, by decide, by decide +kernel⟩
theorem md_X18_chosen : ZMd yX18_chosen 3 := ⟨by decide, by decide, by decide +kernel⟩
theorem md_X18_wanted : ZMd yX18_wanted 3 := ⟨by decide, by decide, by decide +kernel⟩
theorem md_X18_branches : ZMd yX18_branches 3 := ⟨by decide, by decide, by decide +kernel⟩
theorem md_X18_leafMany : ZMd yX18_leafMany 1 := ⟨by decide, by decide, by decide +kernel⟩
theorem md_X18_textMany : ZMd yX18_textMany 3 := ⟨by decide, by decide, by decide +kernel⟩
theorem md_X18_borderMany : ZMd yX18_borderMany 3 := ⟨by decide, by decide, by decide +kernel⟩
theorem md_X18_put : ZMd yX18_put 3 := ⟨by decide, by decide, by decide +kernel⟩
theorem md_X18_byKind : ZMd yX18_byKind 4 := ⟨by decide, by decide, by decide +kernel⟩
theorem md_X18_leaves : ZMd yX18_leaves 1 := ⟨by decide, by decide, by decide +kernel⟩
theorem md_X18_byTruth : ZMd yX18_byTruth 4 := ⟨by decide, by decide, by decide +kernel⟩
theorem md_X18_byText : ZMd yX18_byText 4 := ⟨by decide, by decide, by decide +kernel⟩
theorem md_X18_texts : ZMd yX18_texts 3 := ⟨by decide, by decide, by decide +kernel⟩
theorem md_X18_byWhole : ZMd yX18_byWhole 4 := ⟨by decide, by decide, by decide +kernel⟩
theorem md_X18_borders : ZMd yX18_borders 3 := ⟨by decide, by decide, by decide +kernel⟩
theorem md_X19_init : ZMd yX19_init 1 := ⟨by decide, by decide, by decide +kernel⟩
theorem md_X19_isOut : ZMd yX19_isOut 2 := ⟨by decide, by decide, by decide +kernel⟩
theorem md_X20_init : ZMd yX20_init 0 := ⟨by decide, by decide, by decide +kernel⟩
theorem md_X21_init : ZMd yX21_init 1 := ⟨by decide, by decide, by decide +kernel⟩
theorem md_X21_many : ZMd yX21_many 0 := ⟨by decide, by decide, by decide +kernel⟩
theorem md_X21_depth : ZMd yX21_depth 0 := ⟨by decide, by decide, by decide +kernel⟩
theorem md_X21_find : ZMd yX21_find 1 := ⟨by decide, by decide, by decide +kernel⟩
theorem md_X21_what : ZMd yX21_what 0 := ⟨by decide, by decide, by decide +kernel⟩
theorem md_X21_rule : ZMd yX21_rule 0 := ⟨by decide, by decide, by decide +kernel⟩
theorem md_X21_place : ZMd yX21_place 0 := ⟨by decide, by decide, by decide +kernel⟩
theorem md_X21_has : ZMd yX21_has 1 := ⟨by decide, by decide, by decide +kernel⟩
theorem md_X21_go : ZMd yX21_go 1 := ⟨by decide, by decide, by decide +kernel⟩
theorem md_X22_init : ZMd yX22_init 1 := ⟨by decide, by decide, by decide +kernel⟩
theorem md_X23_init : ZMd yX23_init 2 := ⟨by decide, by decide, by decide +kernel⟩
theorem md_X23_what : ZMd yX23_what 0 := ⟨by decide, by decide, by decide +kernel⟩
theorem md_X23_rule : ZMd yX23_rule 0 := ⟨by decide, by decide, by decide +kernel⟩
theorem md_X23_binds : ZMd yX23_binds 2 := ⟨by decide, by decide, by decide +kernel⟩
theorem md_X24_init : ZMd yX24_init 2 := ⟨by decide, by decide, by decide +kernel⟩
theorem md_X24_what : ZMd yX24_what 0 := ⟨by decide, by decide, by decide +kernel⟩
theorem md_X24_go : ZMd yX24_go 1 := ⟨by decide, by decide, by decide +kernel⟩
theorem md_X25_init : ZMd yX25_init 2 := ⟨by decide, by decide, by decide +kernel⟩
theorem md_X25_place : ZMd yX25_place 0 := ⟨by decide, by decide, by decide +kernel⟩
theorem md_X26_init : ZMd yX26_init 3 := ⟨by decide, by decide, by decide +kernel⟩
theorem md_X26_what : ZMd yX26_what 0 := ⟨by decide, by decide, by decide +kernel⟩
theorem md_X26_go : ZMd yX26_go 1 := ⟨by decide, by decide, by decide +kernel⟩
theorem md_X27_init : ZMd yX27_init 2 := ⟨by decide, by decide, by decide +kernel⟩
theorem md_X27_what : ZMd yX27_what 0 := ⟨by decide, by decide, by decide +kernel⟩
theorem md_X27_go : ZMd yX27_go 1 := ⟨by decide, by decide, by decide +kernel⟩
theorem md_X28_init : ZMd yX28_init 3 := ⟨by decide, by decide, by decide +kernel⟩
theorem md_X28_what : ZMd yX28_what 0 := ⟨by decide, by decide, by decide +kernel⟩
theorem md_X28_go : ZMd yX28_go 1 := ⟨by decide, by decide, by decide +kernel⟩
theorem md_X29_init : ZMd yX29_init 3 := ⟨by decide, by decide, by decide +kernel⟩
theorem md_X29_what : ZMd yX29_what 0 := ⟨by decide, by decide, by decide +kernel⟩
theorem md_X29_go : ZMd yX29_go 1 := ⟨by decide, by decide, by decide +kernel⟩
theorem md_X30_init : ZMd yX30_init 2 := ⟨by decide, by decide, by decide +kernel⟩
theorem md_X30_kind : ZMd yX30_kind 0 := ⟨by decide, by decide, by decide +kernel⟩
theorem md_X30_told : ZMd yX30_told 0 := ⟨by decide, by decide, by decide +kernel⟩
theorem md_X31_init : ZMd yX31_init 2 := ⟨by decide, by decide, by decide +kernel⟩
theorem md_X31_what : ZMd yX31_what 0 := ⟨by decide, by decide, by decide +kernel⟩
theorem md_X31_told : ZMd yX31_told 0 := ⟨by decide, by decide, by decide +kernel⟩
theorem md_X31_isLike : ZMd yX31_isLike 1 := ⟨by decide, by decide, by decide +kernel⟩
theorem md_X32_init : ZMd yX32_init 2 := ⟨by decide, by decide, by decide +kernel⟩
theorem md_X32_what : ZMd yX32_what 0 := ⟨by decide, by decide, by decide +kernel⟩
theorem md_X33_init : ZMd yX33_init 2 := ⟨by decide, by decide, by decide +kernel⟩
theorem md_X33_what : ZMd yX33_what 0 := ⟨by decide, by decide, by decide +kernel⟩
theorem md_X33_told : ZMd yX33_told 0 := ⟨by decide, by decide, by decide +kernel⟩
theorem md_X33_isLike : ZMd yX33_isLike 1 := ⟨by decide, by decide, by decide +kernel⟩
theorem md_X34_init : ZMd yX34_init 2 := ⟨by decide, by decide, by decide +kernel⟩
theorem md_X34_what : ZMd yX34_what 0 := ⟨by decide, by decide, by decide +kernel⟩
theorem md_X34_isLike : ZMd yX34_isLike 1 := ⟨by decide, by decide, by decide +kernel⟩
theorem md_X35_what : ZMd yX35_what 0 := ⟨by decide, by decide, by decide +kernel⟩
theorem md_X35_kind : ZMd yX35_kind 0 := ⟨by decide, by decide, by decide +kernel⟩
theorem md_X35_init : ZMd yX35_init 4 := ⟨by decide, by decide, by decide +kernel⟩
theorem md_X35_told : ZMd yX35_told 0 := ⟨by decide, by decide, by decide +kernel⟩
theorem md_X35_isLike : ZMd yX35_isLike 1 := ⟨by decide, by decide, by decide +kernel⟩
theorem md_J0_init_2 : ZMd yJ0_init_2 4 := ⟨by decide, by decide, by decide +kernel⟩
theorem md_J1_init : ZMd yJ1_init 4 := ⟨by decide, by decide, by decide +kernel⟩
theorem md_J2_init : ZMd yJ2_init 1 := ⟨by decide, by decide, by decide +kernel⟩
theorem md_J2_append : ZMd yJ2_append 1 := ⟨by decide, by decide, by decide +kernel⟩
theorem md_J2_ensureCapacityInternal : ZMd yJ2_ensureCapacityInternal 1 := ⟨by decide, by decide, by decide +kernel⟩
theorem md_J2_isLatin1 : ZMd yJ2_isLatin1 0 := ⟨by decide, by decide, by decide +kernel⟩
theorem md_J2_putStringAt : ZMd yJ2_putStringAt 2 := ⟨by decide, by decide, by decide +kernel⟩
theorem md_J2_inflateIfNeededFor : ZMd yJ2_inflateIfNeededFor 1 := ⟨by decide, by decide, by decide +kernel⟩
theorem md_J2_append_2 : ZMd yJ2_append_2 1 := ⟨by decide, by decide, by decide +kernel⟩
theorem md_J2_getValue : ZMd yJ2_getValue 0 := ⟨by decide, by decide, by decide +kernel⟩
theorem md_J2_length : ZMd yJ2_length 0 := ⟨by decide, by decide, by decide +kernel⟩
theorem md_J3_init : ZMd yJ3_init 1 := ⟨by decide, by decide, by decide +kernel⟩
theorem md_J3_append : ZMd yJ3_append 1 := ⟨by decide, by decide, by decide +kernel⟩
theorem md_J3_append_2 : ZMd yJ3_append_2 1 := ⟨by decide, by decide, by decide +kernel⟩
theorem md_J3_append_3 : ZMd yJ3_append_3 1 := ⟨by decide, by decide, by decide +kernel⟩
theorem md_J3_toString : ZMd yJ3_toString 0 := ⟨by decide, by decide, by decide +kernel⟩
theorem md_J3_length : ZMd yJ3_length 0 := ⟨by decide, by decide, by decide +kernel⟩
theorem md_J4_length : ZMd yJ4_length 0 := ⟨by decide, by decide, by decide +kernel⟩
theorem md_J4_coder : ZMd yJ4_coder 0 := ⟨by decide, by decide, by decide +kernel⟩
theorem md_J4_getBytes : ZMd yJ4_getBytes 3 := ⟨by decide, by decide, by decide +kernel⟩
theorem md_J4_checkIndex : ZMd yJ4_checkIndex 2 := ⟨by decide, by decide, by decide +kernel⟩
theorem md_J4_init : ZMd yJ4_init 1 := ⟨by decide, by decide, by decide +kernel⟩
theorem md_J4_init_2 : ZMd yJ4_init_2 2 := ⟨by decide, by decide, by decide +kernel⟩
theorem md_J4_contains : ZMd yJ4_contains 1 := ⟨by decide, by decide, by decide +kernel⟩
theorem md_J4_toString : ZMd yJ4_toString 0 := ⟨by decide, by decide, by decide +kernel⟩
theorem md_J4_indexOf : ZMd yJ4_indexOf 1 := ⟨by decide, by decide, by decide +kernel⟩
theorem md_J4_isLatin1 : ZMd yJ4_isLatin1 0 := ⟨by decide, by decide, by decide +kernel⟩
theorem md_J4_indexOf_2 : ZMd yJ4_indexOf_2 1 := ⟨by decide, by decide, by decide +kernel⟩
theorem md_J4_indexOf_3 : ZMd yJ4_indexOf_3 2 := ⟨by decide, by decide, by decide +kernel⟩
theorem md_J4_charAt : ZMd yJ4_charAt 1 := ⟨by decide, by decide, by decide +kernel⟩
theorem md_J8_copyOfRange : ZMd yJ8_copyOfRange 3 := ⟨by decide, by decide, by decide +kernel⟩
theorem md_J8_copyOfRangeByte : ZMd yJ8_copyOfRangeByte 3 := ⟨by decide, by decide, by decide +kernel⟩
theorem md_J8_checkLength : ZMd yJ8_checkLength 2 := ⟨by decide, by decide, by decide +kernel⟩
theorem md_J8_fill : ZMd yJ8_fill 2 := ⟨by decide, by decide, by decide +kernel⟩
theorem md_J9_checkIndex : ZMd yJ9_checkIndex 3 := ⟨by decide, by decide, by decide +kernel⟩
theorem md_J10_canEncode : ZMd yJ10_canEncode 1 := ⟨by decide, by decide, by decide +kernel⟩
theorem md_J10_indexOf : ZMd yJ10_indexOf 2 := ⟨by decide, by decide, by decide +kernel⟩
theorem md_J10_indexOf_2 : ZMd yJ10_indexOf_2 5 := ⟨by decide, by decide, by decide +kernel⟩
theorem md_J10_indexOf_3 : ZMd yJ10_indexOf_3 4 := ⟨by decide, by decide, by decide +kernel⟩
theorem md_J10_canEncode_2 : ZMd yJ10_canEncode_2 1 := ⟨by decide, by decide, by decide +kernel⟩
theorem md_J10_indexOfChar : ZMd yJ10_indexOfChar 4 := ⟨by decide, by decide, by decide +kernel⟩
theorem md_J10_charAt : ZMd yJ10_charAt 2 := ⟨by decide, by decide, by decide +kernel⟩
theorem mdx_0 : ZMd ⟨"LetterPost$Value", "what", "()I"⟩ 0 := ⟨by decide, by decide, by decide +kernel⟩
theorem mdx_1 : ZMd ⟨"LetterPost$Value", "isLike", "(LLetterPost$Value;)Z"⟩ 1 := ⟨by decide, by decide, by decide +kernel⟩
theorem mdx_2 : ZMd ⟨"LetterPost$Answering", "go", "([LLetterPost$Value;)LLetterPost$Node;"⟩ 1 := ⟨by decide, by decide, by decide +kernel⟩
theorem mdx_3 : ZMd ⟨"LetterPost$Pattern", "holds", "(LLetterPost$Value;[LLetterPost$Value;)Z"⟩ 2 := ⟨by decide, by decide, by decide +kernel⟩
theorem mdx_4 : ZMd ⟨"LetterPost$Test", "by", "(LLetterPost$Known;LLetterPost$Place;)I"⟩ 2 := ⟨by decide, by decide, by decide +kernel⟩
theorem zfty_0 : parseFieldDescriptor "[LLetterPost$Kind;" = some (.array (.object "LetterPost$Kind")) := by decide +kernel
theorem zfty_1 : parseFieldDescriptor "I" = some .int := by decide +kernel
theorem zfty_2 : parseFieldDescriptor "I" = some .int := by decide +kernel
theorem zfty_3 : parseFieldDescriptor "[LLetterPost$Value;" = some (.array (.object "LetterPost$Value")) := by decide +kernel
theorem zfty_4 : parseFieldDescriptor "I" = some .int := by decide +kernel
theorem zfty_5 : parseFieldDescriptor "[LLetterPost$Function;" = some (.array (.object "LetterPost$Function")) := by decide +kernel
theorem zfty_6 : parseFieldDescriptor "I" = some .int := by decide +kernel
theorem zfty_7 : parseFieldDescriptor "[B" = some (.array .byte) := by decide +kernel
theorem zfty_8 : parseFieldDescriptor "I" = some .int := by decide +kernel
theorem zfty_9 : parseFieldDescriptor "I" = some .int := by decide +kernel
theorem zfty_10 : parseFieldDescriptor "I" = some .int := by decide +kernel
theorem zfty_11 : parseFieldDescriptor "I" = some .int := by decide +kernel
theorem zfty_12 : parseFieldDescriptor "J" = some .long := by decide +kernel
theorem zfty_13 : parseFieldDescriptor "I" = some .int := by decide +kernel
theorem zfty_14 : parseFieldDescriptor "I" = some .int := by decide +kernel
theorem zfty_15 : parseFieldDescriptor "[J" = some (.array .long) := by decide +kernel
theorem zfty_16 : parseFieldDescriptor "[I" = some (.array .int) := by decide +kernel
theorem zfty_17 : parseFieldDescriptor "I" = some .int := by decide +kernel
theorem zfty_18 : parseFieldDescriptor "I" = some .int := by decide +kernel
theorem zfty_19 : parseFieldDescriptor "I" = some .int := by decide +kernel
theorem zfty_20 : parseFieldDescriptor "Z" = some .boolean := by decide +kernel
theorem zfty_21 : parseFieldDescriptor "I" = some .int := by decide +kernel
theorem zfty_22 : parseFieldDescriptor "Z" = some .boolean := by decide +kernel
theorem zfty_23 : parseFieldDescriptor "[I" = some (.array .int) := by decide +kernel
theorem zfty_24 : parseFieldDescriptor "[I" = some (.array .int) := by decide +kernel
theorem zfty_25 : parseFieldDescriptor "LLetterPost$Rule;" = some (.object "LetterPost$Rule") := by decide +kernel
theorem zfty_26 : parseFieldDescriptor "[LLetterPost$Value;" = some (.array (.object "LetterPost$Value")) := by decide +kernel
theorem zfty_27 : parseFieldDescriptor "I" = some .int := by decide +kernel
theorem zfty_28 : parseFieldDescriptor "LLetterPost$Rule;" = some (.object "LetterPost$Rule") := by decide +kernel
theorem zfty_29 : parseFieldDescriptor "Ljava/lang/Throwable;" = some (.object "java/lang/Throwable") := by decide +kernel
theorem zfty_30 : parseFieldDescriptor "[Ljava/lang/StackTraceElement;" = some (.array (.object "java/lang/StackTraceElement")) := by decide +kernel
theorem zfty_31 : parseFieldDescriptor "Ljava/util/List;" = some (.object "java/util/List") := by decide +kernel
theorem zfty_32 : parseFieldDescriptor "Ljava/lang/String;" = some (.object "java/lang/String") := by decide +kernel
theorem zfty_35 : parseFieldDescriptor "I" = some .int := by decide +kernel
theorem zfty_36 : parseFieldDescriptor "I" = some .int := by decide +kernel
theorem zfty_37 : parseFieldDescriptor "I" = some .int := by decide +kernel
theorem zfty_38 : parseFieldDescriptor "J" = some .long := by decide +kernel
theorem zfty_39 : parseFieldDescriptor "LLetterPost$Kind;" = some (.object "LetterPost$Kind") := by decide +kernel
theorem zfty_40 : parseFieldDescriptor "Z" = some .boolean := by decide +kernel
theorem zfty_41 : parseFieldDescriptor "[I" = some (.array .int) := by decide +kernel
theorem zfty_42 : parseFieldDescriptor "I" = some .int := by decide +kernel
theorem zfty_43 : parseFieldDescriptor "I" = some .int := by decide +kernel
theorem zfty_44 : parseFieldDescriptor "J" = some .long := by decide +kernel
theorem zfty_45 : parseFieldDescriptor "[I" = some (.array .int) := by decide +kernel
theorem zfty_46 : parseFieldDescriptor "I" = some .int := by decide +kernel
theorem zfty_47 : parseFieldDescriptor "[LLetterPost$Rule;" = some (.array (.object "LetterPost$Rule")) := by decide +kernel
theorem zfty_48 : parseFieldDescriptor "I" = some .int := by decide +kernel
theorem zfty_49 : parseFieldDescriptor "[LLetterPost$Row;" = some (.array (.object "LetterPost$Row")) := by decide +kernel
theorem zfty_50 : parseFieldDescriptor "[LLetterPost$Place;" = some (.array (.object "LetterPost$Place")) := by decide +kernel
theorem zfty_51 : parseFieldDescriptor "I" = some .int := by decide +kernel
theorem zfty_52 : parseFieldDescriptor "LLetterPost$Node;" = some (.object "LetterPost$Node") := by decide +kernel
theorem zfty_53 : parseFieldDescriptor "I" = some .int := by decide +kernel
theorem zfty_54 : parseFieldDescriptor "I" = some .int := by decide +kernel
theorem zfty_55 : parseFieldDescriptor "LLetterPost;" = some (.object "LetterPost") := by decide +kernel
theorem zfty_56 : parseFieldDescriptor "I" = some .int := by decide +kernel
theorem zfty_57 : parseFieldDescriptor "I" = some .int := by decide +kernel
theorem zfty_58 : parseFieldDescriptor "[LLetterPost$Pattern;" = some (.array (.object "LetterPost$Pattern")) := by decide +kernel
theorem zfty_59 : parseFieldDescriptor "LLetterPost$Guard;" = some (.object "LetterPost$Guard") := by decide +kernel
theorem zfty_60 : parseFieldDescriptor "I" = some .int := by decide +kernel
theorem zfty_61 : parseFieldDescriptor "I" = some .int := by decide +kernel
theorem zfty_62 : parseFieldDescriptor "[I" = some (.array .int) := by decide +kernel
theorem zfty_63 : parseFieldDescriptor "J" = some .long := by decide +kernel
theorem zfty_64 : parseFieldDescriptor "I" = some .int := by decide +kernel
theorem zfty_65 : parseFieldDescriptor "[I" = some (.array .int) := by decide +kernel
theorem zfty_66 : parseFieldDescriptor "LLetterPost$Function;" = some (.object "LetterPost$Function") := by decide +kernel
theorem zfty_67 : parseFieldDescriptor "[I" = some (.array .int) := by decide +kernel
theorem zfty_68 : parseFieldDescriptor "I" = some .int := by decide +kernel
theorem zfty_69 : parseFieldDescriptor "I" = some .int := by decide +kernel
theorem zfty_70 : parseFieldDescriptor "I" = some .int := by decide +kernel
theorem zfty_71 : parseFieldDescriptor "LLetterPost$Kind;" = some (.object "LetterPost$Kind") := by decide +kernel
theorem zfty_72 : parseFieldDescriptor "[LLetterPost$Pattern;" = some (.array (.object "LetterPost$Pattern")) := by decide +kernel
theorem zfty_73 : parseFieldDescriptor "[LLetterPost$Pattern;" = some (.array (.object "LetterPost$Pattern")) := by decide +kernel
theorem zfty_74 : parseFieldDescriptor "J" = some .long := by decide +kernel
theorem zfty_75 : parseFieldDescriptor "Z" = some .boolean := by decide +kernel
theorem zfty_76 : parseFieldDescriptor "[I" = some (.array .int) := by decide +kernel
theorem zfty_77 : parseFieldDescriptor "[I" = some (.array .int) := by decide +kernel
theorem zfty_78 : parseFieldDescriptor "[I" = some (.array .int) := by decide +kernel
theorem zfty_79 : parseFieldDescriptor "I" = some .int := by decide +kernel
theorem zfty_80 : parseFieldDescriptor "LLetterPost$Rule;" = some (.object "LetterPost$Rule") := by decide +kernel
theorem zfty_81 : parseFieldDescriptor "[LLetterPost$Place;" = some (.array (.object "LetterPost$Place")) := by decide +kernel
theorem zfty_82 : parseFieldDescriptor "[LLetterPost$Test;" = some (.array (.object "LetterPost$Test")) := by decide +kernel
theorem zfty_83 : parseFieldDescriptor "I" = some .int := by decide +kernel
theorem zfty_84 : parseFieldDescriptor "[LLetterPost$Place;" = some (.array (.object "LetterPost$Place")) := by decide +kernel
theorem zfty_85 : parseFieldDescriptor "LLetterPost$Place;" = some (.object "LetterPost$Place") := by decide +kernel
theorem zfty_86 : parseFieldDescriptor "LLetterPost$Kind;" = some (.object "LetterPost$Kind") := by decide +kernel
theorem zfty_87 : parseFieldDescriptor "I" = some .int := by decide +kernel
theorem zfty_88 : parseFieldDescriptor "I" = some .int := by decide +kernel
theorem zfty_89 : parseFieldDescriptor "I" = some .int := by decide +kernel
theorem zfty_90 : parseFieldDescriptor "I" = some .int := by decide +kernel
theorem zfty_91 : parseFieldDescriptor "LLetterPost$Known;" = some (.object "LetterPost$Known") := by decide +kernel
theorem zfty_92 : parseFieldDescriptor "I" = some .int := by decide +kernel
theorem zfty_93 : parseFieldDescriptor "I" = some .int := by decide +kernel
theorem zfty_94 : parseFieldDescriptor "[LLetterPost$Place;" = some (.array (.object "LetterPost$Place")) := by decide +kernel
theorem zfty_95 : parseFieldDescriptor "[J" = some (.array .long) := by decide +kernel
theorem zfty_96 : parseFieldDescriptor "[I" = some (.array .int) := by decide +kernel
theorem zfty_97 : parseFieldDescriptor "LLetterPost;" = some (.object "LetterPost") := by decide +kernel
theorem zfty_98 : parseFieldDescriptor "[I" = some (.array .int) := by decide +kernel
theorem zfty_99 : parseFieldDescriptor "[LLetterPost$Kind;" = some (.array (.object "LetterPost$Kind")) := by decide +kernel
theorem zfty_100 : parseFieldDescriptor "[J" = some (.array .long) := by decide +kernel
theorem zfty_101 : parseFieldDescriptor "[I" = some (.array .int) := by decide +kernel
theorem zfty_102 : parseFieldDescriptor "[I" = some (.array .int) := by decide +kernel
theorem zfty_103 : parseFieldDescriptor "[LLetterPost$Place;" = some (.array (.object "LetterPost$Place")) := by decide +kernel
theorem zfty_104 : parseFieldDescriptor "[J" = some (.array .long) := by decide +kernel
theorem zfty_105 : parseFieldDescriptor "I" = some .int := by decide +kernel
theorem zfty_106 : parseFieldDescriptor "I" = some .int := by decide +kernel
theorem zfty_107 : parseFieldDescriptor "[LLetterPost$Node;" = some (.array (.object "LetterPost$Node")) := by decide +kernel
theorem zfty_108 : parseFieldDescriptor "LLetterPost$Row;" = some (.object "LetterPost$Row") := by decide +kernel
theorem zfty_109 : parseFieldDescriptor "LLetterPost$Place;" = some (.object "LetterPost$Place") := by decide +kernel
theorem zfty_110 : parseFieldDescriptor "[LLetterPost$Kind;" = some (.array (.object "LetterPost$Kind")) := by decide +kernel
theorem zfty_111 : parseFieldDescriptor "[J" = some (.array .long) := by decide +kernel
theorem zfty_112 : parseFieldDescriptor "[I" = some (.array .int) := by decide +kernel
theorem zfty_113 : parseFieldDescriptor "I" = some .int := by decide +kernel
theorem zfty_114 : parseFieldDescriptor "I" = some .int := by decide +kernel
theorem zfty_115 : parseFieldDescriptor "I" = some .int := by decide +kernel
theorem zfty_116 : parseFieldDescriptor "J" = some .long := by decide +kernel
theorem zfty_117 : parseFieldDescriptor "LLetterPost$Kind;" = some (.object "LetterPost$Kind") := by decide +kernel
theorem zfty_118 : parseFieldDescriptor "[LLetterPost$Value;" = some (.array (.object "LetterPost$Value")) := by decide +kernel
theorem zfty_119 : parseFieldDescriptor "[B" = some (.array .byte) := by decide +kernel
theorem zfty_120 : parseFieldDescriptor "B" = some .byte := by decide +kernel
theorem zfty_122 : parseFieldDescriptor "I" = some .int := by decide +kernel
theorem zfty_123 : parseFieldDescriptor "[B" = some (.array .byte) := by decide +kernel
theorem zfty_124 : parseFieldDescriptor "B" = some .byte := by decide +kernel
theorem zfty_127 : parseFieldDescriptor "[I" = some (.array .int) := by decide +kernel
theorem zfty_139 : parseFieldDescriptor "[J" = some (.array .long) := by decide +kernel
theorem zfty_140 : parseFieldDescriptor "[I" = some (.array .int) := by decide +kernel
theorem zfty_141 : parseFieldDescriptor "[I" = some (.array .int) := by decide +kernel
theorem zfty_142 : parseFieldDescriptor "[I" = some (.array .int) := by decide +kernel
theorem zfty_144 : parseFieldDescriptor "[I" = some (.array .int) := by decide +kernel
theorem zfty_145 : parseFieldDescriptor "[I" = some (.array .int) := by decide +kernel
theorem zfty_146 : parseFieldDescriptor "[I" = some (.array .int) := by decide +kernel
theorem zfty_147 : parseFieldDescriptor "[I" = some (.array .int) := by decide +kernel
theorem zfty_148 : parseFieldDescriptor "[J" = some (.array .long) := by decide +kernel
theorem zfty_149 : parseFieldDescriptor "[I" = some (.array .int) := by decide +kernel
theorem zfty_150 : parseFieldDescriptor "[I" = some (.array .int) := by decide +kernel
theorem zfty_151 : parseFieldDescriptor "[I" = some (.array .int) := by decide +kernel
theorem zfty_152 : parseFieldDescriptor "[I" = some (.array .int) := by decide +kernel
theorem zfty_153 : parseFieldDescriptor "[I" = some (.array .int) := by decide +kernel
theorem zfty_155 : parseFieldDescriptor "[I" = some (.array .int) := by decide +kernel
theorem zfty_156 : parseFieldDescriptor "[J" = some (.array .long) := by decide +kernel
theorem zfty_157 : parseFieldDescriptor "[I" = some (.array .int) := by decide +kernel
theorem zfty_160 : parseFieldDescriptor "[I" = some (.array .int) := by decide +kernel
theorem zfty_161 : parseFieldDescriptor "[I" = some (.array .int) := by decide +kernel
theorem zfty_162 : parseFieldDescriptor "[I" = some (.array .int) := by decide +kernel
theorem zfty_163 : parseFieldDescriptor "[I" = some (.array .int) := by decide +kernel
theorem zfty_164 : parseFieldDescriptor "[I" = some (.array .int) := by decide +kernel
theorem zfty_165 : parseFieldDescriptor "[I" = some (.array .int) := by decide +kernel
theorem zfty_166 : parseFieldDescriptor "[Z" = some (.array .boolean) := by decide +kernel
theorem zfty_167 : parseFieldDescriptor "[I" = some (.array .int) := by decide +kernel
theorem zfty_169 : parseFieldDescriptor "[J" = some (.array .long) := by decide +kernel
theorem zfty_170 : parseFieldDescriptor "[I" = some (.array .int) := by decide +kernel
theorem zfty_171 : parseFieldDescriptor "[I" = some (.array .int) := by decide +kernel
theorem zfty_172 : parseFieldDescriptor "[I" = some (.array .int) := by decide +kernel
theorem zfty_173 : parseFieldDescriptor "[I" = some (.array .int) := by decide +kernel
theorem zfty_174 : parseFieldDescriptor "[I" = some (.array .int) := by decide +kernel
theorem zfty_175 : parseFieldDescriptor "[I" = some (.array .int) := by decide +kernel
theorem zfty_176 : parseFieldDescriptor "[I" = some (.array .int) := by decide +kernel
theorem zfty_177 : parseFieldDescriptor "[I" = some (.array .int) := by decide +kernel
theorem zfty_178 : parseFieldDescriptor "[I" = some (.array .int) := by decide +kernel
theorem zfty_179 : parseFieldDescriptor "[I" = some (.array .int) := by decide +kernel
theorem zfty_180 : parseFieldDescriptor "[I" = some (.array .int) := by decide +kernel
theorem zfty_181 : parseFieldDescriptor "[I" = some (.array .int) := by decide +kernel
theorem zfty_182 : parseFieldDescriptor "[I" = some (.array .int) := by decide +kernel
theorem zfty_183 : parseFieldDescriptor "[J" = some (.array .long) := by decide +kernel
theorem zfty_184 : parseFieldDescriptor "[I" = some (.array .int) := by decide +kernel
theorem zfty_185 : parseFieldDescriptor "[I" = some (.array .int) := by decide +kernel
theorem zfty_186 : parseFieldDescriptor "[I" = some (.array .int) := by decide +kernel
theorem zfty_187 : parseFieldDescriptor "[I" = some (.array .int) := by decide +kernel
theorem zfty_189 : parseFieldDescriptor "[I" = some (.array .int) := by decide +kernel
theorem zfty_190 : parseFieldDescriptor "[I" = some (.array .int) := by decide +kernel
theorem zfty_191 : parseFieldDescriptor "[I" = some (.array .int) := by decide +kernel
theorem zfty_193 : parseFieldDescriptor "[I" = some (.array .int) := by decide +kernel
theorem zfty_194 : parseFieldDescriptor "[I" = some (.array .int) := by decide +kernel
theorem zfty_195 : parseFieldDescriptor "[I" = some (.array .int) := by decide +kernel
theorem zfty_196 : parseFieldDescriptor "[Z" = some (.array .boolean) := by decide +kernel
theorem zfty_197 : parseFieldDescriptor "[Z" = some (.array .boolean) := by decide +kernel
theorem zfty_199 : parseFieldDescriptor "[I" = some (.array .int) := by decide +kernel
theorem zfty_200 : parseFieldDescriptor "[I" = some (.array .int) := by decide +kernel
theorem zfty_201 : parseFieldDescriptor "[I" = some (.array .int) := by decide +kernel
theorem zfty_202 : parseFieldDescriptor "[I" = some (.array .int) := by decide +kernel
theorem zfty_203 : parseFieldDescriptor "[I" = some (.array .int) := by decide +kernel
theorem zfty_204 : parseFieldDescriptor "[I" = some (.array .int) := by decide +kernel
theorem zfty_205 : parseFieldDescriptor "[I" = some (.array .int) := by decide +kernel
theorem zfty_206 : parseFieldDescriptor "[I" = some (.array .int) := by decide +kernel
theorem zfty_207 : parseFieldDescriptor "[I" = some (.array .int) := by decide +kernel
theorem zfty_208 : parseFieldDescriptor "[I" = some (.array .int) := by decide +kernel
theorem zfty_209 : parseFieldDescriptor "[I" = some (.array .int) := by decide +kernel
theorem zfty_210 : parseFieldDescriptor "[I" = some (.array .int) := by decide +kernel
theorem zfty_211 : parseFieldDescriptor "[I" = some (.array .int) := by decide +kernel
theorem zfty_212 : parseFieldDescriptor "[I" = some (.array .int) := by decide +kernel
theorem zfty_213 : parseFieldDescriptor "[I" = some (.array .int) := by decide +kernel
theorem zfty_214 : parseFieldDescriptor "[I" = some (.array .int) := by decide +kernel
theorem zfty_215 : parseFieldDescriptor "[I" = some (.array .int) := by decide +kernel
theorem zfty_216 : parseFieldDescriptor "[I" = some (.array .int) := by decide +kernel
theorem zfty_217 : parseFieldDescriptor "[I" = some (.array .int) := by decide +kernel
theorem zfty_218 : parseFieldDescriptor "[J" = some (.array .long) := by decide +kernel
theorem zfty_219 : parseFieldDescriptor "[Z" = some (.array .boolean) := by decide +kernel
theorem zfty_221 : parseFieldDescriptor "[I" = some (.array .int) := by decide +kernel
theorem zfty_222 : parseFieldDescriptor "[I" = some (.array .int) := by decide +kernel
theorem zfty_223 : parseFieldDescriptor "[I" = some (.array .int) := by decide +kernel
theorem zfty_224 : parseFieldDescriptor "[J" = some (.array .long) := by decide +kernel
theorem zfty_225 : parseFieldDescriptor "[Z" = some (.array .boolean) := by decide +kernel
theorem zfty_227 : parseFieldDescriptor "[I" = some (.array .int) := by decide +kernel
theorem zfty_228 : parseFieldDescriptor "[I" = some (.array .int) := by decide +kernel
theorem zfty_229 : parseFieldDescriptor "[J" = some (.array .long) := by decide +kernel
theorem zfty_230 : parseFieldDescriptor "[Z" = some (.array .boolean) := by decide +kernel
theorem zfty_231 : parseFieldDescriptor "[J" = some (.array .long) := by decide +kernel
theorem zfty_233 : parseFieldDescriptor "[I" = some (.array .int) := by decide +kernel
theorem zfty_234 : parseFieldDescriptor "[I" = some (.array .int) := by decide +kernel
theorem zfty_235 : parseFieldDescriptor "[Z" = some (.array .boolean) := by decide +kernel
theorem zfty_237 : parseFieldDescriptor "[I" = some (.array .int) := by decide +kernel
theorem zfty_238 : parseFieldDescriptor "[I" = some (.array .int) := by decide +kernel
theorem zfty_239 : parseFieldDescriptor "[J" = some (.array .long) := by decide +kernel
theorem zfty_240 : parseFieldDescriptor "[I" = some (.array .int) := by decide +kernel
theorem zfty_241 : parseFieldDescriptor "[I" = some (.array .int) := by decide +kernel
theorem zfty_242 : parseFieldDescriptor "[I" = some (.array .int) := by decide +kernel
theorem zfty_243 : parseFieldDescriptor "[I" = some (.array .int) := by decide +kernel
theorem zfty_244 : parseFieldDescriptor "[I" = some (.array .int) := by decide +kernel
theorem zfty_245 : parseFieldDescriptor "[I" = some (.array .int) := by decide +kernel
theorem zfty_254 : parseFieldDescriptor "[I" = some (.array .int) := by decide +kernel
theorem zfty_256 : parseFieldDescriptor "[I" = some (.array .int) := by decide +kernel
end ZTCab
