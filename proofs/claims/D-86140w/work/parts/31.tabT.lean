/-! the table of the reference's methods; the weakest precondition by depth -/
section ZTTab
def eT_feed (call : Nat → List ZA → TW → (ZRes → TW → Prop) → Prop) (as : List ZA) (w : TW) (Q : ZRes → TW → Prop) : Prop := match as with
  | [.inr (.inl x1), .inl x3] => pT_feed_0 call (fun v w => Q (.inl (some (ai v))) w) x1 x3 w
  | _ => False
def eT_in (call : Nat → List ZA → TW → (ZRes → TW → Prop) → Prop) (as : List ZA) (w : TW) (Q : ZRes → TW → Prop) : Prop := match as with
  | [.inr (.inl x0), .inr (.inl x2), .inr (.inl x4)] => pT_in_0 call (fun v w => Q (.inl (some (ai v))) w) x0 x2 x4 w
  | _ => False
def eT_read (call : Nat → List ZA → TW → (ZRes → TW → Prop) → Prop) (as : List ZA) (w : TW) (Q : ZRes → TW → Prop) : Prop := match as with
  | [] => pT_read_0 call (fun v w => Q (.inl (some (ai v))) w) w
  | _ => False
def eT_beginTape (call : Nat → List ZA → TW → (ZRes → TW → Prop) → Prop) (as : List ZA) (w : TW) (Q : ZRes → TW → Prop) : Prop := match as with
  | [] => pT_beginTape_0 call (fun w => Q (.inl none) w) w
  | _ => False
def eT_next (call : Nat → List ZA → TW → (ZRes → TW → Prop) → Prop) (as : List ZA) (w : TW) (Q : ZRes → TW → Prop) : Prop := match as with
  | [] => pT_next_0 call (fun w => Q (.inl none) w) w
  | _ => False
def eT_byteAt (call : Nat → List ZA → TW → (ZRes → TW → Prop) → Prop) (as : List ZA) (w : TW) (Q : ZRes → TW → Prop) : Prop := match as with
  | [.inl x1] => pT_byteAt_0 call (fun v w => Q (.inl (some (ai v))) w) x1 w
  | _ => False
def eT_isSmall (call : Nat → List ZA → TW → (ZRes → TW → Prop) → Prop) (as : List ZA) (w : TW) (Q : ZRes → TW → Prop) : Prop := match as with
  | [.inl x0] => pT_isSmall_0 call (fun v w => Q (.inl (some (ai v))) w) x0 w
  | _ => False
def eT_name (call : Nat → List ZA → TW → (ZRes → TW → Prop) → Prop) (as : List ZA) (w : TW) (Q : ZRes → TW → Prop) : Prop := match as with
  | [.inl x1] => pT_name_0 call (fun w => Q (.inl none) w) x1 w
  | _ => False
def eT_isFigure (call : Nat → List ZA → TW → (ZRes → TW → Prop) → Prop) (as : List ZA) (w : TW) (Q : ZRes → TW → Prop) : Prop := match as with
  | [.inl x0] => pT_isFigure_0 call (fun v w => Q (.inl (some (ai v))) w) x0 w
  | _ => False
def eT_wordOf (call : Nat → List ZA → TW → (ZRes → TW → Prop) → Prop) (as : List ZA) (w : TW) (Q : ZRes → TW → Prop) : Prop := match as with
  | [.inr (.inl x0)] => pT_wordOf_0 call (fun v w => Q (.inl (some (ai v))) w) x0 w
  | _ => False
def eT_isWord (call : Nat → List ZA → TW → (ZRes → TW → Prop) → Prop) (as : List ZA) (w : TW) (Q : ZRes → TW → Prop) : Prop := match as with
  | [.inl x1] => pT_isWord_0 call (fun v w => Q (.inl (some (ai v))) w) x1 w
  | _ => False
def eT_readKind (call : Nat → List ZA → TW → (ZRes → TW → Prop) → Prop) (as : List ZA) (w : TW) (Q : ZRes → TW → Prop) : Prop := match as with
  | [.inl x1] => pT_readKind_0 call (fun w => Q (.inl none) w) x1 w
  | _ => False
def eT_stop (call : Nat → List ZA → TW → (ZRes → TW → Prop) → Prop) (as : List ZA) (w : TW) (Q : ZRes → TW → Prop) : Prop := match as with
  | [.inl x1] => pT_stop_0 call (fun w => Q (.inl none) w) x1 w
  | _ => False
def eT_fails (call : Nat → List ZA → TW → (ZRes → TW → Prop) → Prop) (as : List ZA) (w : TW) (Q : ZRes → TW → Prop) : Prop := match as with
  | [.inl x1, .inl x2] => pT_fails_0 call (fun w => Q (.inl none) w) x1 x2 w
  | _ => False
def eT_kindOf (call : Nat → List ZA → TW → (ZRes → TW → Prop) → Prop) (as : List ZA) (w : TW) (Q : ZRes → TW → Prop) : Prop := match as with
  | [.inr (.inl x1)] => pT_kindOf_0 call (fun v w => Q (.inl (some (ai v))) w) x1 w
  | _ => False
def eT_readUnder (call : Nat → List ZA → TW → (ZRes → TW → Prop) → Prop) (as : List ZA) (w : TW) (Q : ZRes → TW → Prop) : Prop := match as with
  | [.inl x1, .inl x2] => pT_readUnder_0 call (fun w => Q (.inl none) w) x1 x2 w
  | _ => False
def eT_isSealed (call : Nat → List ZA → TW → (ZRes → TW → Prop) → Prop) (as : List ZA) (w : TW) (Q : ZRes → TW → Prop) : Prop := match as with
  | [.inl x1] => pT_isSealed_0 call (fun v w => Q (.inl (some (ai v))) w) x1 w
  | _ => False
def eT_takes (call : Nat → List ZA → TW → (ZRes → TW → Prop) → Prop) (as : List ZA) (w : TW) (Q : ZRes → TW → Prop) : Prop := match as with
  | [.inl x1] => pT_takes_0 call (fun v w => Q (.inl (some (ai v))) w) x1 w
  | _ => False
def eT_isSign (call : Nat → List ZA → TW → (ZRes → TW → Prop) → Prop) (as : List ZA) (w : TW) (Q : ZRes → TW → Prop) : Prop := match as with
  | [.inl x1] => pT_isSign_0 call (fun v w => Q (.inl (some (ai v))) w) x1 w
  | _ => False
def eT_readSort (call : Nat → List ZA → TW → (ZRes → TW → Prop) → Prop) (as : List ZA) (w : TW) (Q : ZRes → TW → Prop) : Prop := match as with
  | [.inl x1] => pT_readSort_0 call (fun v w => Q (.inl (some (ai v))) w) x1 w
  | _ => False
def eT_must (call : Nat → List ZA → TW → (ZRes → TW → Prop) → Prop) (as : List ZA) (w : TW) (Q : ZRes → TW → Prop) : Prop := match as with
  | [.inl x1] => pT_must_0 call (fun w => Q (.inl none) w) x1 w
  | _ => False
def eT_readFunction (call : Nat → List ZA → TW → (ZRes → TW → Prop) → Prop) (as : List ZA) (w : TW) (Q : ZRes → TW → Prop) : Prop := match as with
  | [] => pT_readFunction_0 call (fun w => Q (.inl none) w) w
  | _ => False
def eT_functionOf (call : Nat → List ZA → TW → (ZRes → TW → Prop) → Prop) (as : List ZA) (w : TW) (Q : ZRes → TW → Prop) : Prop := match as with
  | [.inr (.inl x1)] => pT_functionOf_0 call (fun v w => Q (.inl (some (ai v))) w) x1 w
  | _ => False
def eT_readRule (call : Nat → List ZA → TW → (ZRes → TW → Prop) → Prop) (as : List ZA) (w : TW) (Q : ZRes → TW → Prop) : Prop := match as with
  | [.inl x1] => pT_readRule_0 call (fun w => Q (.inl none) w) x1 w
  | _ => False
def eT_readPattern (call : Nat → List ZA → TW → (ZRes → TW → Prop) → Prop) (as : List ZA) (w : TW) (Q : ZRes → TW → Prop) : Prop := match as with
  | [.inl x1, .inl x2] => pT_readPattern_0 call (fun v w => Q (.inl (some (ai v))) w) x1 x2 w
  | _ => False
def eT_begins (call : Nat → List ZA → TW → (ZRes → TW → Prop) → Prop) (as : List ZA) (w : TW) (Q : ZRes → TW → Prop) : Prop := match as with
  | [.inl x1, .inl x2] => pT_begins_0 call (fun v w => Q (.inl (some (ai v))) w) x1 x2 w
  | _ => False
def eT_isOf (call : Nat → List ZA → TW → (ZRes → TW → Prop) → Prop) (as : List ZA) (w : TW) (Q : ZRes → TW → Prop) : Prop := match as with
  | [.inl x1, .inl x2] => pT_isOf_0 call (fun v w => Q (.inl (some (ai v))) w) x1 x2 w
  | _ => False
def eT_newPattern (call : Nat → List ZA → TW → (ZRes → TW → Prop) → Prop) (as : List ZA) (w : TW) (Q : ZRes → TW → Prop) : Prop := match as with
  | [.inl x1, .inl x2] => pT_newPattern_0 call (fun v w => Q (.inl (some (ai v))) w) x1 x2 w
  | _ => False
def eT_nameOf (call : Nat → List ZA → TW → (ZRes → TW → Prop) → Prop) (as : List ZA) (w : TW) (Q : ZRes → TW → Prop) : Prop := match as with
  | [.inr (.inl x1)] => pT_nameOf_0 call (fun v w => Q (.inl (some (ai v))) w) x1 w
  | _ => False
def eT_binds (call : Nat → List ZA → TW → (ZRes → TW → Prop) → Prop) (as : List ZA) (w : TW) (Q : ZRes → TW → Prop) : Prop := match as with
  | [.inl x1] => pT_binds_0 call (fun v w => Q (.inl (some (ai v))) w) x1 w
  | _ => False
def eT_range (call : Nat → List ZA → TW → (ZRes → TW → Prop) → Prop) (as : List ZA) (w : TW) (Q : ZRes → TW → Prop) : Prop := match as with
  | [.inl x1, .inl x2] => pT_range_0 call (fun w => Q (.inl none) w) x1 x2 w
  | _ => False
def eT_number (call : Nat → List ZA → TW → (ZRes → TW → Prop) → Prop) (as : List ZA) (w : TW) (Q : ZRes → TW → Prop) : Prop := match as with
  | [] => pT_number_0 call (fun v w => Q (.inl (some (ai v))) w) w
  | _ => False
def eT_opens (call : Nat → List ZA → TW → (ZRes → TW → Prop) → Prop) (as : List ZA) (w : TW) (Q : ZRes → TW → Prop) : Prop := match as with
  | [.inl x1, .inl x2] => pT_opens_0 call (fun w => Q (.inl none) w) x1 x2 w
  | _ => False
def eT_wanted (call : Nat → List ZA → TW → (ZRes → TW → Prop) → Prop) (as : List ZA) (w : TW) (Q : ZRes → TW → Prop) : Prop := match as with
  | [] => pT_wanted_0 call (fun v w => Q (.inl (some (ai v))) w) w
  | _ => False
def eT_readAs (call : Nat → List ZA → TW → (ZRes → TW → Prop) → Prop) (as : List ZA) (w : TW) (Q : ZRes → TW → Prop) : Prop := match as with
  | [.inl x1] => pT_readAs_0 call (fun w => Q (.inl none) w) x1 w
  | _ => False
def eT_comesInto (call : Nat → List ZA → TW → (ZRes → TW → Prop) → Prop) (as : List ZA) (w : TW) (Q : ZRes → TW → Prop) : Prop := match as with
  | [.inl x1] => pT_comesInto_0 call (fun w => Q (.inl none) w) x1 w
  | _ => False
def eT_goesOn (call : Nat → List ZA → TW → (ZRes → TW → Prop) → Prop) (as : List ZA) (w : TW) (Q : ZRes → TW → Prop) : Prop := match as with
  | [] => pT_goesOn_0 call (fun v w => Q (.inl (some (ai v))) w) w
  | _ => False
def eT_endsAlternative (call : Nat → List ZA → TW → (ZRes → TW → Prop) → Prop) (as : List ZA) (w : TW) (Q : ZRes → TW → Prop) : Prop := match as with
  | [] => pT_endsAlternative_0 call (fun w => Q (.inl none) w) w
  | _ => False
def eT_readGuard (call : Nat → List ZA → TW → (ZRes → TW → Prop) → Prop) (as : List ZA) (w : TW) (Q : ZRes → TW → Prop) : Prop := match as with
  | [] => pT_readGuard_0 call (fun w => Q (.inl none) w) w
  | _ => False
def eT_readSum (call : Nat → List ZA → TW → (ZRes → TW → Prop) → Prop) (as : List ZA) (w : TW) (Q : ZRes → TW → Prop) : Prop := match as with
  | [.inl x1, .inl x2] => pT_readSum_0 call (fun w => Q (.inl none) w) x1 x2 w
  | _ => False
def eT_readTerm (call : Nat → List ZA → TW → (ZRes → TW → Prop) → Prop) (as : List ZA) (w : TW) (Q : ZRes → TW → Prop) : Prop := match as with
  | [.inl x1] => pT_readTerm_0 call (fun w => Q (.inl none) w) x1 w
  | _ => False
def eT_boundName (call : Nat → List ZA → TW → (ZRes → TW → Prop) → Prop) (as : List ZA) (w : TW) (Q : ZRes → TW → Prop) : Prop := match as with
  | [.inl x1] => pT_boundName_0 call (fun v w => Q (.inl (some (ai v))) w) x1 w
  | _ => False
def eT_readAnswer (call : Nat → List ZA → TW → (ZRes → TW → Prop) → Prop) (as : List ZA) (w : TW) (Q : ZRes → TW → Prop) : Prop := match as with
  | [] => pT_readAnswer_0 call (fun w => Q (.inl none) w) w
  | _ => False
def eT_judge (call : Nat → List ZA → TW → (ZRes → TW → Prop) → Prop) (as : List ZA) (w : TW) (Q : ZRes → TW → Prop) : Prop := match as with
  | [] => pT_judge_0 call (fun w => Q (.inl none) w) w
  | _ => False
def eT_judgeAnswer (call : Nat → List ZA → TW → (ZRes → TW → Prop) → Prop) (as : List ZA) (w : TW) (Q : ZRes → TW → Prop) : Prop := match as with
  | [.inl x1] => pT_judgeAnswer_0 call (fun w => Q (.inl none) w) x1 w
  | _ => False
def eT_makes (call : Nat → List ZA → TW → (ZRes → TW → Prop) → Prop) (as : List ZA) (w : TW) (Q : ZRes → TW → Prop) : Prop := match as with
  | [.inl x1, .inl x2, .inl x3, .inl x4] => pT_makes_0 call (fun v w => Q (.inl (some (ai v))) w) x1 x2 x3 x4 w
  | _ => False
def eT_layRows (call : Nat → List ZA → TW → (ZRes → TW → Prop) → Prop) (as : List ZA) (w : TW) (Q : ZRes → TW → Prop) : Prop := match as with
  | [.inl x1, .inl x2] => pT_layRows_0 call (fun w => Q (.inl none) w) x1 x2 w
  | _ => False
def eT_layRow (call : Nat → List ZA → TW → (ZRes → TW → Prop) → Prop) (as : List ZA) (w : TW) (Q : ZRes → TW → Prop) : Prop := match as with
  | [.inl x1, .inl x2] => pT_layRow_0 call (fun w => Q (.inl none) w) x1 x2 w
  | _ => False
def eT_waitAll (call : Nat → List ZA → TW → (ZRes → TW → Prop) → Prop) (as : List ZA) (w : TW) (Q : ZRes → TW → Prop) : Prop := match as with
  | [.inl x1, .inl x2, .inl x3, .inl x4] => pT_waitAll_0 call (fun w => Q (.inl none) w) x1 x2 x3 x4 w
  | _ => False
def eT_wait0 (call : Nat → List ZA → TW → (ZRes → TW → Prop) → Prop) (as : List ZA) (w : TW) (Q : ZRes → TW → Prop) : Prop := match as with
  | [.inl x1, .inl x2, .inl x3, .inl x4] => pT_wait0_0 call (fun w => Q (.inl none) w) x1 x2 x3 x4 w
  | _ => False
def eT_nextPattern (call : Nat → List ZA → TW → (ZRes → TW → Prop) → Prop) (as : List ZA) (w : TW) (Q : ZRes → TW → Prop) : Prop := match as with
  | [] => pT_nextPattern_0 call (fun v w => Q (.inl (some (ai v))) w) w
  | _ => False
def eT_notes (call : Nat → List ZA → TW → (ZRes → TW → Prop) → Prop) (as : List ZA) (w : TW) (Q : ZRes → TW → Prop) : Prop := match as with
  | [.inl x1, .inl x2] => pT_notes_0 call (fun w => Q (.inl none) w) x1 x2 w
  | _ => False
def eT_settle (call : Nat → List ZA → TW → (ZRes → TW → Prop) → Prop) (as : List ZA) (w : TW) (Q : ZRes → TW → Prop) : Prop := match as with
  | [.inl x1, .inl x2] => pT_settle_0 call (fun w => Q (.inl none) w) x1 x2 w
  | _ => False
def eT_layKnown (call : Nat → List ZA → TW → (ZRes → TW → Prop) → Prop) (as : List ZA) (w : TW) (Q : ZRes → TW → Prop) : Prop := match as with
  | [.inl x1] => pT_layKnown_0 call (fun w => Q (.inl none) w) x1 w
  | _ => False
def eT_sift (call : Nat → List ZA → TW → (ZRes → TW → Prop) → Prop) (as : List ZA) (w : TW) (Q : ZRes → TW → Prop) : Prop := match as with
  | [] => pT_sift_0 call (fun v w => Q (.inl (some (ai v))) w) w
  | _ => False
def eT_stands (call : Nat → List ZA → TW → (ZRes → TW → Prop) → Prop) (as : List ZA) (w : TW) (Q : ZRes → TW → Prop) : Prop := match as with
  | [.inl x1] => pT_stands_0 call (fun v w => Q (.inl (some (ai v))) w) x1 w
  | _ => False
def eT_asksAt (call : Nat → List ZA → TW → (ZRes → TW → Prop) → Prop) (as : List ZA) (w : TW) (Q : ZRes → TW → Prop) : Prop := match as with
  | [.inl x1, .inl x2] => pT_asksAt_0 call (fun v w => Q (.inl (some (ai v))) w) x1 x2 w
  | _ => False
def eT_isLeft (call : Nat → List ZA → TW → (ZRes → TW → Prop) → Prop) (as : List ZA) (w : TW) (Q : ZRes → TW → Prop) : Prop := match as with
  | [.inl x1, .inl x2] => pT_isLeft_0 call (fun v w => Q (.inl (some (ai v))) w) x1 x2 w
  | _ => False
def eT_layBranches (call : Nat → List ZA → TW → (ZRes → TW → Prop) → Prop) (as : List ZA) (w : TW) (Q : ZRes → TW → Prop) : Prop := match as with
  | [.inl x1, .inl x2] => pT_layBranches_0 call (fun w => Q (.inl none) w) x1 x2 w
  | _ => False
def eT_oneBranch (call : Nat → List ZA → TW → (ZRes → TW → Prop) → Prop) (as : List ZA) (w : TW) (Q : ZRes → TW → Prop) : Prop := match as with
  | [.inl x1, .inl x2, .inr (.inl x3), .inl x5] => pT_oneBranch_0 call (fun w => Q (.inl none) w) x1 x2 x3 x5 w
  | _ => False
def eT_cut (call : Nat → List ZA → TW → (ZRes → TW → Prop) → Prop) (as : List ZA) (w : TW) (Q : ZRes → TW → Prop) : Prop := match as with
  | [.inr (.inl x1)] => pT_cut_0 call (fun w => Q (.inl none) w) x1 w
  | _ => False
def eT_wants (call : Nat → List ZA → TW → (ZRes → TW → Prop) → Prop) (as : List ZA) (w : TW) (Q : ZRes → TW → Prop) : Prop := match as with
  | [.inr (.inl x1)] => pT_wants_0 call (fun w => Q (.inl none) w) x1 w
  | _ => False
def eT_parts (call : Nat → List ZA → TW → (ZRes → TW → Prop) → Prop) (as : List ZA) (w : TW) (Q : ZRes → TW → Prop) : Prop := match as with
  | [] => pT_parts_0 call (fun w => Q (.inl none) w) w
  | _ => False
def eT_layAhead (call : Nat → List ZA → TW → (ZRes → TW → Prop) → Prop) (as : List ZA) (w : TW) (Q : ZRes → TW → Prop) : Prop := match as with
  | [.inl x1] => pT_layAhead_0 call (fun w => Q (.inl none) w) x1 w
  | _ => False
def eT_fault (call : Nat → List ZA → TW → (ZRes → TW → Prop) → Prop) (as : List ZA) (w : TW) (Q : ZRes → TW → Prop) : Prop := match as with
  | [] => pT_fault_0 call (fun v w => Q (.inl (some (ai v))) w) w
  | _ => False
def eT_add (call : Nat → List ZA → TW → (ZRes → TW → Prop) → Prop) (as : List ZA) (w : TW) (Q : ZRes → TW → Prop) : Prop := match as with
  | [] => pT_add_0 call (fun v w => Q (.inl (some (ai v))) w) w
  | _ => False
def eT_remake (call : Nat → List ZA → TW → (ZRes → TW → Prop) → Prop) (as : List ZA) (w : TW) (Q : ZRes → TW → Prop) : Prop := match as with
  | [.inl x1, .inl x2] => pT_remake_0 call (fun v w => Q (.inl (some (ai v))) w) x1 x2 w
  | _ => False
def eT_isFunction (call : Nat → List ZA → TW → (ZRes → TW → Prop) → Prop) (as : List ZA) (w : TW) (Q : ZRes → TW → Prop) : Prop := match as with
  | [.inl x1] => pT_isFunction_0 call (fun v w => Q (.inl (some (ai v))) w) x1 w
  | _ => False
def eT_moved (call : Nat → List ZA → TW → (ZRes → TW → Prop) → Prop) (as : List ZA) (w : TW) (Q : ZRes → TW → Prop) : Prop := match as with
  | [.inl x0, .inl x1] => pT_moved_0 call (fun v w => Q (.inl (some (ai v))) w) x0 x1 w
  | _ => False
def eT_kind (call : Nat → List ZA → TW → (ZRes → TW → Prop) → Prop) (as : List ZA) (w : TW) (Q : ZRes → TW → Prop) : Prop := match as with
  | [.inl x1, .inl x2] => pT_kind_0 call (fun v w => Q (.inl (some (ai v))) w) x1 x2 w
  | _ => False
def eT_isKind (call : Nat → List ZA → TW → (ZRes → TW → Prop) → Prop) (as : List ZA) (w : TW) (Q : ZRes → TW → Prop) : Prop := match as with
  | [.inl x1] => pT_isKind_0 call (fun v w => Q (.inl (some (ai v))) w) x1 w
  | _ => False
def eT_kindNamed (call : Nat → List ZA → TW → (ZRes → TW → Prop) → Prop) (as : List ZA) (w : TW) (Q : ZRes → TW → Prop) : Prop := match as with
  | [.inr (.inl x1)] => pT_kindNamed_0 call (fun v w => Q (.inl (some (ai v))) w) x1 w
  | _ => False
def eT_function (call : Nat → List ZA → TW → (ZRes → TW → Prop) → Prop) (as : List ZA) (w : TW) (Q : ZRes → TW → Prop) : Prop := match as with
  | [.inl x1, .inl x2] => pT_function_0 call (fun v w => Q (.inl (some (ai v))) w) x1 x2 w
  | _ => False
def eT_depth (call : Nat → List ZA → TW → (ZRes → TW → Prop) → Prop) (as : List ZA) (w : TW) (Q : ZRes → TW → Prop) : Prop := match as with
  | [.inl x1] => pT_depth_0 call (fun v w => Q (.inl (some (ai v))) w) x1 w
  | _ => False
def eT_node (call : Nat → List ZA → TW → (ZRes → TW → Prop) → Prop) (as : List ZA) (w : TW) (Q : ZRes → TW → Prop) : Prop := match as with
  | [.inl x1, .inl x2, .inl x3] => pT_node_0 call (fun v w => Q (.inl (some (ai v))) w) x1 x2 x3 w
  | _ => False
def eT_branch (call : Nat → List ZA → TW → (ZRes → TW → Prop) → Prop) (as : List ZA) (w : TW) (Q : ZRes → TW → Prop) : Prop := match as with
  | [.inl x1, .inl x2, .inl x3] => pT_branch_0 call (fun v w => Q (.inl (some (ai v))) w) x1 x2 x3 w
  | _ => False
def eT_missing (call : Nat → List ZA → TW → (ZRes → TW → Prop) → Prop) (as : List ZA) (w : TW) (Q : ZRes → TW → Prop) : Prop := match as with
  | [.inl x1] => pT_missing_0 call (fun v w => Q (.inl (some (ai v))) w) x1 w
  | _ => False
def eT_unreached (call : Nat → List ZA → TW → (ZRes → TW → Prop) → Prop) (as : List ZA) (w : TW) (Q : ZRes → TW → Prop) : Prop := match as with
  | [.inl x1, .inl x2] => pT_unreached_0 call (fun v w => Q (.inl (some (ai v))) w) x1 x2 w
  | _ => False
def eT_whole (call : Nat → List ZA → TW → (ZRes → TW → Prop) → Prop) (as : List ZA) (w : TW) (Q : ZRes → TW → Prop) : Prop := match as with
  | [.inl x1] => pT_whole_0 call (fun v w => Q (.inl (some (ai v))) w) x1 w
  | _ => False
def eT_newValue (call : Nat → List ZA → TW → (ZRes → TW → Prop) → Prop) (as : List ZA) (w : TW) (Q : ZRes → TW → Prop) : Prop := match as with
  | [.inl x1, .inl x2, .inr (.inl x3)] => pT_newValue_0 call (fun v w => Q (.inl (some (ai v))) w) x1 x2 x3 w
  | _ => False
def eT_truth (call : Nat → List ZA → TW → (ZRes → TW → Prop) → Prop) (as : List ZA) (w : TW) (Q : ZRes → TW → Prop) : Prop := match as with
  | [.inl x1] => pT_truth_0 call (fun v w => Q (.inl (some (ai v))) w) x1 w
  | _ => False
def eT_letters (call : Nat → List ZA → TW → (ZRes → TW → Prop) → Prop) (as : List ZA) (w : TW) (Q : ZRes → TW → Prop) : Prop := match as with
  | [.inr (.inl x1)] => pT_letters_0 call (fun v w => Q (.inl (some (ai v))) w) x1 w
  | _ => False
def eT_nothing (call : Nat → List ZA → TW → (ZRes → TW → Prop) → Prop) (as : List ZA) (w : TW) (Q : ZRes → TW → Prop) : Prop := match as with
  | [] => pT_nothing_0 call (fun v w => Q (.inl (some (ai v))) w) w
  | _ => False
def eT_make (call : Nat → List ZA → TW → (ZRes → TW → Prop) → Prop) (as : List ZA) (w : TW) (Q : ZRes → TW → Prop) : Prop := match as with
  | [.inl x1, .inl x2, .inl x3, .inl x4, .inl x5] => pT_make_0 call (fun v w => Q (.inl (some (ai v))) w) x1 x2 x3 x4 x5 w
  | _ => False
def eT_isValue (call : Nat → List ZA → TW → (ZRes → TW → Prop) → Prop) (as : List ZA) (w : TW) (Q : ZRes → TW → Prop) : Prop := match as with
  | [.inl x1] => pT_isValue_0 call (fun v w => Q (.inl (some (ai v))) w) x1 w
  | _ => False
def eT_isOfSort (call : Nat → List ZA → TW → (ZRes → TW → Prop) → Prop) (as : List ZA) (w : TW) (Q : ZRes → TW → Prop) : Prop := match as with
  | [.inl x1, .inl x2] => pT_isOfSort_0 call (fun v w => Q (.inl (some (ai v))) w) x1 x2 w
  | _ => False
def eT_value (call : Nat → List ZA → TW → (ZRes → TW → Prop) → Prop) (as : List ZA) (w : TW) (Q : ZRes → TW → Prop) : Prop := match as with
  | [.inl x1, .inl x2] => pT_value_0 call (fun v w => Q (.inl (some (ai v))) w) x1 x2 w
  | _ => False
def eT_alike (call : Nat → List ZA → TW → (ZRes → TW → Prop) → Prop) (as : List ZA) (w : TW) (Q : ZRes → TW → Prop) : Prop := match as with
  | [.inl x1, .inl x2] => pT_alike_0 call (fun v w => Q (.inl (some (ai v))) w) x1 x2 w
  | _ => False
def eT_sort (call : Nat → List ZA → TW → (ZRes → TW → Prop) → Prop) (as : List ZA) (w : TW) (Q : ZRes → TW → Prop) : Prop := match as with
  | [.inl x1, .inl x2, .inl x3, .inl x4] => pT_sort_0 call (fun v w => Q (.inl (some (ai v))) w) x1 x2 x3 x4 w
  | _ => False
def eT_runs (call : Nat → List ZA → TW → (ZRes → TW → Prop) → Prop) (as : List ZA) (w : TW) (Q : ZRes → TW → Prop) : Prop := match as with
  | [.inl x1, .inl x2, .inl x3, .inl x4, .inl x5] => pT_runs_0 call (fun v w => Q (.inl (some (ai v))) w) x1 x2 x3 x4 x5 w
  | _ => False
def eT_byTree (call : Nat → List ZA → TW → (ZRes → TW → Prop) → Prop) (as : List ZA) (w : TW) (Q : ZRes → TW → Prop) : Prop := match as with
  | [.inl x1] => pT_byTree_0 call (fun v w => Q (.inl (some (ai v))) w) x1 w
  | _ => False
def eT_binds0 (call : Nat → List ZA → TW → (ZRes → TW → Prop) → Prop) (as : List ZA) (w : TW) (Q : ZRes → TW → Prop) : Prop := match as with
  | [.inl x1, .inl x2] => pT_binds0_0 call (fun v w => Q (.inl (some (ai v))) w) x1 x2 w
  | _ => False
def eT_fitsHere (call : Nat → List ZA → TW → (ZRes → TW → Prop) → Prop) (as : List ZA) (w : TW) (Q : ZRes → TW → Prop) : Prop := match as with
  | [.inl x1, .inl x2] => pT_fitsHere_0 call (fun v w => Q (.inl (some (ai v))) w) x1 x2 w
  | _ => False
def eT_guarded (call : Nat → List ZA → TW → (ZRes → TW → Prop) → Prop) (as : List ZA) (w : TW) (Q : ZRes → TW → Prop) : Prop := match as with
  | [.inl x1] => pT_guarded_0 call (fun v w => Q (.inl (some (ai v))) w) x1 w
  | _ => False
def eT_isThrown (call : Nat → List ZA → TW → (ZRes → TW → Prop) → Prop) (as : List ZA) (w : TW) (Q : ZRes → TW → Prop) : Prop := match as with
  | [.inl x1, .inl x2] => pT_isThrown_0 call (fun v w => Q (.inl (some (ai v))) w) x1 x2 w
  | _ => False
def eT_term (call : Nat → List ZA → TW → (ZRes → TW → Prop) → Prop) (as : List ZA) (w : TW) (Q : ZRes → TW → Prop) : Prop := match as with
  | [.inl x1] => pT_term_0 call (fun v w => Q (.inl (some (ai v))) w) x1 w
  | _ => False
def eT_sum (call : Nat → List ZA → TW → (ZRes → TW → Prop) → Prop) (as : List ZA) (w : TW) (Q : ZRes → TW → Prop) : Prop := match as with
  | [.inl x1, .inl x2] => pT_sum_0 call (fun v w => Q (.inl (some (ai v))) w) x1 x2 w
  | _ => False
def eT_standing (call : Nat → List ZA → TW → (ZRes → TW → Prop) → Prop) (as : List ZA) (w : TW) (Q : ZRes → TW → Prop) : Prop := match as with
  | [.inl x1] => pT_standing_0 call (fun v w => Q (.inl (some (ai v))) w) x1 w
  | _ => False
def eT_isBranch (call : Nat → List ZA → TW → (ZRes → TW → Prop) → Prop) (as : List ZA) (w : TW) (Q : ZRes → TW → Prop) : Prop := match as with
  | [.inl x1, .inl x2, .inl x3] => pT_isBranch_0 call (fun v w => Q (.inl (some (ai v))) w) x1 x2 x3 w
  | _ => False
def eT_byRules (call : Nat → List ZA → TW → (ZRes → TW → Prop) → Prop) (as : List ZA) (w : TW) (Q : ZRes → TW → Prop) : Prop := match as with
  | [.inl x1] => pT_byRules_0 call (fun v w => Q (.inl (some (ai v))) w) x1 w
  | _ => False
def eT_plain (call : Nat → List ZA → TW → (ZRes → TW → Prop) → Prop) (as : List ZA) (w : TW) (Q : ZRes → TW → Prop) : Prop := match as with
  | [.inl x1, .inl x2, .inl x3, .inl x4] => pT_plain_0 call (fun v w => Q (.inl (some (ai v))) w) x1 x2 x3 x4 w
  | _ => False
def eT_told (call : Nat → List ZA → TW → (ZRes → TW → Prop) → Prop) (as : List ZA) (w : TW) (Q : ZRes → TW → Prop) : Prop := match as with
  | [.inl x1] => pT_told_0 call (fun v w => Q (.inl (some (ai v))) w) x1 w
  | _ => False
def eT_guard (call : Nat → List ZA → TW → (ZRes → TW → Prop) → Prop) (as : List ZA) (w : TW) (Q : ZRes → TW → Prop) : Prop := match as with
  | [.inl x1] => pT_guard_0 call (fun v w => Q (.inl (some (ai v))) w) x1 w
  | _ => False
def eT_bound (call : Nat → List ZA → TW → (ZRes → TW → Prop) → Prop) (as : List ZA) (w : TW) (Q : ZRes → TW → Prop) : Prop := match as with
  | [.inl x1] => pT_bound_0 call (fun v w => Q (.inl (some (ai v))) w) x1 w
  | _ => False
def eT_count (call : Nat → List ZA → TW → (ZRes → TW → Prop) → Prop) (as : List ZA) (w : TW) (Q : ZRes → TW → Prop) : Prop := match as with
  | [.inl x1] => pT_count_0 call (fun v w => Q (.inl (some (ai v))) w) x1 w
  | _ => False
def tabT : List (Nat × ((Nat → List ZA → TW → (ZRes → TW → Prop) → Prop) → List ZA → TW → (ZRes → TW → Prop) → Prop)) := [(1, eT_feed), (0, eT_in), (1, eT_read), (0, eT_beginTape), (2, eT_next), (0, eT_byteAt), (1, eT_isSmall), (2, eT_name), (1, eT_isFigure), (0, eT_wordOf), (0, eT_isWord), (1, eT_readKind), (0, eT_stop), (0, eT_fails), (0, eT_kindOf), (0, eT_readUnder), (0, eT_isSealed), (1, eT_takes), (0, eT_isSign), (1, eT_readSort), (0, eT_must), (1, eT_readFunction), (0, eT_functionOf), (1, eT_readRule), (1, eT_readPattern), (1, eT_begins), (0, eT_isOf), (0, eT_newPattern), (0, eT_nameOf), (0, eT_binds), (1, eT_range), (0, eT_number), (0, eT_opens), (0, eT_wanted), (1, eT_readAs), (0, eT_comesInto), (1, eT_goesOn), (0, eT_endsAlternative), (1, eT_readGuard), (1, eT_readSum), (1, eT_readTerm), (0, eT_boundName), (1, eT_readAnswer), (0, eT_judge), (0, eT_judgeAnswer), (0, eT_makes), (0, eT_layRows), (0, eT_layRow), (0, eT_waitAll), (0, eT_wait0), (0, eT_nextPattern), (0, eT_notes), (0, eT_settle), (0, eT_layKnown), (0, eT_sift), (0, eT_stands), (0, eT_asksAt), (0, eT_isLeft), (0, eT_layBranches), (0, eT_oneBranch), (0, eT_cut), (0, eT_wants), (0, eT_parts), (0, eT_layAhead), (0, eT_fault), (1, eT_add), (2, eT_remake), (1, eT_isFunction), (0, eT_moved), (2, eT_kind), (1, eT_isKind), (0, eT_kindNamed), (2, eT_function), (0, eT_depth), (2, eT_node), (2, eT_branch), (2, eT_missing), (2, eT_unreached), (0, eT_whole), (0, eT_newValue), (0, eT_truth), (2, eT_letters), (0, eT_nothing), (2, eT_make), (1, eT_isValue), (0, eT_isOfSort), (2, eT_value), (2, eT_alike), (0, eT_sort), (2, eT_runs), (0, eT_byTree), (0, eT_binds0), (0, eT_fitsHere), (2, eT_guarded), (1, eT_isThrown), (0, eT_term), (1, eT_sum), (0, eT_standing), (0, eT_isBranch), (0, eT_byRules), (0, eT_plain), (1, eT_told), (1, eT_guard), (1, eT_bound), (0, eT_count)]
def wpT : Nat → Nat → List ZA → TW → (ZRes → TW → Prop) → Prop
  | 0, _, _, _, _ => False
  | d + 1, y, as, w, Q => match tabT[y]? with
    | some e => e.1 ≤ d ∧ e.2 (wpT d) as w Q
    | none => False
def mtT : List (MethodName × Cond × Bool) := [(yX1_feed, Cond.code yX1_feed cX1_feed 5 (some .int), false), (yX1_in, Cond.code yX1_in cX1_in 6 (some .boolean), true), (yX1_read, Cond.code yX1_read cX1_read 3 (some .int), false), (yX1_beginTape, Cond.code yX1_beginTape cX1_beginTape 1 none, false), (yX1_next, Cond.code yX1_next cX1_next 3 none, false), (yX1_byteAt, Cond.code yX1_byteAt cX1_byteAt 2 (some .int), false), (yX1_isSmall, Cond.code yX1_isSmall cX1_isSmall 1 (some .boolean), true), (yX1_name, Cond.code yX1_name cX1_name 3 none, false), (yX1_isFigure, Cond.code yX1_isFigure cX1_isFigure 1 (some .boolean), true), (yX1_wordOf, Cond.code yX1_wordOf cX1_wordOf 2 (some .int), true), (yX1_isWord, Cond.code yX1_isWord cX1_isWord 2 (some .boolean), false), (yX1_readKind, Cond.code yX1_readKind cX1_readKind 5 none, false), (yX1_stop, Cond.code yX1_stop cX1_stop 2 none, false), (yX1_fails, Cond.code yX1_fails cX1_fails 3 none, false), (yX1_kindOf, Cond.code yX1_kindOf cX1_kindOf 5 (some .int), false), (yX1_readUnder, Cond.code yX1_readUnder cX1_readUnder 4 none, false), (yX1_isSealed, Cond.code yX1_isSealed cX1_isSealed 4 (some .boolean), false), (yX1_takes, Cond.code yX1_takes cX1_takes 3 (some .boolean), false), (yX1_isSign, Cond.code yX1_isSign cX1_isSign 2 (some .boolean), false), (yX1_readSort, Cond.code yX1_readSort cX1_readSort 3 (some .int), false), (yX1_must, Cond.code yX1_must cX1_must 2 none, false), (yX1_readFunction, Cond.code yX1_readFunction cX1_readFunction 4 none, false), (yX1_functionOf, Cond.code yX1_functionOf cX1_functionOf 5 (some .int), false), (yX1_readRule, Cond.code yX1_readRule cX1_readRule 7 none, false), (yX1_readPattern, Cond.code yX1_readPattern cX1_readPattern 6 (some .int), false), (yX1_begins, Cond.code yX1_begins cX1_begins 11 (some .int), false), (yX1_isOf, Cond.code yX1_isOf cX1_isOf 4 (some .boolean), false), (yX1_newPattern, Cond.code yX1_newPattern cX1_newPattern 4 (some .int), false), (yX1_nameOf, Cond.code yX1_nameOf cX1_nameOf 5 (some .int), false), (yX1_binds, Cond.code yX1_binds cX1_binds 3 (some .int), false), (yX1_range, Cond.code yX1_range cX1_range 3 none, false), (yX1_number, Cond.code yX1_number cX1_number 3 (some .int), false), (yX1_opens, Cond.code yX1_opens cX1_opens 3 none, false), (yX1_wanted, Cond.code yX1_wanted cX1_wanted 2 (some .int), false), (yX1_readAs, Cond.code yX1_readAs cX1_readAs 2 none, false), (yX1_comesInto, Cond.code yX1_comesInto cX1_comesInto 5 none, false), (yX1_goesOn, Cond.code yX1_goesOn cX1_goesOn 4 (some .boolean), false), (yX1_endsAlternative, Cond.code yX1_endsAlternative cX1_endsAlternative 5 none, false), (yX1_readGuard, Cond.code yX1_readGuard cX1_readGuard 1 none, false), (yX1_readSum, Cond.code yX1_readSum cX1_readSum 3 none, false), (yX1_readTerm, Cond.code yX1_readTerm cX1_readTerm 2 none, false), (yX1_boundName, Cond.code yX1_boundName cX1_boundName 3 (some .int), false), (yX1_readAnswer, Cond.code yX1_readAnswer cX1_readAnswer 5 none, false), (yX1_judge, Cond.code yX1_judge cX1_judge 3 none, false), (yX1_judgeAnswer, Cond.code yX1_judgeAnswer cX1_judgeAnswer 7 none, false), (yX1_makes, Cond.code yX1_makes cX1_makes 9 (some .boolean), false), (yX1_layRows, Cond.code yX1_layRows cX1_layRows 6 none, false), (yX1_layRow, Cond.code yX1_layRow cX1_layRow 5 none, false), (yX1_waitAll, Cond.code yX1_waitAll cX1_waitAll 10 none, false), (yX1_wait0, Cond.code yX1_wait0 cX1_wait0 5 none, false), (yX1_nextPattern, Cond.code yX1_nextPattern cX1_nextPattern 4 (some .int), false), (yX1_notes, Cond.code yX1_notes cX1_notes 3 none, false), (yX1_settle, Cond.code yX1_settle cX1_settle 6 none, false), (yX1_layKnown, Cond.code yX1_layKnown cX1_layKnown 4 none, false), (yX1_sift, Cond.code yX1_sift cX1_sift 5 (some .int), false), (yX1_stands, Cond.code yX1_stands cX1_stands 5 (some .int), false), (yX1_asksAt, Cond.code yX1_asksAt cX1_asksAt 9 (some .int), false), (yX1_isLeft, Cond.code yX1_isLeft cX1_isLeft 5 (some .boolean), false), (yX1_layBranches, Cond.code yX1_layBranches cX1_layBranches 6 none, false), (yX1_oneBranch, Cond.code yX1_oneBranch cX1_oneBranch 6 none, false), (yX1_cut, Cond.code yX1_cut cX1_cut 6 none, false), (yX1_wants, Cond.code yX1_wants cX1_wants 5 none, false), (yX1_parts, Cond.code yX1_parts cX1_parts 7 none, false), (yX1_layAhead, Cond.code yX1_layAhead cX1_layAhead 3 none, false), (yX1_fault, Cond.code yX1_fault cX1_fault 1 (some .int), false), (yX1_add, Cond.code yX1_add cX1_add 2 (some .int), false), (yX1_remake, Cond.code yX1_remake cX1_remake 7 (some .int), false), (yX1_isFunction, Cond.code yX1_isFunction cX1_isFunction 2 (some .boolean), false), (yX1_moved, Cond.code yX1_moved cX1_moved 2 (some .int), true), (yX1_kind, Cond.code yX1_kind cX1_kind 3 (some .int), false), (yX1_isKind, Cond.code yX1_isKind cX1_isKind 2 (some .boolean), false), (yX1_kindNamed, Cond.code yX1_kindNamed cX1_kindNamed 3 (some .int), false), (yX1_function, Cond.code yX1_function cX1_function 3 (some .int), false), (yX1_depth, Cond.code yX1_depth cX1_depth 6 (some .int), false), (yX1_node, Cond.code yX1_node cX1_node 7 (some .int), false), (yX1_branch, Cond.code yX1_branch cX1_branch 6 (some .int), false), (yX1_missing, Cond.code yX1_missing cX1_missing 4 (some .int), false), (yX1_unreached, Cond.code yX1_unreached cX1_unreached 5 (some .int), false), (yX1_whole, Cond.code yX1_whole cX1_whole 2 (some .int), false), (yX1_newValue, Cond.code yX1_newValue cX1_newValue 5 (some .int), false), (yX1_truth, Cond.code yX1_truth cX1_truth 2 (some .int), false), (yX1_letters, Cond.code yX1_letters cX1_letters 7 (some .int), false), (yX1_nothing, Cond.code yX1_nothing cX1_nothing 1 (some .int), false), (yX1_make, Cond.code yX1_make cX1_make 9 (some .int), false), (yX1_isValue, Cond.code yX1_isValue cX1_isValue 2 (some .boolean), false), (yX1_isOfSort, Cond.code yX1_isOfSort cX1_isOfSort 3 (some .boolean), false), (yX1_value, Cond.code yX1_value cX1_value 3 (some .int), false), (yX1_alike, Cond.code yX1_alike cX1_alike 7 (some .int), false), (yX1_sort, Cond.code yX1_sort cX1_sort 5 (some .int), false), (yX1_runs, Cond.code yX1_runs cX1_runs 11 (some .int), false), (yX1_byTree, Cond.code yX1_byTree cX1_byTree 6 (some .int), false), (yX1_binds0, Cond.code yX1_binds0 cX1_binds0 5 (some .boolean), false), (yX1_fitsHere, Cond.code yX1_fitsHere cX1_fitsHere 3 (some .boolean), false), (yX1_guarded, Cond.code yX1_guarded cX1_guarded 5 (some .int), false), (yX1_isThrown, Cond.code yX1_isThrown cX1_isThrown 4 (some .boolean), false), (yX1_term, Cond.code yX1_term cX1_term 2 (some .int), false), (yX1_sum, Cond.code yX1_sum cX1_sum 6 (some .int), false), (yX1_standing, Cond.code yX1_standing cX1_standing 6 (some .int), false), (yX1_isBranch, Cond.code yX1_isBranch cX1_isBranch 4 (some .boolean), false), (yX1_byRules, Cond.code yX1_byRules cX1_byRules 5 (some .int), false), (yX1_plain, Cond.code yX1_plain cX1_plain 5 (some .int), false), (yX1_told, Cond.code yX1_told cX1_told 2 (some .int), false), (yX1_guard, Cond.code yX1_guard cX1_guard 2 (some .int), false), (yX1_bound, Cond.code yX1_bound cX1_bound 2 (some .int), false), (yX1_count, Cond.code yX1_count cX1_count 2 (some .int), false)]
/-- every method is as its weakest precondition says, at depth d -/
def SdT (d : Nat) (D : TD) (B0 : Nat) (l : Launch) (lim : Nat × Nat) : Prop := ∀ (y : Nat) (e : MethodName × Cond × Bool), mtT[y]? = some e → ∀ (as : List ZA) (w : TW) (Q : ZRes → TW → Prop), wpT d y as w Q → zoks as → ZMX l (KnT D B0) (ZT D B0) e.1 e.2.1 d lim (cond e.2.2 as (ar (D.x + 1) :: as)) w Q
theorem md_feed : ZMd yX1_feed 2 := ⟨by decide, by decide, by decide +kernel⟩
theorem md_in : ZMd yX1_in 3 := ⟨by decide, by decide, by decide +kernel⟩
theorem md_read : ZMd yX1_read 0 := ⟨by decide, by decide, by decide +kernel⟩
theorem md_beginTape : ZMd yX1_beginTape 0 := ⟨by decide, by decide, by decide +kernel⟩
theorem md_next : ZMd yX1_next 0 := ⟨by decide, by decide, by decide +kernel⟩
theorem md_byteAt : ZMd yX1_byteAt 1 := ⟨by decide, by decide, by decide +kernel⟩
theorem md_isSmall : ZMd yX1_isSmall 1 := ⟨by decide, by decide, by decide +kernel⟩
theorem md_name : ZMd yX1_name 1 := ⟨by decide, by decide, by decide +kernel⟩
theorem md_isFigure : ZMd yX1_isFigure 1 := ⟨by decide, by decide, by decide +kernel⟩
theorem md_wordOf : ZMd yX1_wordOf 1 := ⟨by decide, by decide, by decide +kernel⟩
theorem md_isWord : ZMd yX1_isWord 1 := ⟨by decide, by decide, by decide +kernel⟩
theorem md_readKind : ZMd yX1_readKind 1 := ⟨by decide, by decide, by decide +kernel⟩
theorem md_stop : ZMd yX1_stop 1 := ⟨by decide, by decide, by decide +kernel⟩
theorem md_fails : ZMd yX1_fails 2 := ⟨by decide, by decide, by decide +kernel⟩
theorem md_kindOf : ZMd yX1_kindOf 1 := ⟨by decide, by decide, by decide +kernel⟩
theorem md_readUnder : ZMd yX1_readUnder 2 := ⟨by decide, by decide, by decide +kernel⟩
theorem md_isSealed : ZMd yX1_isSealed 1 := ⟨by decide, by decide, by decide +kernel⟩
theorem md_takes : ZMd yX1_takes 1 := ⟨by decide, by decide, by decide +kernel⟩
theorem md_isSign : ZMd yX1_isSign 1 := ⟨by decide, by decide, by decide +kernel⟩
theorem md_readSort : ZMd yX1_readSort 1 := ⟨by decide, by decide, by decide +kernel⟩
theorem md_must : ZMd yX1_must 1 := ⟨by decide, by decide, by decide +kernel⟩
theorem md_readFunction : ZMd yX1_readFunction 0 := ⟨by decide, by decide, by decide +kernel⟩
theorem md_functionOf : ZMd yX1_functionOf 1 := ⟨by decide, by decide, by decide +kernel⟩
theorem md_readRule : ZMd yX1_readRule 1 := ⟨by decide, by decide, by decide +kernel⟩
theorem md_readPattern : ZMd yX1_readPattern 2 := ⟨by decide, by decide, by decide +kernel⟩
theorem md_begins : ZMd yX1_begins 2 := ⟨by decide, by decide, by decide +kernel⟩
theorem md_isOf : ZMd yX1_isOf 2 := ⟨by decide, by decide, by decide +kernel⟩
theorem md_newPattern : ZMd yX1_newPattern 2 := ⟨by decide, by decide, by decide +kernel⟩
theorem md_nameOf : ZMd yX1_nameOf 1 := ⟨by decide, by decide, by decide +kernel⟩
theorem md_binds : ZMd yX1_binds 1 := ⟨by decide, by decide, by decide +kernel⟩
theorem md_range : ZMd yX1_range 2 := ⟨by decide, by decide, by decide +kernel⟩
theorem md_number : ZMd yX1_number 0 := ⟨by decide, by decide, by decide +kernel⟩
theorem md_opens : ZMd yX1_opens 2 := ⟨by decide, by decide, by decide +kernel⟩
theorem md_wanted : ZMd yX1_wanted 0 := ⟨by decide, by decide, by decide +kernel⟩
theorem md_readAs : ZMd yX1_readAs 1 := ⟨by decide, by decide, by decide +kernel⟩
theorem md_comesInto : ZMd yX1_comesInto 1 := ⟨by decide, by decide, by decide +kernel⟩
theorem md_goesOn : ZMd yX1_goesOn 0 := ⟨by decide, by decide, by decide +kernel⟩
theorem md_endsAlternative : ZMd yX1_endsAlternative 0 := ⟨by decide, by decide, by decide +kernel⟩
theorem md_readGuard : ZMd yX1_readGuard 0 := ⟨by decide, by decide, by decide +kernel⟩
theorem md_readSum : ZMd yX1_readSum 2 := ⟨by decide, by decide, by decide +kernel⟩
theorem md_readTerm : ZMd yX1_readTerm 1 := ⟨by decide, by decide, by decide +kernel⟩
theorem md_boundName : ZMd yX1_boundName 1 := ⟨by decide, by decide, by decide +kernel⟩
theorem md_readAnswer : ZMd yX1_readAnswer 0 := ⟨by decide, by decide, by decide +kernel⟩
theorem md_judge : ZMd yX1_judge 0 := ⟨by decide, by decide, by decide +kernel⟩
theorem md_judgeAnswer : ZMd yX1_judgeAnswer 1 := ⟨by decide, by decide, by decide +kernel⟩
theorem md_makes : ZMd yX1_makes 4 := ⟨by decide, by decide, by decide +kernel⟩
theorem md_layRows : ZMd yX1_layRows 2 := ⟨by decide, by decide, by decide +kernel⟩
theorem md_layRow : ZMd yX1_layRow 2 := ⟨by decide, by decide, by decide +kernel⟩
theorem md_waitAll : ZMd yX1_waitAll 4 := ⟨by decide, by decide, by decide +kernel⟩
theorem md_wait0 : ZMd yX1_wait0 4 := ⟨by decide, by decide, by decide +kernel⟩
theorem md_nextPattern : ZMd yX1_nextPattern 0 := ⟨by decide, by decide, by decide +kernel⟩
theorem md_notes : ZMd yX1_notes 2 := ⟨by decide, by decide, by decide +kernel⟩
theorem md_settle : ZMd yX1_settle 2 := ⟨by decide, by decide, by decide +kernel⟩
theorem md_layKnown : ZMd yX1_layKnown 1 := ⟨by decide, by decide, by decide +kernel⟩
theorem md_sift : ZMd yX1_sift 0 := ⟨by decide, by decide, by decide +kernel⟩
theorem md_stands : ZMd yX1_stands 1 := ⟨by decide, by decide, by decide +kernel⟩
theorem md_asksAt : ZMd yX1_asksAt 2 := ⟨by decide, by decide, by decide +kernel⟩
theorem md_isLeft : ZMd yX1_isLeft 2 := ⟨by decide, by decide, by decide +kernel⟩
theorem md_layBranches : ZMd yX1_layBranches 2 := ⟨by decide, by decide, by decide +kernel⟩
theorem md_oneBranch : ZMd yX1_oneBranch 4 := ⟨by decide, by decide, by decide +kernel⟩
theorem md_cut : ZMd yX1_cut 1 := ⟨by decide, by decide, by decide +kernel⟩
theorem md_wants : ZMd yX1_wants 1 := ⟨by decide, by decide, by decide +kernel⟩
theorem md_parts : ZMd yX1_parts 0 := ⟨by decide, by decide, by decide +kernel⟩
theorem md_layAhead : ZMd yX1_layAhead 1 := ⟨by decide, by decide, by decide +kernel⟩
theorem md_fault : ZMd yX1_fault 0 := ⟨by decide, by decide, by decide +kernel⟩
theorem md_add : ZMd yX1_add 0 := ⟨by decide, by decide, by decide +kernel⟩
theorem md_remake : ZMd yX1_remake 2 := ⟨by decide, by decide, by decide +kernel⟩
theorem md_isFunction : ZMd yX1_isFunction 1 := ⟨by decide, by decide, by decide +kernel⟩
theorem md_moved : ZMd yX1_moved 2 := ⟨by decide, by decide, by decide +kernel⟩
theorem md_kind : ZMd yX1_kind 2 := ⟨by decide, by decide, by decide +kernel⟩
theorem md_isKind : ZMd yX1_isKind 1 := ⟨by decide, by decide, by decide +kernel⟩
theorem md_kindNamed : ZMd yX1_kindNamed 1 := ⟨by decide, by decide, by decide +kernel⟩
theorem md_function : ZMd yX1_function 2 := ⟨by decide, by decide, by decide +kernel⟩
theorem md_depth : ZMd yX1_depth 1 := ⟨by decide, by decide, by decide +kernel⟩
theorem md_node : ZMd yX1_node 3 := ⟨by decide, by decide, by decide +kernel⟩
theorem md_branch : ZMd yX1_branch 3 := ⟨by decide, by decide, by decide +kernel⟩
theorem md_missing : ZMd yX1_missing 1 := ⟨by decide, by decide, by decide +kernel⟩
theorem md_unreached : ZMd yX1_unreached 2 := ⟨by decide, by decide, by decide +kernel⟩
theorem md_whole : ZMd yX1_whole 1 := ⟨by decide, by decide, by decide +kernel⟩
theorem md_newValue : ZMd yX1_newValue 3 := ⟨by decide, by decide, by decide +kernel⟩
theorem md_truth : ZMd yX1_truth 1 := ⟨by decide, by decide, by decide +kernel⟩
theorem md_letters : ZMd yX1_letters 1 := ⟨by decide, by decide, by decide +kernel⟩
theorem md_nothing : ZMd yX1_nothing 0 := ⟨by decide, by decide, by decide +kernel⟩
theorem md_make : ZMd yX1_make 5 := ⟨by decide, by decide, by decide +kernel⟩
theorem md_isValue : ZMd yX1_isValue 1 := ⟨by decide, by decide, by decide +kernel⟩
theorem md_isOfSort : ZMd yX1_isOfSort 2 := ⟨by decide, by decide, by decide +kernel⟩
theorem md_value : ZMd yX1_value 2 := ⟨by decide, by decide, by decide +kernel⟩
theorem md_alike : ZMd yX1_alike 2 := ⟨by decide, by decide, by decide +kernel⟩
theorem md_sort : ZMd yX1_sort 4 := ⟨by decide, by decide, by decide +kernel⟩
theorem md_runs : ZMd yX1_runs 5 := ⟨by decide, by decide, by decide +kernel⟩
theorem md_byTree : ZMd yX1_byTree 1 := ⟨by decide, by decide, by decide +kernel⟩
theorem md_binds0 : ZMd yX1_binds0 2 := ⟨by decide, by decide, by decide +kernel⟩
theorem md_fitsHere : ZMd yX1_fitsHere 2 := ⟨by decide, by decide, by decide +kernel⟩
theorem md_guarded : ZMd yX1_guarded 1 := ⟨by decide, by decide, by decide +kernel⟩
theorem md_isThrown : ZMd yX1_isThrown 2 := ⟨by decide, by decide, by decide +kernel⟩
theorem md_term : ZMd yX1_term 1 := ⟨by decide, by decide, by decide +kernel⟩
theorem md_sum : ZMd yX1_sum 2 := ⟨by decide, by decide, by decide +kernel⟩
theorem md_standing : ZMd yX1_standing 1 := ⟨by decide, by decide, by decide +kernel⟩
theorem md_isBranch : ZMd yX1_isBranch 3 := ⟨by decide, by decide, by decide +kernel⟩
theorem md_byRules : ZMd yX1_byRules 1 := ⟨by decide, by decide, by decide +kernel⟩
theorem md_plain : ZMd yX1_plain 4 := ⟨by decide, by decide, by decide +kernel⟩
theorem md_told : ZMd yX1_told 1 := ⟨by decide, by decide, by decide +kernel⟩
theorem md_guard : ZMd yX1_guard 1 := ⟨by decide, by decide, by decide +kernel⟩
theorem md_bound : ZMd yX1_bound 1 := ⟨by decide, by decide, by decide +kernel⟩
theorem md_count : ZMd yX1_count 1 := ⟨by decide, by decide, by decide +kernel⟩
theorem fu_in {d : Nat} {x0 : Int} {x2 : Int} {x4 : Int} {w : TW} (hk : 1 ≤ d) : wpT d 1 [al x0, al x2, al x4] w (zqI (fun v w2 => v = ff_in x0 x2 x4 w ∧ w2 = w) zno) := by
  obtain ⟨d, rfl⟩ : ∃ q, d = q + 1 := ⟨d - 1, by omega⟩
  show 0 ≤ d ∧ pT_in_0 (wpT d) (fun v w2 => v = ff_in x0 x2 x4 w ∧ w2 = w) x0 x2 x4 w
  refine ⟨by omega, ?_⟩
  unfold pT_in_0
  intro v ev; subst ev
  exact ⟨rfl, rfl⟩
theorem fu_byteAt {d : Nat} {x1 : Int} {w : TW} (hk : 1 ≤ d) (ho : fo_byteAt x1 w) : wpT d 5 [ai x1] w (zqI (fun v w2 => v = ff_byteAt x1 w ∧ w2 = w) zno) := by
  obtain ⟨d, rfl⟩ : ∃ q, d = q + 1 := ⟨d - 1, by omega⟩
  show 0 ≤ d ∧ pT_byteAt_0 (wpT d) (fun v w2 => v = ff_byteAt x1 w ∧ w2 = w) x1 w
  refine ⟨by omega, ?_⟩
  unfold pT_byteAt_0
  refine ⟨ho, ?_⟩
  intro v ev; subst ev
  exact ⟨rfl, rfl⟩
theorem fu_isSmall {d : Nat} {x0 : Int} {w : TW} (hk : 2 ≤ d) : wpT d 6 [ai x0] w (zqI (fun v w2 => v = ff_isSmall x0 w ∧ w2 = w) zno) := by
  obtain ⟨d, rfl⟩ : ∃ q, d = q + 1 := ⟨d - 1, by omega⟩
  show 1 ≤ d ∧ pT_isSmall_0 (wpT d) (fun v w2 => v = ff_isSmall x0 w ∧ w2 = w) x0 w
  refine ⟨by omega, ?_⟩
  unfold pT_isSmall_0
  exact ⟨rfl, rfl⟩
theorem fu_isFigure {d : Nat} {x0 : Int} {w : TW} (hk : 2 ≤ d) : wpT d 8 [ai x0] w (zqI (fun v w2 => v = ff_isFigure x0 w ∧ w2 = w) zno) := by
  obtain ⟨d, rfl⟩ : ∃ q, d = q + 1 := ⟨d - 1, by omega⟩
  show 1 ≤ d ∧ pT_isFigure_0 (wpT d) (fun v w2 => v = ff_isFigure x0 w ∧ w2 = w) x0 w
  refine ⟨by omega, ?_⟩
  unfold pT_isFigure_0
  exact ⟨rfl, rfl⟩
theorem fu_wordOf {d : Nat} {x0 : Int} {w : TW} (hk : 1 ≤ d) : wpT d 9 [al x0] w (zqI (fun v w2 => v = ff_wordOf x0 w ∧ w2 = w) zno) := by
  obtain ⟨d, rfl⟩ : ∃ q, d = q + 1 := ⟨d - 1, by omega⟩
  show 0 ≤ d ∧ pT_wordOf_0 (wpT d) (fun v w2 => v = ff_wordOf x0 w ∧ w2 = w) x0 w
  refine ⟨by omega, ?_⟩
  unfold pT_wordOf_0
  intro v ev; subst ev
  exact ⟨rfl, rfl⟩
theorem fu_isWord {d : Nat} {x1 : Int} {w : TW} (hk : 1 ≤ d) : wpT d 10 [ai x1] w (zqI (fun v w2 => v = ff_isWord x1 w ∧ w2 = w) zno) := by
  obtain ⟨d, rfl⟩ : ∃ q, d = q + 1 := ⟨d - 1, by omega⟩
  show 0 ≤ d ∧ pT_isWord_0 (wpT d) (fun v w2 => v = ff_isWord x1 w ∧ w2 = w) x1 w
  refine ⟨by omega, ?_⟩
  unfold pT_isWord_0
  intro v ev; subst ev
  exact ⟨rfl, rfl⟩
theorem fu_isSign {d : Nat} {x1 : Int} {w : TW} (hk : 1 ≤ d) : wpT d 18 [ai x1] w (zqI (fun v w2 => v = ff_isSign x1 w ∧ w2 = w) zno) := by
  obtain ⟨d, rfl⟩ : ∃ q, d = q + 1 := ⟨d - 1, by omega⟩
  show 0 ≤ d ∧ pT_isSign_0 (wpT d) (fun v w2 => v = ff_isSign x1 w ∧ w2 = w) x1 w
  refine ⟨by omega, ?_⟩
  unfold pT_isSign_0
  intro v ev; subst ev
  exact ⟨rfl, rfl⟩
theorem fu_wanted {d : Nat} {w : TW} (hk : 1 ≤ d) (ho : fo_wanted w) : wpT d 33 [] w (zqI (fun v w2 => v = ff_wanted w ∧ w2 = w) zno) := by
  obtain ⟨d, rfl⟩ : ∃ q, d = q + 1 := ⟨d - 1, by omega⟩
  show 0 ≤ d ∧ pT_wanted_0 (wpT d) (fun v w2 => v = ff_wanted w ∧ w2 = w) w
  refine ⟨by omega, ?_⟩
  unfold pT_wanted_0
  refine ⟨ho.1, ?_⟩
  intro v ev; subst ev
  refine ⟨ho.2.1, ?_⟩
  refine ⟨ho.2.2, ?_⟩
  intro v ev; subst ev
  exact ⟨rfl, rfl⟩
theorem fu_fault {d : Nat} {w : TW} (hk : 1 ≤ d) : wpT d 64 [] w (zqI (fun v w2 => v = ff_fault w ∧ w2 = w) zno) := by
  obtain ⟨d, rfl⟩ : ∃ q, d = q + 1 := ⟨d - 1, by omega⟩
  show 0 ≤ d ∧ pT_fault_0 (wpT d) (fun v w2 => v = ff_fault w ∧ w2 = w) w
  refine ⟨by omega, ?_⟩
  unfold pT_fault_0
  exact ⟨rfl, rfl⟩
theorem fu_isFunction {d : Nat} {x1 : Int} {w : TW} (hk : 2 ≤ d) : wpT d 67 [ai x1] w (zqI (fun v w2 => v = ff_isFunction x1 w ∧ w2 = w) zno) := by
  obtain ⟨d, rfl⟩ : ∃ q, d = q + 1 := ⟨d - 1, by omega⟩
  show 1 ≤ d ∧ pT_isFunction_0 (wpT d) (fun v w2 => v = ff_isFunction x1 w ∧ w2 = w) x1 w
  refine ⟨by omega, ?_⟩
  unfold pT_isFunction_0
  exact ⟨rfl, rfl⟩
theorem fu_moved {d : Nat} {x0 : Int} {x1 : Int} {w : TW} (hk : 1 ≤ d) : wpT d 68 [ai x0, ai x1] w (zqI (fun v w2 => v = ff_moved x0 x1 w ∧ w2 = w) zno) := by
  obtain ⟨d, rfl⟩ : ∃ q, d = q + 1 := ⟨d - 1, by omega⟩
  show 0 ≤ d ∧ pT_moved_0 (wpT d) (fun v w2 => v = ff_moved x0 x1 w ∧ w2 = w) x0 x1 w
  refine ⟨by omega, ?_⟩
  unfold pT_moved_0
  intro v ev; subst ev
  exact ⟨rfl, rfl⟩
theorem fu_isKind {d : Nat} {x1 : Int} {w : TW} (hk : 2 ≤ d) : wpT d 70 [ai x1] w (zqI (fun v w2 => v = ff_isKind x1 w ∧ w2 = w) zno) := by
  obtain ⟨d, rfl⟩ : ∃ q, d = q + 1 := ⟨d - 1, by omega⟩
  show 1 ≤ d ∧ pT_isKind_0 (wpT d) (fun v w2 => v = ff_isKind x1 w ∧ w2 = w) x1 w
  refine ⟨by omega, ?_⟩
  unfold pT_isKind_0
  exact ⟨rfl, rfl⟩
theorem fu_isValue {d : Nat} {x1 : Int} {w : TW} (hk : 2 ≤ d) : wpT d 84 [ai x1] w (zqI (fun v w2 => v = ff_isValue x1 w ∧ w2 = w) zno) := by
  obtain ⟨d, rfl⟩ : ∃ q, d = q + 1 := ⟨d - 1, by omega⟩
  show 1 ≤ d ∧ pT_isValue_0 (wpT d) (fun v w2 => v = ff_isValue x1 w ∧ w2 = w) x1 w
  refine ⟨by omega, ?_⟩
  unfold pT_isValue_0
  exact ⟨rfl, rfl⟩
theorem fu_term {d : Nat} {x1 : Int} {w : TW} (hk : 1 ≤ d) (ho : fo_term x1 w) : wpT d 95 [ai x1] w (zqI (fun v w2 => v = ff_term x1 w ∧ w2 = w) zno) := by
  obtain ⟨d, rfl⟩ : ∃ q, d = q + 1 := ⟨d - 1, by omega⟩
  show 0 ≤ d ∧ pT_term_0 (wpT d) (fun v w2 => v = ff_term x1 w ∧ w2 = w) x1 w
  refine ⟨by omega, ?_⟩
  unfold pT_term_0
  refine ⟨ho.1, ?_⟩
  refine ⟨ho.2, ?_⟩
  intro v ev; subst ev
  exact ⟨rfl, rfl⟩
theorem fu_isThrown {d : Nat} {x1 : Int} {x2 : Int} {w : TW} (hk : 2 ≤ d) (ho : fo_isThrown x1 x2 w) : wpT d 94 [ai x1, ai x2] w (zqI (fun v w2 => v = ff_isThrown x1 x2 w ∧ w2 = w) zno) := by
  obtain ⟨d, rfl⟩ : ∃ q, d = q + 1 := ⟨d - 1, by omega⟩
  show 1 ≤ d ∧ pT_isThrown_0 (wpT d) (fun v w2 => v = ff_isThrown x1 x2 w ∧ w2 = w) x1 x2 w
  refine ⟨by omega, ?_⟩
  unfold pT_isThrown_0
  refine ⟨ho.1, ?_⟩
  intro v ev; subst ev
  refine ⟨ho.2, ?_⟩
  intro v ev; subst ev
  exact ⟨rfl, rfl⟩
theorem fu_guard {d : Nat} {x1 : Int} {w : TW} (hk : 2 ≤ d) (ho : fo_guard x1 w) : wpT d 102 [ai x1] w (zqI (fun v w2 => v = ff_guard x1 w ∧ w2 = w) zno) := by
  obtain ⟨d, rfl⟩ : ∃ q, d = q + 1 := ⟨d - 1, by omega⟩
  show 1 ≤ d ∧ pT_guard_0 (wpT d) (fun v w2 => v = ff_guard x1 w ∧ w2 = w) x1 w
  refine ⟨by omega, ?_⟩
  unfold pT_guard_0
  intro v ev; subst ev
  refine ⟨ho, ?_⟩
  intro v ev; subst ev
  exact ⟨rfl, rfl⟩
theorem fu_bound {d : Nat} {x1 : Int} {w : TW} (hk : 2 ≤ d) (ho : fo_bound x1 w) : wpT d 103 [ai x1] w (zqI (fun v w2 => v = ff_bound x1 w ∧ w2 = w) zno) := by
  obtain ⟨d, rfl⟩ : ∃ q, d = q + 1 := ⟨d - 1, by omega⟩
  show 1 ≤ d ∧ pT_bound_0 (wpT d) (fun v w2 => v = ff_bound x1 w ∧ w2 = w) x1 w
  refine ⟨by omega, ?_⟩
  unfold pT_bound_0
  refine ⟨ho, ?_⟩
  intro v ev; subst ev
  exact ⟨rfl, rfl⟩
theorem fu_count {d : Nat} {x1 : Int} {w : TW} (hk : 1 ≤ d) : wpT d 104 [ai x1] w (zqI (fun v w2 => v = ff_count x1 w ∧ w2 = w) zno) := by
  obtain ⟨d, rfl⟩ : ∃ q, d = q + 1 := ⟨d - 1, by omega⟩
  show 0 ≤ d ∧ pT_count_0 (wpT d) (fun v w2 => v = ff_count x1 w ∧ w2 = w) x1 w
  refine ⟨by omega, ?_⟩
  unfold pT_count_0
  intro v ev; subst ev
  exact ⟨rfl, rfl⟩
end ZTTab
