/-! WALKS, printed by genb.py: methods that throw or catch -/
theorem hd_X0_init : yX0_init.cls = RX0 ∧ yX0_init.cls ≠ "java/lang/invoke/MethodHandle" ∧ yX0_init.cls ≠ "java/lang/invoke/VarHandle" ∧ (parseMethodDescriptor yX0_init.desc).map (fun d => d.parameters.length) = some 0 := by decide +kernel
theorem hd_X1_init : yX1_init.cls = RX1 ∧ yX1_init.cls ≠ "java/lang/invoke/MethodHandle" ∧ yX1_init.cls ≠ "java/lang/invoke/VarHandle" ∧ (parseMethodDescriptor yX1_init.desc).map (fun d => d.parameters.length) = some 0 := by decide +kernel
theorem hd_X0_feed : yX0_feed.cls = RX0 ∧ yX0_feed.cls ≠ "java/lang/invoke/MethodHandle" ∧ yX0_feed.cls ≠ "java/lang/invoke/VarHandle" ∧ (parseMethodDescriptor yX0_feed.desc).map (fun d => d.parameters.length) = some 1 := by decide +kernel
theorem hd_X1_feed : yX1_feed.cls = RX1 ∧ yX1_feed.cls ≠ "java/lang/invoke/MethodHandle" ∧ yX1_feed.cls ≠ "java/lang/invoke/VarHandle" ∧ (parseMethodDescriptor yX1_feed.desc).map (fun d => d.parameters.length) = some 1 := by decide +kernel
theorem hd_X0_complex : yX0_complex.cls = RX0 ∧ yX0_complex.cls ≠ "java/lang/invoke/MethodHandle" ∧ yX0_complex.cls ≠ "java/lang/invoke/VarHandle" ∧ (parseMethodDescriptor yX0_complex.desc).map (fun d => d.parameters.length) = some 0 := by decide +kernel
theorem hd_X1_complex : yX1_complex.cls = RX1 ∧ yX1_complex.cls ≠ "java/lang/invoke/MethodHandle" ∧ yX1_complex.cls ≠ "java/lang/invoke/VarHandle" ∧ (parseMethodDescriptor yX1_complex.desc).map (fun d => d.parameters.length) = some 0 := by decide +kernel
theorem hd_X0_fault : yX0_fault.cls = RX0 ∧ yX0_fault.cls ≠ "java/lang/invoke/MethodHandle" ∧ yX0_fault.cls ≠ "java/lang/invoke/VarHandle" ∧ (parseMethodDescriptor yX0_fault.desc).map (fun d => d.parameters.length) = some 0 := by decide +kernel
theorem hd_X1_fault : yX1_fault.cls = RX1 ∧ yX1_fault.cls ≠ "java/lang/invoke/MethodHandle" ∧ yX1_fault.cls ≠ "java/lang/invoke/VarHandle" ∧ (parseMethodDescriptor yX1_fault.desc).map (fun d => d.parameters.length) = some 0 := by decide +kernel
theorem hd_X0_undo : yX0_undo.cls = RX0 ∧ yX0_undo.cls ≠ "java/lang/invoke/MethodHandle" ∧ yX0_undo.cls ≠ "java/lang/invoke/VarHandle" ∧ (parseMethodDescriptor yX0_undo.desc).map (fun d => d.parameters.length) = some 0 := by decide +kernel
theorem hd_X1_undo : yX1_undo.cls = RX1 ∧ yX1_undo.cls ≠ "java/lang/invoke/MethodHandle" ∧ yX1_undo.cls ≠ "java/lang/invoke/VarHandle" ∧ (parseMethodDescriptor yX1_undo.desc).map (fun d => d.parameters.length) = some 0 := by decide +kernel
theorem hd_X0_weigh : yX0_weigh.cls = RX0 ∧ yX0_weigh.cls ≠ "java/lang/invoke/MethodHandle" ∧ yX0_weigh.cls ≠ "java/lang/invoke/VarHandle" ∧ (parseMethodDescriptor yX0_weigh.desc).map (fun d => d.parameters.length) = some 3 := by decide +kernel
theorem hd_X1_weigh : yX1_weigh.cls = RX1 ∧ yX1_weigh.cls ≠ "java/lang/invoke/MethodHandle" ∧ yX1_weigh.cls ≠ "java/lang/invoke/VarHandle" ∧ (parseMethodDescriptor yX1_weigh.desc).map (fun d => d.parameters.length) = some 3 := by decide +kernel
theorem hd_X0_edge : yX0_edge.cls = RX0 ∧ yX0_edge.cls ≠ "java/lang/invoke/MethodHandle" ∧ yX0_edge.cls ≠ "java/lang/invoke/VarHandle" ∧ (parseMethodDescriptor yX0_edge.desc).map (fun d => d.parameters.length) = some 3 := by decide +kernel
theorem hd_X1_edge : yX1_edge.cls = RX1 ∧ yX1_edge.cls ≠ "java/lang/invoke/MethodHandle" ∧ yX1_edge.cls ≠ "java/lang/invoke/VarHandle" ∧ (parseMethodDescriptor yX1_edge.desc).map (fun d => d.parameters.length) = some 3 := by decide +kernel
theorem hd_X0_face : yX0_face.cls = RX0 ∧ yX0_face.cls ≠ "java/lang/invoke/MethodHandle" ∧ yX0_face.cls ≠ "java/lang/invoke/VarHandle" ∧ (parseMethodDescriptor yX0_face.desc).map (fun d => d.parameters.length) = some 1 := by decide +kernel
theorem hd_X1_face : yX1_face.cls = RX1 ∧ yX1_face.cls ≠ "java/lang/invoke/MethodHandle" ∧ yX1_face.cls ≠ "java/lang/invoke/VarHandle" ∧ (parseMethodDescriptor yX1_face.desc).map (fun d => d.parameters.length) = some 1 := by decide +kernel
theorem hd_X0_drop : yX0_drop.cls = RX0 ∧ yX0_drop.cls ≠ "java/lang/invoke/MethodHandle" ∧ yX0_drop.cls ≠ "java/lang/invoke/VarHandle" ∧ (parseMethodDescriptor yX0_drop.desc).map (fun d => d.parameters.length) = some 2 := by decide +kernel
theorem hd_X1_drop : yX1_drop.cls = RX1 ∧ yX1_drop.cls ≠ "java/lang/invoke/MethodHandle" ∧ yX1_drop.cls ≠ "java/lang/invoke/VarHandle" ∧ (parseMethodDescriptor yX1_drop.desc).map (fun d => d.parameters.length) = some 2 := by decide +kernel
theorem hd_X0_put : yX0_put.cls = RX0 ∧ yX0_put.cls ≠ "java/lang/invoke/MethodHandle" ∧ yX0_put.cls ≠ "java/lang/invoke/VarHandle" ∧ (parseMethodDescriptor yX0_put.desc).map (fun d => d.parameters.length) = some 3 := by decide +kernel
theorem hd_X1_put : yX1_put.cls = RX1 ∧ yX1_put.cls ≠ "java/lang/invoke/MethodHandle" ∧ yX1_put.cls ≠ "java/lang/invoke/VarHandle" ∧ (parseMethodDescriptor yX1_put.desc).map (fun d => d.parameters.length) = some 3 := by decide +kernel
theorem hd_X0_bound : yX0_bound.cls = RX0 ∧ yX0_bound.cls ≠ "java/lang/invoke/MethodHandle" ∧ yX0_bound.cls ≠ "java/lang/invoke/VarHandle" ∧ (parseMethodDescriptor yX0_bound.desc).map (fun d => d.parameters.length) = some 3 := by decide +kernel
theorem hd_X1_bound : yX1_bound.cls = RX1 ∧ yX1_bound.cls ≠ "java/lang/invoke/MethodHandle" ∧ yX1_bound.cls ≠ "java/lang/invoke/VarHandle" ∧ (parseMethodDescriptor yX1_bound.desc).map (fun d => d.parameters.length) = some 3 := by decide +kernel
theorem hd_X0_drawn : yX0_drawn.cls = RX0 ∧ yX0_drawn.cls ≠ "java/lang/invoke/MethodHandle" ∧ yX0_drawn.cls ≠ "java/lang/invoke/VarHandle" ∧ (parseMethodDescriptor yX0_drawn.desc).map (fun d => d.parameters.length) = some 2 := by decide +kernel
theorem hd_X1_drawn : yX1_drawn.cls = RX1 ∧ yX1_drawn.cls ≠ "java/lang/invoke/MethodHandle" ∧ yX1_drawn.cls ≠ "java/lang/invoke/VarHandle" ∧ (parseMethodDescriptor yX1_drawn.desc).map (fun d => d.parameters.length) = some 2 := by decide +kernel
theorem hd_X0_cell : yX0_cell.cls = RX0 ∧ yX0_cell.cls ≠ "java/lang/invoke/MethodHandle" ∧ yX0_cell.cls ≠ "java/lang/invoke/VarHandle" ∧ (parseMethodDescriptor yX0_cell.desc).map (fun d => d.parameters.length) = some 3 := by decide +kernel
theorem hd_X1_cell : yX1_cell.cls = RX1 ∧ yX1_cell.cls ≠ "java/lang/invoke/MethodHandle" ∧ yX1_cell.cls ≠ "java/lang/invoke/VarHandle" ∧ (parseMethodDescriptor yX1_cell.desc).map (fun d => d.parameters.length) = some 3 := by decide +kernel
theorem hd_X0_as : yX0_as.cls = RX0 ∧ yX0_as.cls ≠ "java/lang/invoke/MethodHandle" ∧ yX0_as.cls ≠ "java/lang/invoke/VarHandle" ∧ (parseMethodDescriptor yX0_as.desc).map (fun d => d.parameters.length) = some 3 := by decide +kernel
theorem hd_X1_as : yX1_as.cls = RX1 ∧ yX1_as.cls ≠ "java/lang/invoke/MethodHandle" ∧ yX1_as.cls ≠ "java/lang/invoke/VarHandle" ∧ (parseMethodDescriptor yX1_as.desc).map (fun d => d.parameters.length) = some 3 := by decide +kernel
theorem hd_X0_table : yX0_table.cls = RX0 ∧ yX0_table.cls ≠ "java/lang/invoke/MethodHandle" ∧ yX0_table.cls ≠ "java/lang/invoke/VarHandle" ∧ (parseMethodDescriptor yX0_table.desc).map (fun d => d.parameters.length) = some 3 := by decide +kernel
theorem hd_X1_table : yX1_table.cls = RX1 ∧ yX1_table.cls ≠ "java/lang/invoke/MethodHandle" ∧ yX1_table.cls ≠ "java/lang/invoke/VarHandle" ∧ (parseMethodDescriptor yX1_table.desc).map (fun d => d.parameters.length) = some 3 := by decide +kernel
theorem hd_X0_near : yX0_near.cls = RX0 ∧ yX0_near.cls ≠ "java/lang/invoke/MethodHandle" ∧ yX0_near.cls ≠ "java/lang/invoke/VarHandle" ∧ (parseMethodDescriptor yX0_near.desc).map (fun d => d.parameters.length) = some 3 := by decide +kernel
theorem hd_X1_near : yX1_near.cls = RX1 ∧ yX1_near.cls ≠ "java/lang/invoke/MethodHandle" ∧ yX1_near.cls ≠ "java/lang/invoke/VarHandle" ∧ (parseMethodDescriptor yX1_near.desc).map (fun d => d.parameters.length) = some 3 := by decide +kernel
theorem hd_X0_rank : yX0_rank.cls = RX0 ∧ yX0_rank.cls ≠ "java/lang/invoke/MethodHandle" ∧ yX0_rank.cls ≠ "java/lang/invoke/VarHandle" ∧ (parseMethodDescriptor yX0_rank.desc).map (fun d => d.parameters.length) = some 2 := by decide +kernel
theorem hd_X1_rank : yX1_rank.cls = RX1 ∧ yX1_rank.cls ≠ "java/lang/invoke/MethodHandle" ∧ yX1_rank.cls ≠ "java/lang/invoke/VarHandle" ∧ (parseMethodDescriptor yX1_rank.desc).map (fun d => d.parameters.length) = some 2 := by decide +kernel
theorem hd_X0_holes : yX0_holes.cls = RX0 ∧ yX0_holes.cls ≠ "java/lang/invoke/MethodHandle" ∧ yX0_holes.cls ≠ "java/lang/invoke/VarHandle" ∧ (parseMethodDescriptor yX0_holes.desc).map (fun d => d.parameters.length) = some 2 := by decide +kernel
theorem hd_X1_holes : yX1_holes.cls = RX1 ∧ yX1_holes.cls ≠ "java/lang/invoke/MethodHandle" ∧ yX1_holes.cls ≠ "java/lang/invoke/VarHandle" ∧ (parseMethodDescriptor yX1_holes.desc).map (fun d => d.parameters.length) = some 2 := by decide +kernel
theorem hd_X0_twist : yX0_twist.cls = RX0 ∧ yX0_twist.cls ≠ "java/lang/invoke/MethodHandle" ∧ yX0_twist.cls ≠ "java/lang/invoke/VarHandle" ∧ (parseMethodDescriptor yX0_twist.desc).map (fun d => d.parameters.length) = some 2 := by decide +kernel
theorem hd_X1_twist : yX1_twist.cls = RX1 ∧ yX1_twist.cls ≠ "java/lang/invoke/MethodHandle" ∧ yX1_twist.cls ≠ "java/lang/invoke/VarHandle" ∧ (parseMethodDescriptor yX1_twist.desc).map (fun d => d.parameters.length) = some 2 := by decide +kernel
theorem hd_X0_chain : yX0_chain.cls = RX0 ∧ yX0_chain.cls ≠ "java/lang/invoke/MethodHandle" ∧ yX0_chain.cls ≠ "java/lang/invoke/VarHandle" ∧ (parseMethodDescriptor yX0_chain.desc).map (fun d => d.parameters.length) = some 2 := by decide +kernel
theorem hd_X1_chain : yX1_chain.cls = RX1 ∧ yX1_chain.cls ≠ "java/lang/invoke/MethodHandle" ∧ yX1_chain.cls ≠ "java/lang/invoke/VarHandle" ∧ (parseMethodDescriptor yX1_chain.desc).map (fun d => d.parameters.length) = some 2 := by decide +kernel
theorem hd_X0_ends : yX0_ends.cls = RX0 ∧ yX0_ends.cls ≠ "java/lang/invoke/MethodHandle" ∧ yX0_ends.cls ≠ "java/lang/invoke/VarHandle" ∧ (parseMethodDescriptor yX0_ends.desc).map (fun d => d.parameters.length) = some 2 := by decide +kernel
theorem hd_X1_ends : yX1_ends.cls = RX1 ∧ yX1_ends.cls ≠ "java/lang/invoke/MethodHandle" ∧ yX1_ends.cls ≠ "java/lang/invoke/VarHandle" ∧ (parseMethodDescriptor yX1_ends.desc).map (fun d => d.parameters.length) = some 2 := by decide +kernel
theorem hd_X0_whole : yX0_whole.cls = RX0 ∧ yX0_whole.cls ≠ "java/lang/invoke/MethodHandle" ∧ yX0_whole.cls ≠ "java/lang/invoke/VarHandle" ∧ (parseMethodDescriptor yX0_whole.desc).map (fun d => d.parameters.length) = some 2 := by decide +kernel
theorem hd_X1_whole : yX1_whole.cls = RX1 ∧ yX1_whole.cls ≠ "java/lang/invoke/MethodHandle" ∧ yX1_whole.cls ≠ "java/lang/invoke/VarHandle" ∧ (parseMethodDescriptor yX1_whole.desc).map (fun d => d.parameters.length) = some 2 := by decide +kernel
theorem hd_X0_part : yX0_part.cls = RX0 ∧ yX0_part.cls ≠ "java/lang/invoke/MethodHandle" ∧ yX0_part.cls ≠ "java/lang/invoke/VarHandle" ∧ (parseMethodDescriptor yX0_part.desc).map (fun d => d.parameters.length) = some 4 := by decide +kernel
theorem hd_X1_part : yX1_part.cls = RX1 ∧ yX1_part.cls ≠ "java/lang/invoke/MethodHandle" ∧ yX1_part.cls ≠ "java/lang/invoke/VarHandle" ∧ (parseMethodDescriptor yX1_part.desc).map (fun d => d.parameters.length) = some 4 := by decide +kernel
theorem hd_X0_length : yX0_length.cls = RX0 ∧ yX0_length.cls ≠ "java/lang/invoke/MethodHandle" ∧ yX0_length.cls ≠ "java/lang/invoke/VarHandle" ∧ (parseMethodDescriptor yX0_length.desc).map (fun d => d.parameters.length) = some 3 := by decide +kernel
theorem hd_X1_length : yX1_length.cls = RX1 ∧ yX1_length.cls ≠ "java/lang/invoke/MethodHandle" ∧ yX1_length.cls ≠ "java/lang/invoke/VarHandle" ∧ (parseMethodDescriptor yX1_length.desc).map (fun d => d.parameters.length) = some 3 := by decide +kernel
theorem hd_X0_share : yX0_share.cls = RX0 ∧ yX0_share.cls ≠ "java/lang/invoke/MethodHandle" ∧ yX0_share.cls ≠ "java/lang/invoke/VarHandle" ∧ (parseMethodDescriptor yX0_share.desc).map (fun d => d.parameters.length) = some 2 := by decide +kernel
theorem hd_X1_share : yX1_share.cls = RX1 ∧ yX1_share.cls ≠ "java/lang/invoke/MethodHandle" ∧ yX1_share.cls ≠ "java/lang/invoke/VarHandle" ∧ (parseMethodDescriptor yX1_share.desc).map (fun d => d.parameters.length) = some 2 := by decide +kernel
theorem hd_X0_trees : yX0_trees.cls = RX0 ∧ yX0_trees.cls ≠ "java/lang/invoke/MethodHandle" ∧ yX0_trees.cls ≠ "java/lang/invoke/VarHandle" ∧ (parseMethodDescriptor yX0_trees.desc).map (fun d => d.parameters.length) = some 2 := by decide +kernel
theorem hd_X1_trees : yX1_trees.cls = RX1 ∧ yX1_trees.cls ≠ "java/lang/invoke/MethodHandle" ∧ yX1_trees.cls ≠ "java/lang/invoke/VarHandle" ∧ (parseMethodDescriptor yX1_trees.desc).map (fun d => d.parameters.length) = some 2 := by decide +kernel
theorem hd_X0_minors : yX0_minors.cls = RX0 ∧ yX0_minors.cls ≠ "java/lang/invoke/MethodHandle" ∧ yX0_minors.cls ≠ "java/lang/invoke/VarHandle" ∧ (parseMethodDescriptor yX0_minors.desc).map (fun d => d.parameters.length) = some 1 := by decide +kernel
theorem hd_X1_minors : yX1_minors.cls = RX1 ∧ yX1_minors.cls ≠ "java/lang/invoke/MethodHandle" ∧ yX1_minors.cls ≠ "java/lang/invoke/VarHandle" ∧ (parseMethodDescriptor yX1_minors.desc).map (fun d => d.parameters.length) = some 1 := by decide +kernel
theorem hd_X0_image : yX0_image.cls = RX0 ∧ yX0_image.cls ≠ "java/lang/invoke/MethodHandle" ∧ yX0_image.cls ≠ "java/lang/invoke/VarHandle" ∧ (parseMethodDescriptor yX0_image.desc).map (fun d => d.parameters.length) = some 1 := by decide +kernel
theorem hd_X1_image : yX1_image.cls = RX1 ∧ yX1_image.cls ≠ "java/lang/invoke/MethodHandle" ∧ yX1_image.cls ≠ "java/lang/invoke/VarHandle" ∧ (parseMethodDescriptor yX1_image.desc).map (fun d => d.parameters.length) = some 1 := by decide +kernel
theorem hd_X0_restore : yX0_restore.cls = RX0 ∧ yX0_restore.cls ≠ "java/lang/invoke/MethodHandle" ∧ yX0_restore.cls ≠ "java/lang/invoke/VarHandle" ∧ (parseMethodDescriptor yX0_restore.desc).map (fun d => d.parameters.length) = some 1 := by decide +kernel
theorem hd_X1_restore : yX1_restore.cls = RX1 ∧ yX1_restore.cls ≠ "java/lang/invoke/MethodHandle" ∧ yX1_restore.cls ≠ "java/lang/invoke/VarHandle" ∧ (parseMethodDescriptor yX1_restore.desc).map (fun d => d.parameters.length) = some 1 := by decide +kernel
theorem hd_X0_count : yX0_count.cls = RX0 ∧ yX0_count.cls ≠ "java/lang/invoke/MethodHandle" ∧ yX0_count.cls ≠ "java/lang/invoke/VarHandle" ∧ (parseMethodDescriptor yX0_count.desc).map (fun d => d.parameters.length) = some 1 := by decide +kernel
theorem hd_X1_count : yX1_count.cls = RX1 ∧ yX1_count.cls ≠ "java/lang/invoke/MethodHandle" ∧ yX1_count.cls ≠ "java/lang/invoke/VarHandle" ∧ (parseMethodDescriptor yX1_count.desc).map (fun d => d.parameters.length) = some 1 := by decide +kernel
def jf_L_law_k18_1121 (N sc L : Nat) (xs : Nat → Int32)  : jm_P Int32 :=
  jm_ret (1 : Int32)
def jf_L_law_j1115 (N sc L : Nat) (xs : Nat → Int32) (v0 : Option Nat) (v1 : Option Nat) (v2 : Option Nat) (v3 : Int32) : jm_P (Int32 ⊕ (Unit ⊕ (Unit ⊕ (Unit ⊕ (Unit ⊕ (Unit ⊕ (Unit ⊕ (Unit ⊕ (Unit ⊕ (Unit ⊕ (Unit ⊕ (Unit ⊕ (Unit ⊕ (Unit ⊕ (Unit ⊕ (Unit ⊕ (Unit ⊕ (Unit ⊕ (Unit ⊕ (Unit ⊕ (Unit ⊕ (Unit ⊕ (Unit ⊕ (Unit ⊕ (Unit ⊕ (Unit ⊕ (Unit ⊕ (Unit ⊕ (Unit ⊕ (Unit ⊕ Unit)))))))))))))))))))))))))))))) :=
  jm_ret (.inl (v3 + 5))
def jf_L_law_k18_1113 (N sc L : Nat) (xs : Nat → Int32)  : jm_P Int32 :=
  jm_ret (0 : Int32)
def jf_L_law_k18_1090 (N sc L : Nat) (xs : Nat → Int32)  : jm_P Int32 :=
  jm_ret (0 : Int32)
def jf_L_law_k18_1067 (N sc L : Nat) (xs : Nat → Int32)  : jm_P Int32 :=
  jm_ret (0 : Int32)
def jf_L_law_k18_1044 (N sc L : Nat) (xs : Nat → Int32)  : jm_P Int32 :=
  jm_ret (0 : Int32)
def jf_L_law_k18_1020 (N sc L : Nat) (xs : Nat → Int32)  : jm_P Int32 :=
  jm_ret (0 : Int32)
def jf_L_law_k18_986 (N sc L : Nat) (xs : Nat → Int32)  : jm_P Int32 :=
  jm_ret (0 : Int32)
def jf_L_law_k18_953 (N sc L : Nat) (xs : Nat → Int32)  : jm_P Int32 :=
  jm_ret (0 : Int32)
def jf_L_law_k18_909 (N sc L : Nat) (xs : Nat → Int32)  : jm_P Int32 :=
  jm_ret (0 : Int32)
def jf_L_law_k18_855 (N sc L : Nat) (xs : Nat → Int32)  : jm_P Int32 :=
  jm_ret (0 : Int32)
def jf_L_law_k18_822 (N sc L : Nat) (xs : Nat → Int32)  : jm_P Int32 :=
  jm_ret (0 : Int32)
def jf_L_law_k18_789 (N sc L : Nat) (xs : Nat → Int32)  : jm_P Int32 :=
  jm_ret (0 : Int32)
def jf_L_law_k18_756 (N sc L : Nat) (xs : Nat → Int32)  : jm_P Int32 :=
  jm_ret (0 : Int32)
def jf_L_law_k18_723 (N sc L : Nat) (xs : Nat → Int32)  : jm_P Int32 :=
  jm_ret (0 : Int32)
def jf_L_law_k18_690 (N sc L : Nat) (xs : Nat → Int32)  : jm_P Int32 :=
  jm_ret (0 : Int32)
def jf_L_law_k18_657 (N sc L : Nat) (xs : Nat → Int32)  : jm_P Int32 :=
  jm_ret (0 : Int32)
def jf_L_law_k18_614 (N sc L : Nat) (xs : Nat → Int32)  : jm_P Int32 :=
  jm_ret (0 : Int32)
def jf_L_law_k18_571 (N sc L : Nat) (xs : Nat → Int32)  : jm_P Int32 :=
  jm_ret (0 : Int32)
def jf_L_law_k18_528 (N sc L : Nat) (xs : Nat → Int32)  : jm_P Int32 :=
  jm_ret (0 : Int32)
def jf_L_law_k18_485 (N sc L : Nat) (xs : Nat → Int32)  : jm_P Int32 :=
  jm_ret (0 : Int32)
def jf_L_law_k18_452 (N sc L : Nat) (xs : Nat → Int32)  : jm_P Int32 :=
  jm_ret (0 : Int32)
def jf_L_law_k18_409 (N sc L : Nat) (xs : Nat → Int32)  : jm_P Int32 :=
  jm_ret (0 : Int32)
def jf_L_law_k18_366 (N sc L : Nat) (xs : Nat → Int32)  : jm_P Int32 :=
  jm_ret (0 : Int32)
def jf_L_law_k18_333 (N sc L : Nat) (xs : Nat → Int32)  : jm_P Int32 :=
  jm_ret (0 : Int32)
def jf_L_law_k18_310 (N sc L : Nat) (xs : Nat → Int32)  : jm_P Int32 :=
  jm_ret (0 : Int32)
def jf_L_law_k18_267 (N sc L : Nat) (xs : Nat → Int32)  : jm_P Int32 :=
  jm_ret (0 : Int32)
def jf_L_law_k18_224 (N sc L : Nat) (xs : Nat → Int32)  : jm_P Int32 :=
  jm_ret (0 : Int32)
def jf_L_law_k18_211 (N sc L : Nat) (xs : Nat → Int32)  : jm_P Int32 :=
  jm_ret (0 : Int32)
def jf_L_law_k18_198 (N sc L : Nat) (xs : Nat → Int32)  : jm_P Int32 :=
  jm_ret (0 : Int32)
def jf_L_law_k18_185 (N sc L : Nat) (xs : Nat → Int32)  : jm_P Int32 :=
  jm_ret (0 : Int32)
def jf_L_law_L18 (N sc L : Nat) (xs : Nat → Int32) (v0 : Option Nat) (v1 : Option Nat) (v2 : Option Nat) (v3 : Int32) : jm_P (Int32 ⊕ (Unit ⊕ (Unit ⊕ (Unit ⊕ (Unit ⊕ (Unit ⊕ (Unit ⊕ (Unit ⊕ (Unit ⊕ (Unit ⊕ (Unit ⊕ (Unit ⊕ (Unit ⊕ (Unit ⊕ (Unit ⊕ (Unit ⊕ (Unit ⊕ (Unit ⊕ (Unit ⊕ (Unit ⊕ (Unit ⊕ (Unit ⊕ (Unit ⊕ (Unit ⊕ (Unit ⊕ (Unit ⊕ (Unit ⊕ (Unit ⊕ (Unit ⊕ (Unit ⊕ Unit)))))))))))))))))))))))))))))) :=
  jm_rd (jm_ck (v0 = some sc)) fun _ =>
  if ((Int32.ofNat L) - (5 : Int32)) < v3 then (
    jm_ret (.inr (.inr (.inr (.inr (.inr (.inr (.inr (.inr (.inr (.inr (.inr (.inr (.inr (.inr (.inr (.inr (.inr (.inr (.inr (.inr (.inr (.inr (.inr (.inr (.inr (.inr (.inr (.inr (.inr (.inr ())))))))))))))))))))))))))))))))
  else
    jm_rd (jm_ck (v0 = some sc ∧ (0 ≤ v3.toInt ∧ v3.toInt < (L : Int)))) fun _ =>
    if ((xs v3.toNatClampNeg) &&& (31 : Int32)) = (0 : Int32) then (
      jm_rd (jm_ck (v0 = some sc ∧ (0 ≤ (v3 + (1 : Int32)).toInt ∧ (v3 + (1 : Int32)).toInt < (L : Int)))) fun _ =>
      jm_rd (jm_cl 0 v1) fun a49 =>
      jm_bd (jf_X0_feed N a49 (xs (v3 + (1 : Int32)).toNatClampNeg)) fun x46 =>
      jm_rd (jm_ck (v0 = some sc ∧ (0 ≤ (v3 + (1 : Int32)).toInt ∧ (v3 + (1 : Int32)).toInt < (L : Int)))) fun _ =>
      jm_rd (jm_cl 1 v2) fun a56 =>
      jm_bd (jf_X1_feed N a56 (xs (v3 + (1 : Int32)).toNatClampNeg)) fun x53 =>
      if x46 = x53 then (
        jf_L_law_j1115 N sc L xs v0 v1 v2 v3)
      else
        jm_ret (.inr (.inl ())))
    else
    if ((xs v3.toNatClampNeg) &&& (31 : Int32)) = (1 : Int32) then (
      jm_rd (jm_cl 0 v1) fun a62 =>
      jm_bd (jf_X0_complex N a62 ) fun x59 =>
      jm_rd (jm_cl 1 v2) fun a68 =>
      jm_bd (jf_X1_complex N a68 ) fun x65 =>
      if x59 = x65 then (
        jf_L_law_j1115 N sc L xs v0 v1 v2 v3)
      else
        jm_ret (.inr (.inr (.inl ()))))
    else
    if ((xs v3.toNatClampNeg) &&& (31 : Int32)) = (2 : Int32) then (
      jm_rd (jm_cl 0 v1) fun a74 =>
      jm_bd (jf_X0_fault N a74 ) fun x71 =>
      jm_rd (jm_cl 1 v2) fun a80 =>
      jm_bd (jf_X1_fault N a80 ) fun x77 =>
      if x71 = x77 then (
        jf_L_law_j1115 N sc L xs v0 v1 v2 v3)
      else
        jm_ret (.inr (.inr (.inr (.inl ())))))
    else
    if ((xs v3.toNatClampNeg) &&& (31 : Int32)) = (3 : Int32) then (
      jm_rd (jm_cl 0 v1) fun a86 =>
      jm_bd (jf_X0_undo N a86 ) fun x83 =>
      jm_rd (jm_cl 1 v2) fun a92 =>
      jm_bd (jf_X1_undo N a92 ) fun x89 =>
      if x83 = x89 then (
        jf_L_law_j1115 N sc L xs v0 v1 v2 v3)
      else
        jm_ret (.inr (.inr (.inr (.inr (.inl ()))))))
    else
    if ((xs v3.toNatClampNeg) &&& (31 : Int32)) = (4 : Int32) then (
      jm_rd (jm_ck (v0 = some sc ∧ (0 ≤ (v3 + (1 : Int32)).toInt ∧ (v3 + (1 : Int32)).toInt < (L : Int)))) fun _ =>
      jm_rd (jm_ck (v0 = some sc ∧ (0 ≤ (v3 + (2 : Int32)).toInt ∧ (v3 + (2 : Int32)).toInt < (L : Int)))) fun _ =>
      jm_rd (jm_ck (v0 = some sc ∧ (0 ≤ (v3 + (3 : Int32)).toInt ∧ (v3 + (3 : Int32)).toInt < (L : Int)))) fun _ =>
      jm_rd (jm_cl 0 v1) fun a101 =>
      jm_bd (jf_X0_weigh N a101 (xs (v3 + (1 : Int32)).toNatClampNeg) (xs (v3 + (2 : Int32)).toNatClampNeg) (xs (v3 + (3 : Int32)).toNatClampNeg)) fun x98 =>
      jm_rd (jm_ck (v0 = some sc ∧ (0 ≤ (v3 + (1 : Int32)).toInt ∧ (v3 + (1 : Int32)).toInt < (L : Int)))) fun _ =>
      jm_rd (jm_ck (v0 = some sc ∧ (0 ≤ (v3 + (2 : Int32)).toInt ∧ (v3 + (2 : Int32)).toInt < (L : Int)))) fun _ =>
      jm_rd (jm_ck (v0 = some sc ∧ (0 ≤ (v3 + (3 : Int32)).toInt ∧ (v3 + (3 : Int32)).toInt < (L : Int)))) fun _ =>
      jm_rd (jm_cl 1 v2) fun a110 =>
      jm_bd (jf_X1_weigh N a110 (xs (v3 + (1 : Int32)).toNatClampNeg) (xs (v3 + (2 : Int32)).toNatClampNeg) (xs (v3 + (3 : Int32)).toNatClampNeg)) fun x107 =>
      if x98 = x107 then (
        jf_L_law_j1115 N sc L xs v0 v1 v2 v3)
      else
        jm_ret (.inr (.inr (.inr (.inr (.inr (.inl ())))))))
    else
    if ((xs v3.toNatClampNeg) &&& (31 : Int32)) = (5 : Int32) then (
      jm_rd (jm_ck (v0 = some sc ∧ (0 ≤ (v3 + (1 : Int32)).toInt ∧ (v3 + (1 : Int32)).toInt < (L : Int)))) fun _ =>
      jm_rd (jm_ck (v0 = some sc ∧ (0 ≤ (v3 + (2 : Int32)).toInt ∧ (v3 + (2 : Int32)).toInt < (L : Int)))) fun _ =>
      jm_rd (jm_ck (v0 = some sc ∧ (0 ≤ (v3 + (3 : Int32)).toInt ∧ (v3 + (3 : Int32)).toInt < (L : Int)))) fun _ =>
      jm_rd (jm_cl 0 v1) fun a119 =>
      jm_bd (jf_X0_edge N a119 (xs (v3 + (1 : Int32)).toNatClampNeg) (xs (v3 + (2 : Int32)).toNatClampNeg) (xs (v3 + (3 : Int32)).toNatClampNeg)) fun x116 =>
      jm_rd (jm_ck (v0 = some sc ∧ (0 ≤ (v3 + (1 : Int32)).toInt ∧ (v3 + (1 : Int32)).toInt < (L : Int)))) fun _ =>
      jm_rd (jm_ck (v0 = some sc ∧ (0 ≤ (v3 + (2 : Int32)).toInt ∧ (v3 + (2 : Int32)).toInt < (L : Int)))) fun _ =>
      jm_rd (jm_ck (v0 = some sc ∧ (0 ≤ (v3 + (3 : Int32)).toInt ∧ (v3 + (3 : Int32)).toInt < (L : Int)))) fun _ =>
      jm_rd (jm_cl 1 v2) fun a128 =>
      jm_bd (jf_X1_edge N a128 (xs (v3 + (1 : Int32)).toNatClampNeg) (xs (v3 + (2 : Int32)).toNatClampNeg) (xs (v3 + (3 : Int32)).toNatClampNeg)) fun x125 =>
      if x116 = x125 then (
        jf_L_law_j1115 N sc L xs v0 v1 v2 v3)
      else
        jm_ret (.inr (.inr (.inr (.inr (.inr (.inr (.inl ()))))))))
    else
    if ((xs v3.toNatClampNeg) &&& (31 : Int32)) = (6 : Int32) then (
      jm_rd (jm_ck (v0 = some sc ∧ (0 ≤ (v3 + (1 : Int32)).toInt ∧ (v3 + (1 : Int32)).toInt < (L : Int)))) fun _ =>
      jm_rd (jm_cl 0 v1) fun a135 =>
      jm_bd (jf_X0_face N a135 (xs (v3 + (1 : Int32)).toNatClampNeg)) fun x132 =>
      jm_rd (jm_ck (v0 = some sc ∧ (0 ≤ (v3 + (1 : Int32)).toInt ∧ (v3 + (1 : Int32)).toInt < (L : Int)))) fun _ =>
      jm_rd (jm_cl 1 v2) fun a142 =>
      jm_bd (jf_X1_face N a142 (xs (v3 + (1 : Int32)).toNatClampNeg)) fun x139 =>
      if x132 = x139 then (
        jf_L_law_j1115 N sc L xs v0 v1 v2 v3)
      else
        jm_ret (.inr (.inr (.inr (.inr (.inr (.inr (.inr (.inl ())))))))))
    else
    if ((xs v3.toNatClampNeg) &&& (31 : Int32)) = (7 : Int32) then (
      jm_rd (jm_ck (v0 = some sc ∧ (0 ≤ (v3 + (1 : Int32)).toInt ∧ (v3 + (1 : Int32)).toInt < (L : Int)))) fun _ =>
      jm_rd (jm_ck (v0 = some sc ∧ (0 ≤ (v3 + (2 : Int32)).toInt ∧ (v3 + (2 : Int32)).toInt < (L : Int)))) fun _ =>
      jm_rd (jm_cl 0 v1) fun a150 =>
      jm_bd (jf_X0_drop N a150 (xs (v3 + (1 : Int32)).toNatClampNeg) (xs (v3 + (2 : Int32)).toNatClampNeg)) fun x147 =>
      jm_rd (jm_ck (v0 = some sc ∧ (0 ≤ (v3 + (1 : Int32)).toInt ∧ (v3 + (1 : Int32)).toInt < (L : Int)))) fun _ =>
      jm_rd (jm_ck (v0 = some sc ∧ (0 ≤ (v3 + (2 : Int32)).toInt ∧ (v3 + (2 : Int32)).toInt < (L : Int)))) fun _ =>
      jm_rd (jm_cl 1 v2) fun a158 =>
      jm_bd (jf_X1_drop N a158 (xs (v3 + (1 : Int32)).toNatClampNeg) (xs (v3 + (2 : Int32)).toNatClampNeg)) fun x155 =>
      if x147 = x155 then (
        jf_L_law_j1115 N sc L xs v0 v1 v2 v3)
      else
        jm_ret (.inr (.inr (.inr (.inr (.inr (.inr (.inr (.inr (.inl ()))))))))))
    else
    if ((xs v3.toNatClampNeg) &&& (31 : Int32)) = (8 : Int32) then (
      jm_rd (jm_ck (v0 = some sc ∧ (0 ≤ (v3 + (1 : Int32)).toInt ∧ (v3 + (1 : Int32)).toInt < (L : Int)))) fun _ =>
      jm_rd (jm_ck (v0 = some sc ∧ (0 ≤ (v3 + (2 : Int32)).toInt ∧ (v3 + (2 : Int32)).toInt < (L : Int)))) fun _ =>
      jm_rd (jm_ck (v0 = some sc ∧ (0 ≤ (v3 + (3 : Int32)).toInt ∧ (v3 + (3 : Int32)).toInt < (L : Int)))) fun _ =>
      jm_rd (jm_cl 0 v1) fun a167 =>
      jm_bd (jf_X0_put N a167 (xs (v3 + (1 : Int32)).toNatClampNeg) (xs (v3 + (2 : Int32)).toNatClampNeg) (xs (v3 + (3 : Int32)).toNatClampNeg)) fun x164 =>
      jm_rd (jm_ck (v0 = some sc ∧ (0 ≤ (v3 + (1 : Int32)).toInt ∧ (v3 + (1 : Int32)).toInt < (L : Int)))) fun _ =>
      jm_rd (jm_ck (v0 = some sc ∧ (0 ≤ (v3 + (2 : Int32)).toInt ∧ (v3 + (2 : Int32)).toInt < (L : Int)))) fun _ =>
      jm_rd (jm_ck (v0 = some sc ∧ (0 ≤ (v3 + (3 : Int32)).toInt ∧ (v3 + (3 : Int32)).toInt < (L : Int)))) fun _ =>
      jm_rd (jm_cl 1 v2) fun a176 =>
      jm_bd (jf_X1_put N a176 (xs (v3 + (1 : Int32)).toNatClampNeg) (xs (v3 + (2 : Int32)).toNatClampNeg) (xs (v3 + (3 : Int32)).toNatClampNeg)) fun x173 =>
      if x164 = x173 then (
        jf_L_law_j1115 N sc L xs v0 v1 v2 v3)
      else
        jm_ret (.inr (.inr (.inr (.inr (.inr (.inr (.inr (.inr (.inr (.inl ())))))))))))
    else
    if ((xs v3.toNatClampNeg) &&& (31 : Int32)) = (9 : Int32) then (
      jm_rd (jm_ck (v0 = some sc ∧ (0 ≤ (v3 + (1 : Int32)).toInt ∧ (v3 + (1 : Int32)).toInt < (L : Int)))) fun _ =>
      jm_rd (jm_ck (v0 = some sc ∧ (0 ≤ (v3 + (2 : Int32)).toInt ∧ (v3 + (2 : Int32)).toInt < (L : Int)))) fun _ =>
      jm_rd (jm_ck (v0 = some sc ∧ (0 ≤ (v3 + (3 : Int32)).toInt ∧ (v3 + (3 : Int32)).toInt < (L : Int)))) fun _ =>
      jm_rd (jm_cl 0 v1) fun a185 =>
      jm_bd (jf_X0_bound N a185 (xs (v3 + (1 : Int32)).toNatClampNeg) (xs (v3 + (2 : Int32)).toNatClampNeg) (xs (v3 + (3 : Int32)).toNatClampNeg)) fun x182 =>
      jm_rd (jm_ck (v0 = some sc ∧ (0 ≤ (v3 + (1 : Int32)).toInt ∧ (v3 + (1 : Int32)).toInt < (L : Int)))) fun _ =>
      jm_rd (jm_ck (v0 = some sc ∧ (0 ≤ (v3 + (2 : Int32)).toInt ∧ (v3 + (2 : Int32)).toInt < (L : Int)))) fun _ =>
      jm_rd (jm_ck (v0 = some sc ∧ (0 ≤ (v3 + (3 : Int32)).toInt ∧ (v3 + (3 : Int32)).toInt < (L : Int)))) fun _ =>
      jm_rd (jm_cl 1 v2) fun a194 =>
      jm_bd (jf_X1_bound N a194 (xs (v3 + (1 : Int32)).toNatClampNeg) (xs (v3 + (2 : Int32)).toNatClampNeg) (xs (v3 + (3 : Int32)).toNatClampNeg)) fun x191 =>
      if x182 = x191 then (
        jf_L_law_j1115 N sc L xs v0 v1 v2 v3)
      else
        jm_ret (.inr (.inr (.inr (.inr (.inr (.inr (.inr (.inr (.inr (.inr (.inl ()))))))))))))
    else
    if ((xs v3.toNatClampNeg) &&& (31 : Int32)) = (10 : Int32) then (
      jm_rd (jm_ck (v0 = some sc ∧ (0 ≤ (v3 + (1 : Int32)).toInt ∧ (v3 + (1 : Int32)).toInt < (L : Int)))) fun _ =>
      jm_rd (jm_ck (v0 = some sc ∧ (0 ≤ (v3 + (2 : Int32)).toInt ∧ (v3 + (2 : Int32)).toInt < (L : Int)))) fun _ =>
      jm_rd (jm_cl 0 v1) fun a202 =>
      jm_bd (jf_X0_drawn N a202 (xs (v3 + (1 : Int32)).toNatClampNeg) (xs (v3 + (2 : Int32)).toNatClampNeg)) fun x199 =>
      jm_rd (jm_ck (v0 = some sc ∧ (0 ≤ (v3 + (1 : Int32)).toInt ∧ (v3 + (1 : Int32)).toInt < (L : Int)))) fun _ =>
      jm_rd (jm_ck (v0 = some sc ∧ (0 ≤ (v3 + (2 : Int32)).toInt ∧ (v3 + (2 : Int32)).toInt < (L : Int)))) fun _ =>
      jm_rd (jm_cl 1 v2) fun a210 =>
      jm_bd (jf_X1_drawn N a210 (xs (v3 + (1 : Int32)).toNatClampNeg) (xs (v3 + (2 : Int32)).toNatClampNeg)) fun x207 =>
      if x199 = x207 then (
        jf_L_law_j1115 N sc L xs v0 v1 v2 v3)
      else
        jm_ret (.inr (.inr (.inr (.inr (.inr (.inr (.inr (.inr (.inr (.inr (.inr (.inl ())))))))))))))
    else
    if ((xs v3.toNatClampNeg) &&& (31 : Int32)) = (11 : Int32) then (
      jm_rd (jm_ck (v0 = some sc ∧ (0 ≤ (v3 + (1 : Int32)).toInt ∧ (v3 + (1 : Int32)).toInt < (L : Int)))) fun _ =>
      jm_rd (jm_ck (v0 = some sc ∧ (0 ≤ (v3 + (2 : Int32)).toInt ∧ (v3 + (2 : Int32)).toInt < (L : Int)))) fun _ =>
      jm_rd (jm_ck (v0 = some sc ∧ (0 ≤ (v3 + (3 : Int32)).toInt ∧ (v3 + (3 : Int32)).toInt < (L : Int)))) fun _ =>
      jm_rd (jm_cl 0 v1) fun a219 =>
      jm_bd (jf_X0_cell N a219 (xs (v3 + (1 : Int32)).toNatClampNeg) (xs (v3 + (2 : Int32)).toNatClampNeg) (xs (v3 + (3 : Int32)).toNatClampNeg)) fun x216 =>
      jm_rd (jm_ck (v0 = some sc ∧ (0 ≤ (v3 + (1 : Int32)).toInt ∧ (v3 + (1 : Int32)).toInt < (L : Int)))) fun _ =>
      jm_rd (jm_ck (v0 = some sc ∧ (0 ≤ (v3 + (2 : Int32)).toInt ∧ (v3 + (2 : Int32)).toInt < (L : Int)))) fun _ =>
      jm_rd (jm_ck (v0 = some sc ∧ (0 ≤ (v3 + (3 : Int32)).toInt ∧ (v3 + (3 : Int32)).toInt < (L : Int)))) fun _ =>
      jm_rd (jm_cl 1 v2) fun a228 =>
      jm_bd (jf_X1_cell N a228 (xs (v3 + (1 : Int32)).toNatClampNeg) (xs (v3 + (2 : Int32)).toNatClampNeg) (xs (v3 + (3 : Int32)).toNatClampNeg)) fun x225 =>
      if x216 = x225 then (
        jf_L_law_j1115 N sc L xs v0 v1 v2 v3)
      else
        jm_ret (.inr (.inr (.inr (.inr (.inr (.inr (.inr (.inr (.inr (.inr (.inr (.inr (.inl ()))))))))))))))
    else
    if ((xs v3.toNatClampNeg) &&& (31 : Int32)) = (12 : Int32) then (
      jm_rd (jm_ck (v0 = some sc ∧ (0 ≤ (v3 + (1 : Int32)).toInt ∧ (v3 + (1 : Int32)).toInt < (L : Int)))) fun _ =>
      jm_rd (jm_ck (v0 = some sc ∧ (0 ≤ (v3 + (2 : Int32)).toInt ∧ (v3 + (2 : Int32)).toInt < (L : Int)))) fun _ =>
      jm_rd (jm_ck (v0 = some sc ∧ (0 ≤ (v3 + (3 : Int32)).toInt ∧ (v3 + (3 : Int32)).toInt < (L : Int)))) fun _ =>
      jm_rd (jm_cl 0 v1) fun a237 =>
      jm_bd (jf_X0_as N a237 (xs (v3 + (1 : Int32)).toNatClampNeg) (xs (v3 + (2 : Int32)).toNatClampNeg) (xs (v3 + (3 : Int32)).toNatClampNeg)) fun x234 =>
      jm_rd (jm_ck (v0 = some sc ∧ (0 ≤ (v3 + (1 : Int32)).toInt ∧ (v3 + (1 : Int32)).toInt < (L : Int)))) fun _ =>
      jm_rd (jm_ck (v0 = some sc ∧ (0 ≤ (v3 + (2 : Int32)).toInt ∧ (v3 + (2 : Int32)).toInt < (L : Int)))) fun _ =>
      jm_rd (jm_ck (v0 = some sc ∧ (0 ≤ (v3 + (3 : Int32)).toInt ∧ (v3 + (3 : Int32)).toInt < (L : Int)))) fun _ =>
      jm_rd (jm_cl 1 v2) fun a246 =>
      jm_bd (jf_X1_as N a246 (xs (v3 + (1 : Int32)).toNatClampNeg) (xs (v3 + (2 : Int32)).toNatClampNeg) (xs (v3 + (3 : Int32)).toNatClampNeg)) fun x243 =>
      if x234 = x243 then (
        jf_L_law_j1115 N sc L xs v0 v1 v2 v3)
      else
        jm_ret (.inr (.inr (.inr (.inr (.inr (.inr (.inr (.inr (.inr (.inr (.inr (.inr (.inr (.inl ())))))))))))))))
    else
    if ((xs v3.toNatClampNeg) &&& (31 : Int32)) = (13 : Int32) then (
      jm_rd (jm_ck (v0 = some sc ∧ (0 ≤ (v3 + (1 : Int32)).toInt ∧ (v3 + (1 : Int32)).toInt < (L : Int)))) fun _ =>
      jm_rd (jm_ck (v0 = some sc ∧ (0 ≤ (v3 + (2 : Int32)).toInt ∧ (v3 + (2 : Int32)).toInt < (L : Int)))) fun _ =>
      jm_rd (jm_ck (v0 = some sc ∧ (0 ≤ (v3 + (3 : Int32)).toInt ∧ (v3 + (3 : Int32)).toInt < (L : Int)))) fun _ =>
      jm_rd (jm_cl 0 v1) fun a255 =>
      jm_bd (jf_X0_table N a255 (xs (v3 + (1 : Int32)).toNatClampNeg) (xs (v3 + (2 : Int32)).toNatClampNeg) (xs (v3 + (3 : Int32)).toNatClampNeg)) fun x252 =>
      jm_rd (jm_ck (v0 = some sc ∧ (0 ≤ (v3 + (1 : Int32)).toInt ∧ (v3 + (1 : Int32)).toInt < (L : Int)))) fun _ =>
      jm_rd (jm_ck (v0 = some sc ∧ (0 ≤ (v3 + (2 : Int32)).toInt ∧ (v3 + (2 : Int32)).toInt < (L : Int)))) fun _ =>
      jm_rd (jm_ck (v0 = some sc ∧ (0 ≤ (v3 + (3 : Int32)).toInt ∧ (v3 + (3 : Int32)).toInt < (L : Int)))) fun _ =>
      jm_rd (jm_cl 1 v2) fun a264 =>
      jm_bd (jf_X1_table N a264 (xs (v3 + (1 : Int32)).toNatClampNeg) (xs (v3 + (2 : Int32)).toNatClampNeg) (xs (v3 + (3 : Int32)).toNatClampNeg)) fun x261 =>
      if x252 = x261 then (
        jf_L_law_j1115 N sc L xs v0 v1 v2 v3)
      else
        jm_ret (.inr (.inr (.inr (.inr (.inr (.inr (.inr (.inr (.inr (.inr (.inr (.inr (.inr (.inr (.inl ()))))))))))))))))
    else
    if ((xs v3.toNatClampNeg) &&& (31 : Int32)) = (14 : Int32) then (
      jm_rd (jm_ck (v0 = some sc ∧ (0 ≤ (v3 + (1 : Int32)).toInt ∧ (v3 + (1 : Int32)).toInt < (L : Int)))) fun _ =>
      jm_rd (jm_ck (v0 = some sc ∧ (0 ≤ (v3 + (2 : Int32)).toInt ∧ (v3 + (2 : Int32)).toInt < (L : Int)))) fun _ =>
      jm_rd (jm_ck (v0 = some sc ∧ (0 ≤ (v3 + (3 : Int32)).toInt ∧ (v3 + (3 : Int32)).toInt < (L : Int)))) fun _ =>
      jm_rd (jm_cl 0 v1) fun a273 =>
      jm_bd (jf_X0_near N a273 (xs (v3 + (1 : Int32)).toNatClampNeg) (xs (v3 + (2 : Int32)).toNatClampNeg) (xs (v3 + (3 : Int32)).toNatClampNeg)) fun x270 =>
      jm_rd (jm_ck (v0 = some sc ∧ (0 ≤ (v3 + (1 : Int32)).toInt ∧ (v3 + (1 : Int32)).toInt < (L : Int)))) fun _ =>
      jm_rd (jm_ck (v0 = some sc ∧ (0 ≤ (v3 + (2 : Int32)).toInt ∧ (v3 + (2 : Int32)).toInt < (L : Int)))) fun _ =>
      jm_rd (jm_ck (v0 = some sc ∧ (0 ≤ (v3 + (3 : Int32)).toInt ∧ (v3 + (3 : Int32)).toInt < (L : Int)))) fun _ =>
      jm_rd (jm_cl 1 v2) fun a282 =>
      jm_bd (jf_X1_near N a282 (xs (v3 + (1 : Int32)).toNatClampNeg) (xs (v3 + (2 : Int32)).toNatClampNeg) (xs (v3 + (3 : Int32)).toNatClampNeg)) fun x279 =>
      if x270 = x279 then (
        jf_L_law_j1115 N sc L xs v0 v1 v2 v3)
      else
        jm_ret (.inr (.inr (.inr (.inr (.inr (.inr (.inr (.inr (.inr (.inr (.inr (.inr (.inr (.inr (.inr (.inl ())))))))))))))))))
    else
    if ((xs v3.toNatClampNeg) &&& (31 : Int32)) = (15 : Int32) then (
      jm_rd (jm_ck (v0 = some sc ∧ (0 ≤ (v3 + (1 : Int32)).toInt ∧ (v3 + (1 : Int32)).toInt < (L : Int)))) fun _ =>
      jm_rd (jm_ck (v0 = some sc ∧ (0 ≤ (v3 + (2 : Int32)).toInt ∧ (v3 + (2 : Int32)).toInt < (L : Int)))) fun _ =>
      jm_rd (jm_cl 0 v1) fun a290 =>
      jm_bd (jf_X0_rank N a290 (xs (v3 + (1 : Int32)).toNatClampNeg) (xs (v3 + (2 : Int32)).toNatClampNeg)) fun x287 =>
      jm_rd (jm_ck (v0 = some sc ∧ (0 ≤ (v3 + (1 : Int32)).toInt ∧ (v3 + (1 : Int32)).toInt < (L : Int)))) fun _ =>
      jm_rd (jm_ck (v0 = some sc ∧ (0 ≤ (v3 + (2 : Int32)).toInt ∧ (v3 + (2 : Int32)).toInt < (L : Int)))) fun _ =>
      jm_rd (jm_cl 1 v2) fun a298 =>
      jm_bd (jf_X1_rank N a298 (xs (v3 + (1 : Int32)).toNatClampNeg) (xs (v3 + (2 : Int32)).toNatClampNeg)) fun x295 =>
      if x287 = x295 then (
        jf_L_law_j1115 N sc L xs v0 v1 v2 v3)
      else
        jm_ret (.inr (.inr (.inr (.inr (.inr (.inr (.inr (.inr (.inr (.inr (.inr (.inr (.inr (.inr (.inr (.inr (.inl ()))))))))))))))))))
    else
    if ((xs v3.toNatClampNeg) &&& (31 : Int32)) = (16 : Int32) then (
      jm_rd (jm_ck (v0 = some sc ∧ (0 ≤ (v3 + (1 : Int32)).toInt ∧ (v3 + (1 : Int32)).toInt < (L : Int)))) fun _ =>
      jm_rd (jm_ck (v0 = some sc ∧ (0 ≤ (v3 + (2 : Int32)).toInt ∧ (v3 + (2 : Int32)).toInt < (L : Int)))) fun _ =>
      jm_rd (jm_cl 0 v1) fun a306 =>
      jm_bd (jf_X0_holes N a306 (xs (v3 + (1 : Int32)).toNatClampNeg) (xs (v3 + (2 : Int32)).toNatClampNeg)) fun x303 =>
      jm_rd (jm_ck (v0 = some sc ∧ (0 ≤ (v3 + (1 : Int32)).toInt ∧ (v3 + (1 : Int32)).toInt < (L : Int)))) fun _ =>
      jm_rd (jm_ck (v0 = some sc ∧ (0 ≤ (v3 + (2 : Int32)).toInt ∧ (v3 + (2 : Int32)).toInt < (L : Int)))) fun _ =>
      jm_rd (jm_cl 1 v2) fun a314 =>
      jm_bd (jf_X1_holes N a314 (xs (v3 + (1 : Int32)).toNatClampNeg) (xs (v3 + (2 : Int32)).toNatClampNeg)) fun x311 =>
      if x303 = x311 then (
        jf_L_law_j1115 N sc L xs v0 v1 v2 v3)
      else
        jm_ret (.inr (.inr (.inr (.inr (.inr (.inr (.inr (.inr (.inr (.inr (.inr (.inr (.inr (.inr (.inr (.inr (.inr (.inl ())))))))))))))))))))
    else
    if ((xs v3.toNatClampNeg) &&& (31 : Int32)) = (17 : Int32) then (
      jm_rd (jm_ck (v0 = some sc ∧ (0 ≤ (v3 + (1 : Int32)).toInt ∧ (v3 + (1 : Int32)).toInt < (L : Int)))) fun _ =>
      jm_rd (jm_ck (v0 = some sc ∧ (0 ≤ (v3 + (2 : Int32)).toInt ∧ (v3 + (2 : Int32)).toInt < (L : Int)))) fun _ =>
      jm_rd (jm_cl 0 v1) fun a322 =>
      jm_bd (jf_X0_twist N a322 (xs (v3 + (1 : Int32)).toNatClampNeg) (xs (v3 + (2 : Int32)).toNatClampNeg)) fun x319 =>
      jm_rd (jm_ck (v0 = some sc ∧ (0 ≤ (v3 + (1 : Int32)).toInt ∧ (v3 + (1 : Int32)).toInt < (L : Int)))) fun _ =>
      jm_rd (jm_ck (v0 = some sc ∧ (0 ≤ (v3 + (2 : Int32)).toInt ∧ (v3 + (2 : Int32)).toInt < (L : Int)))) fun _ =>
      jm_rd (jm_cl 1 v2) fun a330 =>
      jm_bd (jf_X1_twist N a330 (xs (v3 + (1 : Int32)).toNatClampNeg) (xs (v3 + (2 : Int32)).toNatClampNeg)) fun x327 =>
      if x319 = x327 then (
        jf_L_law_j1115 N sc L xs v0 v1 v2 v3)
      else
        jm_ret (.inr (.inr (.inr (.inr (.inr (.inr (.inr (.inr (.inr (.inr (.inr (.inr (.inr (.inr (.inr (.inr (.inr (.inr (.inl ()))))))))))))))))))))
    else
    if ((xs v3.toNatClampNeg) &&& (31 : Int32)) = (18 : Int32) then (
      jm_rd (jm_ck (v0 = some sc ∧ (0 ≤ (v3 + (1 : Int32)).toInt ∧ (v3 + (1 : Int32)).toInt < (L : Int)))) fun _ =>
      jm_rd (jm_ck (v0 = some sc ∧ (0 ≤ (v3 + (2 : Int32)).toInt ∧ (v3 + (2 : Int32)).toInt < (L : Int)))) fun _ =>
      jm_rd (jm_cl 0 v1) fun a338 =>
      jm_bd (jf_X0_chain N a338 (xs (v3 + (1 : Int32)).toNatClampNeg) (xs (v3 + (2 : Int32)).toNatClampNeg)) fun x335 =>
      jm_rd (jm_ck (v0 = some sc ∧ (0 ≤ (v3 + (1 : Int32)).toInt ∧ (v3 + (1 : Int32)).toInt < (L : Int)))) fun _ =>
      jm_rd (jm_ck (v0 = some sc ∧ (0 ≤ (v3 + (2 : Int32)).toInt ∧ (v3 + (2 : Int32)).toInt < (L : Int)))) fun _ =>
      jm_rd (jm_cl 1 v2) fun a346 =>
      jm_bd (jf_X1_chain N a346 (xs (v3 + (1 : Int32)).toNatClampNeg) (xs (v3 + (2 : Int32)).toNatClampNeg)) fun x343 =>
      if x335 = x343 then (
        jf_L_law_j1115 N sc L xs v0 v1 v2 v3)
      else
        jm_ret (.inr (.inr (.inr (.inr (.inr (.inr (.inr (.inr (.inr (.inr (.inr (.inr (.inr (.inr (.inr (.inr (.inr (.inr (.inr (.inl ())))))))))))))))))))))
    else
    if ((xs v3.toNatClampNeg) &&& (31 : Int32)) = (19 : Int32) then (
      jm_rd (jm_ck (v0 = some sc ∧ (0 ≤ (v3 + (1 : Int32)).toInt ∧ (v3 + (1 : Int32)).toInt < (L : Int)))) fun _ =>
      jm_rd (jm_ck (v0 = some sc ∧ (0 ≤ (v3 + (2 : Int32)).toInt ∧ (v3 + (2 : Int32)).toInt < (L : Int)))) fun _ =>
      jm_rd (jm_cl 0 v1) fun a354 =>
      jm_bd (jf_X0_ends N a354 (xs (v3 + (1 : Int32)).toNatClampNeg) (xs (v3 + (2 : Int32)).toNatClampNeg)) fun x351 =>
      jm_rd (jm_ck (v0 = some sc ∧ (0 ≤ (v3 + (1 : Int32)).toInt ∧ (v3 + (1 : Int32)).toInt < (L : Int)))) fun _ =>
      jm_rd (jm_ck (v0 = some sc ∧ (0 ≤ (v3 + (2 : Int32)).toInt ∧ (v3 + (2 : Int32)).toInt < (L : Int)))) fun _ =>
      jm_rd (jm_cl 1 v2) fun a362 =>
      jm_bd (jf_X1_ends N a362 (xs (v3 + (1 : Int32)).toNatClampNeg) (xs (v3 + (2 : Int32)).toNatClampNeg)) fun x359 =>
      if x351 = x359 then (
        jf_L_law_j1115 N sc L xs v0 v1 v2 v3)
      else
        jm_ret (.inr (.inr (.inr (.inr (.inr (.inr (.inr (.inr (.inr (.inr (.inr (.inr (.inr (.inr (.inr (.inr (.inr (.inr (.inr (.inr (.inl ()))))))))))))))))))))))
    else
    if ((xs v3.toNatClampNeg) &&& (31 : Int32)) = (20 : Int32) then (
      jm_rd (jm_ck (v0 = some sc ∧ (0 ≤ (v3 + (1 : Int32)).toInt ∧ (v3 + (1 : Int32)).toInt < (L : Int)))) fun _ =>
      jm_rd (jm_ck (v0 = some sc ∧ (0 ≤ (v3 + (2 : Int32)).toInt ∧ (v3 + (2 : Int32)).toInt < (L : Int)))) fun _ =>
      jm_rd (jm_cl 0 v1) fun a370 =>
      jm_bd (jf_X0_whole N a370 (xs (v3 + (1 : Int32)).toNatClampNeg) (xs (v3 + (2 : Int32)).toNatClampNeg)) fun x367 =>
      jm_rd (jm_ck (v0 = some sc ∧ (0 ≤ (v3 + (1 : Int32)).toInt ∧ (v3 + (1 : Int32)).toInt < (L : Int)))) fun _ =>
      jm_rd (jm_ck (v0 = some sc ∧ (0 ≤ (v3 + (2 : Int32)).toInt ∧ (v3 + (2 : Int32)).toInt < (L : Int)))) fun _ =>
      jm_rd (jm_cl 1 v2) fun a378 =>
      jm_bd (jf_X1_whole N a378 (xs (v3 + (1 : Int32)).toNatClampNeg) (xs (v3 + (2 : Int32)).toNatClampNeg)) fun x375 =>
      if x367 = x375 then (
        jf_L_law_j1115 N sc L xs v0 v1 v2 v3)
      else
        jm_ret (.inr (.inr (.inr (.inr (.inr (.inr (.inr (.inr (.inr (.inr (.inr (.inr (.inr (.inr (.inr (.inr (.inr (.inr (.inr (.inr (.inr (.inl ())))))))))))))))))))))))
    else
    if ((xs v3.toNatClampNeg) &&& (31 : Int32)) = (21 : Int32) then (
      jm_rd (jm_ck (v0 = some sc ∧ (0 ≤ (v3 + (1 : Int32)).toInt ∧ (v3 + (1 : Int32)).toInt < (L : Int)))) fun _ =>
      jm_rd (jm_ck (v0 = some sc ∧ (0 ≤ (v3 + (2 : Int32)).toInt ∧ (v3 + (2 : Int32)).toInt < (L : Int)))) fun _ =>
      jm_rd (jm_ck (v0 = some sc ∧ (0 ≤ (v3 + (3 : Int32)).toInt ∧ (v3 + (3 : Int32)).toInt < (L : Int)))) fun _ =>
      jm_rd (jm_ck (v0 = some sc ∧ (0 ≤ (v3 + (4 : Int32)).toInt ∧ (v3 + (4 : Int32)).toInt < (L : Int)))) fun _ =>
      jm_rd (jm_cl 0 v1) fun a388 =>
      jm_bd (jf_X0_part N a388 (xs (v3 + (1 : Int32)).toNatClampNeg) (xs (v3 + (2 : Int32)).toNatClampNeg) (xs (v3 + (3 : Int32)).toNatClampNeg) (xs (v3 + (4 : Int32)).toNatClampNeg)) fun x385 =>
      jm_rd (jm_ck (v0 = some sc ∧ (0 ≤ (v3 + (1 : Int32)).toInt ∧ (v3 + (1 : Int32)).toInt < (L : Int)))) fun _ =>
      jm_rd (jm_ck (v0 = some sc ∧ (0 ≤ (v3 + (2 : Int32)).toInt ∧ (v3 + (2 : Int32)).toInt < (L : Int)))) fun _ =>
      jm_rd (jm_ck (v0 = some sc ∧ (0 ≤ (v3 + (3 : Int32)).toInt ∧ (v3 + (3 : Int32)).toInt < (L : Int)))) fun _ =>
      jm_rd (jm_ck (v0 = some sc ∧ (0 ≤ (v3 + (4 : Int32)).toInt ∧ (v3 + (4 : Int32)).toInt < (L : Int)))) fun _ =>
      jm_rd (jm_cl 1 v2) fun a398 =>
      jm_bd (jf_X1_part N a398 (xs (v3 + (1 : Int32)).toNatClampNeg) (xs (v3 + (2 : Int32)).toNatClampNeg) (xs (v3 + (3 : Int32)).toNatClampNeg) (xs (v3 + (4 : Int32)).toNatClampNeg)) fun x395 =>
      if x385 = x395 then (
        jf_L_law_j1115 N sc L xs v0 v1 v2 v3)
      else
        jm_ret (.inr (.inr (.inr (.inr (.inr (.inr (.inr (.inr (.inr (.inr (.inr (.inr (.inr (.inr (.inr (.inr (.inr (.inr (.inr (.inr (.inr (.inr (.inl ()))))))))))))))))))))))))
    else
    if ((xs v3.toNatClampNeg) &&& (31 : Int32)) = (22 : Int32) then (
      jm_rd (jm_ck (v0 = some sc ∧ (0 ≤ (v3 + (1 : Int32)).toInt ∧ (v3 + (1 : Int32)).toInt < (L : Int)))) fun _ =>
      jm_rd (jm_ck (v0 = some sc ∧ (0 ≤ (v3 + (2 : Int32)).toInt ∧ (v3 + (2 : Int32)).toInt < (L : Int)))) fun _ =>
      jm_rd (jm_ck (v0 = some sc ∧ (0 ≤ (v3 + (3 : Int32)).toInt ∧ (v3 + (3 : Int32)).toInt < (L : Int)))) fun _ =>
      jm_rd (jm_cl 0 v1) fun a407 =>
      jm_bd (jf_X0_length N a407 (xs (v3 + (1 : Int32)).toNatClampNeg) (xs (v3 + (2 : Int32)).toNatClampNeg) (xs (v3 + (3 : Int32)).toNatClampNeg)) fun x404 =>
      jm_rd (jm_ck (v0 = some sc ∧ (0 ≤ (v3 + (1 : Int32)).toInt ∧ (v3 + (1 : Int32)).toInt < (L : Int)))) fun _ =>
      jm_rd (jm_ck (v0 = some sc ∧ (0 ≤ (v3 + (2 : Int32)).toInt ∧ (v3 + (2 : Int32)).toInt < (L : Int)))) fun _ =>
      jm_rd (jm_ck (v0 = some sc ∧ (0 ≤ (v3 + (3 : Int32)).toInt ∧ (v3 + (3 : Int32)).toInt < (L : Int)))) fun _ =>
      jm_rd (jm_cl 1 v2) fun a416 =>
      jm_bd (jf_X1_length N a416 (xs (v3 + (1 : Int32)).toNatClampNeg) (xs (v3 + (2 : Int32)).toNatClampNeg) (xs (v3 + (3 : Int32)).toNatClampNeg)) fun x413 =>
      if x404 = x413 then (
        jf_L_law_j1115 N sc L xs v0 v1 v2 v3)
      else
        jm_ret (.inr (.inr (.inr (.inr (.inr (.inr (.inr (.inr (.inr (.inr (.inr (.inr (.inr (.inr (.inr (.inr (.inr (.inr (.inr (.inr (.inr (.inr (.inr (.inl ())))))))))))))))))))))))))
    else
    if ((xs v3.toNatClampNeg) &&& (31 : Int32)) = (23 : Int32) then (
      jm_rd (jm_ck (v0 = some sc ∧ (0 ≤ (v3 + (1 : Int32)).toInt ∧ (v3 + (1 : Int32)).toInt < (L : Int)))) fun _ =>
      jm_rd (jm_ck (v0 = some sc ∧ (0 ≤ (v3 + (2 : Int32)).toInt ∧ (v3 + (2 : Int32)).toInt < (L : Int)))) fun _ =>
      jm_rd (jm_cl 0 v1) fun a424 =>
      jm_bd (jf_X0_share N a424 (xs (v3 + (1 : Int32)).toNatClampNeg) (xs (v3 + (2 : Int32)).toNatClampNeg)) fun x421 =>
      jm_rd (jm_ck (v0 = some sc ∧ (0 ≤ (v3 + (1 : Int32)).toInt ∧ (v3 + (1 : Int32)).toInt < (L : Int)))) fun _ =>
      jm_rd (jm_ck (v0 = some sc ∧ (0 ≤ (v3 + (2 : Int32)).toInt ∧ (v3 + (2 : Int32)).toInt < (L : Int)))) fun _ =>
      jm_rd (jm_cl 1 v2) fun a432 =>
      jm_bd (jf_X1_share N a432 (xs (v3 + (1 : Int32)).toNatClampNeg) (xs (v3 + (2 : Int32)).toNatClampNeg)) fun x429 =>
      if x421 = x429 then (
        jf_L_law_j1115 N sc L xs v0 v1 v2 v3)
      else
        jm_ret (.inr (.inr (.inr (.inr (.inr (.inr (.inr (.inr (.inr (.inr (.inr (.inr (.inr (.inr (.inr (.inr (.inr (.inr (.inr (.inr (.inr (.inr (.inr (.inr (.inl ()))))))))))))))))))))))))))
    else
    if ((xs v3.toNatClampNeg) &&& (31 : Int32)) = (24 : Int32) then (
      jm_rd (jm_ck (v0 = some sc ∧ (0 ≤ (v3 + (1 : Int32)).toInt ∧ (v3 + (1 : Int32)).toInt < (L : Int)))) fun _ =>
      jm_rd (jm_ck (v0 = some sc ∧ (0 ≤ (v3 + (2 : Int32)).toInt ∧ (v3 + (2 : Int32)).toInt < (L : Int)))) fun _ =>
      jm_rd (jm_cl 0 v1) fun a440 =>
      jm_bd (jf_X0_trees N a440 (xs (v3 + (1 : Int32)).toNatClampNeg) (xs (v3 + (2 : Int32)).toNatClampNeg)) fun x437 =>
      jm_rd (jm_ck (v0 = some sc ∧ (0 ≤ (v3 + (1 : Int32)).toInt ∧ (v3 + (1 : Int32)).toInt < (L : Int)))) fun _ =>
      jm_rd (jm_ck (v0 = some sc ∧ (0 ≤ (v3 + (2 : Int32)).toInt ∧ (v3 + (2 : Int32)).toInt < (L : Int)))) fun _ =>
      jm_rd (jm_cl 1 v2) fun a448 =>
      jm_bd (jf_X1_trees N a448 (xs (v3 + (1 : Int32)).toNatClampNeg) (xs (v3 + (2 : Int32)).toNatClampNeg)) fun x445 =>
      if x437 = x445 then (
        jf_L_law_j1115 N sc L xs v0 v1 v2 v3)
      else
        jm_ret (.inr (.inr (.inr (.inr (.inr (.inr (.inr (.inr (.inr (.inr (.inr (.inr (.inr (.inr (.inr (.inr (.inr (.inr (.inr (.inr (.inr (.inr (.inr (.inr (.inr (.inl ())))))))))))))))))))))))))))
    else
    if ((xs v3.toNatClampNeg) &&& (31 : Int32)) = (25 : Int32) then (
      jm_rd (jm_ck (v0 = some sc ∧ (0 ≤ (v3 + (1 : Int32)).toInt ∧ (v3 + (1 : Int32)).toInt < (L : Int)))) fun _ =>
      jm_rd (jm_cl 0 v1) fun a455 =>
      jm_bd (jf_X0_minors N a455 (xs (v3 + (1 : Int32)).toNatClampNeg)) fun x452 =>
      jm_rd (jm_ck (v0 = some sc ∧ (0 ≤ (v3 + (1 : Int32)).toInt ∧ (v3 + (1 : Int32)).toInt < (L : Int)))) fun _ =>
      jm_rd (jm_cl 1 v2) fun a462 =>
      jm_bd (jf_X1_minors N a462 (xs (v3 + (1 : Int32)).toNatClampNeg)) fun x459 =>
      if x452 = x459 then (
        jf_L_law_j1115 N sc L xs v0 v1 v2 v3)
      else
        jm_ret (.inr (.inr (.inr (.inr (.inr (.inr (.inr (.inr (.inr (.inr (.inr (.inr (.inr (.inr (.inr (.inr (.inr (.inr (.inr (.inr (.inr (.inr (.inr (.inr (.inr (.inr (.inl ()))))))))))))))))))))))))))))
    else
    if ((xs v3.toNatClampNeg) &&& (31 : Int32)) = (26 : Int32) then (
      jm_rd (jm_ck (v0 = some sc ∧ (0 ≤ (v3 + (1 : Int32)).toInt ∧ (v3 + (1 : Int32)).toInt < (L : Int)))) fun _ =>
      jm_rd (jm_cl 0 v1) fun a469 =>
      jm_bd (jf_X0_image N a469 (xs (v3 + (1 : Int32)).toNatClampNeg)) fun x466 =>
      jm_rd (jm_ck (v0 = some sc ∧ (0 ≤ (v3 + (1 : Int32)).toInt ∧ (v3 + (1 : Int32)).toInt < (L : Int)))) fun _ =>
      jm_rd (jm_cl 1 v2) fun a476 =>
      jm_bd (jf_X1_image N a476 (xs (v3 + (1 : Int32)).toNatClampNeg)) fun x473 =>
      if x466 = x473 then (
        jf_L_law_j1115 N sc L xs v0 v1 v2 v3)
      else
        jm_ret (.inr (.inr (.inr (.inr (.inr (.inr (.inr (.inr (.inr (.inr (.inr (.inr (.inr (.inr (.inr (.inr (.inr (.inr (.inr (.inr (.inr (.inr (.inr (.inr (.inr (.inr (.inr (.inl ())))))))))))))))))))))))))))))
    else
    if ((xs v3.toNatClampNeg) &&& (31 : Int32)) = (27 : Int32) then (
      jm_rd (jm_ck (v0 = some sc ∧ (0 ≤ (v3 + (1 : Int32)).toInt ∧ (v3 + (1 : Int32)).toInt < (L : Int)))) fun _ =>
      jm_rd (jm_cl 0 v1) fun a483 =>
      jm_bd (jf_X0_restore N a483 (xs (v3 + (1 : Int32)).toNatClampNeg)) fun x480 =>
      jm_rd (jm_ck (v0 = some sc ∧ (0 ≤ (v3 + (1 : Int32)).toInt ∧ (v3 + (1 : Int32)).toInt < (L : Int)))) fun _ =>
      jm_rd (jm_cl 1 v2) fun a490 =>
      jm_bd (jf_X1_restore N a490 (xs (v3 + (1 : Int32)).toNatClampNeg)) fun x487 =>
      if x480 = x487 then (
        jf_L_law_j1115 N sc L xs v0 v1 v2 v3)
      else
        jm_ret (.inr (.inr (.inr (.inr (.inr (.inr (.inr (.inr (.inr (.inr (.inr (.inr (.inr (.inr (.inr (.inr (.inr (.inr (.inr (.inr (.inr (.inr (.inr (.inr (.inr (.inr (.inr (.inr (.inl ()))))))))))))))))))))))))))))))
    else
    if ((xs v3.toNatClampNeg) &&& (31 : Int32)) = (28 : Int32) then (
      jm_rd (jm_ck (v0 = some sc ∧ (0 ≤ (v3 + (1 : Int32)).toInt ∧ (v3 + (1 : Int32)).toInt < (L : Int)))) fun _ =>
      jm_rd (jm_cl 0 v1) fun a497 =>
      jm_bd (jf_X0_count N a497 (xs (v3 + (1 : Int32)).toNatClampNeg)) fun x494 =>
      jm_rd (jm_ck (v0 = some sc ∧ (0 ≤ (v3 + (1 : Int32)).toInt ∧ (v3 + (1 : Int32)).toInt < (L : Int)))) fun _ =>
      jm_rd (jm_cl 1 v2) fun a504 =>
      jm_bd (jf_X1_count N a504 (xs (v3 + (1 : Int32)).toNatClampNeg)) fun x501 =>
      if x494 = x501 then (
        jf_L_law_j1115 N sc L xs v0 v1 v2 v3)
      else
        jm_ret (.inr (.inr (.inr (.inr (.inr (.inr (.inr (.inr (.inr (.inr (.inr (.inr (.inr (.inr (.inr (.inr (.inr (.inr (.inr (.inr (.inr (.inr (.inr (.inr (.inr (.inr (.inr (.inr (.inr (.inl ())))))))))))))))))))))))))))))))
    else
    jf_L_law_j1115 N sc L xs v0 v1 v2 v3
def jf_L_law (N sc L : Nat) (xs : Nat → Int32) (v0 : Option Nat) : jm_P Int32 :=
  jm_al (.inr (0, [.null, .null, .int 0, .int 0, .null, .int 0, .null])) fun q31 =>
  jm_bd (jf_X0_init N q31 ) fun x33 =>
  jm_al (.inr (1, [.null, .null, .null, .int 0, .null, .null, .null, .int 0, .int 0, .int 0, .int 0, .int 0, .int 0, .int 0, .int 0, .null, .null, .long 0, .null, .null, .null, .null, .long 0, .long 0])) fun q36 =>
  jm_bd (jf_X1_init N q36 ) fun x38 =>
  jm_bd (jm_it (fun z => jf_L_law_L18 N sc L xs (some sc) (some q31) (some q36) z) N (0 : Int32)) fun y =>
  match y with
  | .inl y => jf_L_law_k18_185 N sc L xs 
  | .inr (.inl y) => jf_L_law_k18_198 N sc L xs 
  | .inr (.inr (.inl y)) => jf_L_law_k18_211 N sc L xs 
  | .inr (.inr (.inr (.inl y))) => jf_L_law_k18_224 N sc L xs 
  | .inr (.inr (.inr (.inr (.inl y)))) => jf_L_law_k18_267 N sc L xs 
  | .inr (.inr (.inr (.inr (.inr (.inl y))))) => jf_L_law_k18_310 N sc L xs 
  | .inr (.inr (.inr (.inr (.inr (.inr (.inl y)))))) => jf_L_law_k18_333 N sc L xs 
  | .inr (.inr (.inr (.inr (.inr (.inr (.inr (.inl y))))))) => jf_L_law_k18_366 N sc L xs 
  | .inr (.inr (.inr (.inr (.inr (.inr (.inr (.inr (.inl y)))))))) => jf_L_law_k18_409 N sc L xs 
  | .inr (.inr (.inr (.inr (.inr (.inr (.inr (.inr (.inr (.inl y))))))))) => jf_L_law_k18_452 N sc L xs 
  | .inr (.inr (.inr (.inr (.inr (.inr (.inr (.inr (.inr (.inr (.inl y)))))))))) => jf_L_law_k18_485 N sc L xs 
  | .inr (.inr (.inr (.inr (.inr (.inr (.inr (.inr (.inr (.inr (.inr (.inl y))))))))))) => jf_L_law_k18_528 N sc L xs 
  | .inr (.inr (.inr (.inr (.inr (.inr (.inr (.inr (.inr (.inr (.inr (.inr (.inl y)))))))))))) => jf_L_law_k18_571 N sc L xs 
  | .inr (.inr (.inr (.inr (.inr (.inr (.inr (.inr (.inr (.inr (.inr (.inr (.inr (.inl y))))))))))))) => jf_L_law_k18_614 N sc L xs 
  | .inr (.inr (.inr (.inr (.inr (.inr (.inr (.inr (.inr (.inr (.inr (.inr (.inr (.inr (.inl y)))))))))))))) => jf_L_law_k18_657 N sc L xs 
  | .inr (.inr (.inr (.inr (.inr (.inr (.inr (.inr (.inr (.inr (.inr (.inr (.inr (.inr (.inr (.inl y))))))))))))))) => jf_L_law_k18_690 N sc L xs 
  | .inr (.inr (.inr (.inr (.inr (.inr (.inr (.inr (.inr (.inr (.inr (.inr (.inr (.inr (.inr (.inr (.inl y)))))))))))))))) => jf_L_law_k18_723 N sc L xs 
  | .inr (.inr (.inr (.inr (.inr (.inr (.inr (.inr (.inr (.inr (.inr (.inr (.inr (.inr (.inr (.inr (.inr (.inl y))))))))))))))))) => jf_L_law_k18_756 N sc L xs 
  | .inr (.inr (.inr (.inr (.inr (.inr (.inr (.inr (.inr (.inr (.inr (.inr (.inr (.inr (.inr (.inr (.inr (.inr (.inl y)))))))))))))))))) => jf_L_law_k18_789 N sc L xs 
  | .inr (.inr (.inr (.inr (.inr (.inr (.inr (.inr (.inr (.inr (.inr (.inr (.inr (.inr (.inr (.inr (.inr (.inr (.inr (.inl y))))))))))))))))))) => jf_L_law_k18_822 N sc L xs 
  | .inr (.inr (.inr (.inr (.inr (.inr (.inr (.inr (.inr (.inr (.inr (.inr (.inr (.inr (.inr (.inr (.inr (.inr (.inr (.inr (.inl y)))))))))))))))))))) => jf_L_law_k18_855 N sc L xs 
  | .inr (.inr (.inr (.inr (.inr (.inr (.inr (.inr (.inr (.inr (.inr (.inr (.inr (.inr (.inr (.inr (.inr (.inr (.inr (.inr (.inr (.inl y))))))))))))))))))))) => jf_L_law_k18_909 N sc L xs 
  | .inr (.inr (.inr (.inr (.inr (.inr (.inr (.inr (.inr (.inr (.inr (.inr (.inr (.inr (.inr (.inr (.inr (.inr (.inr (.inr (.inr (.inr (.inl y)))))))))))))))))))))) => jf_L_law_k18_953 N sc L xs 
  | .inr (.inr (.inr (.inr (.inr (.inr (.inr (.inr (.inr (.inr (.inr (.inr (.inr (.inr (.inr (.inr (.inr (.inr (.inr (.inr (.inr (.inr (.inr (.inl y))))))))))))))))))))))) => jf_L_law_k18_986 N sc L xs 
  | .inr (.inr (.inr (.inr (.inr (.inr (.inr (.inr (.inr (.inr (.inr (.inr (.inr (.inr (.inr (.inr (.inr (.inr (.inr (.inr (.inr (.inr (.inr (.inr (.inl y)))))))))))))))))))))))) => jf_L_law_k18_1020 N sc L xs 
  | .inr (.inr (.inr (.inr (.inr (.inr (.inr (.inr (.inr (.inr (.inr (.inr (.inr (.inr (.inr (.inr (.inr (.inr (.inr (.inr (.inr (.inr (.inr (.inr (.inr (.inl y))))))))))))))))))))))))) => jf_L_law_k18_1044 N sc L xs 
  | .inr (.inr (.inr (.inr (.inr (.inr (.inr (.inr (.inr (.inr (.inr (.inr (.inr (.inr (.inr (.inr (.inr (.inr (.inr (.inr (.inr (.inr (.inr (.inr (.inr (.inr (.inl y)))))))))))))))))))))))))) => jf_L_law_k18_1067 N sc L xs 
  | .inr (.inr (.inr (.inr (.inr (.inr (.inr (.inr (.inr (.inr (.inr (.inr (.inr (.inr (.inr (.inr (.inr (.inr (.inr (.inr (.inr (.inr (.inr (.inr (.inr (.inr (.inr (.inl y))))))))))))))))))))))))))) => jf_L_law_k18_1090 N sc L xs 
  | .inr (.inr (.inr (.inr (.inr (.inr (.inr (.inr (.inr (.inr (.inr (.inr (.inr (.inr (.inr (.inr (.inr (.inr (.inr (.inr (.inr (.inr (.inr (.inr (.inr (.inr (.inr (.inr (.inl y)))))))))))))))))))))))))))) => jf_L_law_k18_1113 N sc L xs 
  | .inr (.inr (.inr (.inr (.inr (.inr (.inr (.inr (.inr (.inr (.inr (.inr (.inr (.inr (.inr (.inr (.inr (.inr (.inr (.inr (.inr (.inr (.inr (.inr (.inr (.inr (.inr (.inr (.inr y)))))))))))))))))))))))))))) => jf_L_law_k18_1121 N sc L xs 
section JLAW
variable {p : Program} {l : Launch} {e : Env} {s : State} {m : MethodId} {args : Array Value} {below : List Frame} {meth : Method} {c : Code} {Q : State → Prop}
set_option maxHeartbeats 8000000 in
set_option maxRecDepth 100000 in
theorem jt_L_law (hl0 : l.stackTraces = false) (g : GD) (b sa N sc L : Nat) (xs : Nat → Int32) (M M' : Mem) (ls : Array Slot) (hf : (jf_L_law N sc L xs (some sc)).1 M = some (1, M')) (C0 : jm_Cx p s m args meth c cL_law 4 (some .boolean) RL) (hK : jm_KG g s) (hKX : jm_KX b sa s s.heap) (hX : va_X sc L xs s s.heap) (hbl : sc < s.heap.size) (hbA : ¬ b ≤ sc) (hst : jm_St g b M M' M s room_1 s.heap [] 0 0) (hl : lv_has ls 4 [(0, va_rf (some sc))])
    (hfin : ∀ (H : Heap) (locs : List Loc) (cells slots : Nat) (ls : Array Slot), jm_St g b M M' M' s room_1 H locs cells slots → W p l e room_1 s m args below meth c H locs cells slots Q (F0 m 1122 ls [.int (1 : Int32)])) : W p l e room_1 s m args below meth c s.heap [] 0 0 Q (F0 m 0 ls []) := by
  have C0 : jm_Cx p s m args meth c cL_law 4 (some .boolean) RL := C0
  obtain ⟨hx, hb, hml, hown, hts, hr, hlk⟩ := id C0
  have K18_1121 : ∀  (Mm1 : Mem), (jf_L_law_k18_1121 N sc L xs).1 Mm1 = some (1, M') → ∀ (H : Heap) (locs : List Loc) (cells slots : Nat) (ls : Array Slot), jm_St g b M M' Mm1 s room_1 H locs cells slots → lv_has ls 4 [] → W p l e room_1 s m args below meth c H locs cells slots Q (F0 m 1121 ls []) := by
    intro  Mm1 hf H locs cells slots ls hst hl
    unfold jf_L_law_k18_1121 at hf
    refine lv_iconst (v := 1) hx hb dL_law_1121 (by decide) ?_
    obtain ⟨-, rfl⟩ := jm_ret_some hf
    exact hfin _ _ _ _ _ hst
  have K18_1113 : ∀  (Mm2 : Mem), (jf_L_law_k18_1113 N sc L xs).1 Mm2 = some (1, M') → ∀ (H : Heap) (locs : List Loc) (cells slots : Nat) (ls : Array Slot), jm_St g b M M' Mm2 s room_1 H locs cells slots → lv_has ls 4 [] → W p l e room_1 s m args below meth c H locs cells slots Q (F0 m 1113 ls []) := by
    intro  Mm2 hf H locs cells slots ls hst hl
    unfold jf_L_law_k18_1113 at hf
    refine lv_iconst (v := 0) hx hb dL_law_1113 (by decide) ?_
    exact absurd (jm_ret_some hf).1 (by decide)
  have K18_1090 : ∀  (Mm3 : Mem), (jf_L_law_k18_1090 N sc L xs).1 Mm3 = some (1, M') → ∀ (H : Heap) (locs : List Loc) (cells slots : Nat) (ls : Array Slot), jm_St g b M M' Mm3 s room_1 H locs cells slots → lv_has ls 4 [] → W p l e room_1 s m args below meth c H locs cells slots Q (F0 m 1090 ls []) := by
    intro  Mm3 hf H locs cells slots ls hst hl
    unfold jf_L_law_k18_1090 at hf
    refine lv_iconst (v := 0) hx hb dL_law_1090 (by decide) ?_
    exact absurd (jm_ret_some hf).1 (by decide)
  have K18_1067 : ∀  (Mm4 : Mem), (jf_L_law_k18_1067 N sc L xs).1 Mm4 = some (1, M') → ∀ (H : Heap) (locs : List Loc) (cells slots : Nat) (ls : Array Slot), jm_St g b M M' Mm4 s room_1 H locs cells slots → lv_has ls 4 [] → W p l e room_1 s m args below meth c H locs cells slots Q (F0 m 1067 ls []) := by
    intro  Mm4 hf H locs cells slots ls hst hl
    unfold jf_L_law_k18_1067 at hf
    refine lv_iconst (v := 0) hx hb dL_law_1067 (by decide) ?_
    exact absurd (jm_ret_some hf).1 (by decide)
  have K18_1044 : ∀  (Mm5 : Mem), (jf_L_law_k18_1044 N sc L xs).1 Mm5 = some (1, M') → ∀ (H : Heap) (locs : List Loc) (cells slots : Nat) (ls : Array Slot), jm_St g b M M' Mm5 s room_1 H locs cells slots → lv_has ls 4 [] → W p l e room_1 s m args below meth c H locs cells slots Q (F0 m 1044 ls []) := by
    intro  Mm5 hf H locs cells slots ls hst hl
    unfold jf_L_law_k18_1044 at hf
    refine lv_iconst (v := 0) hx hb dL_law_1044 (by decide) ?_
    exact absurd (jm_ret_some hf).1 (by decide)
  have K18_1020 : ∀  (Mm6 : Mem), (jf_L_law_k18_1020 N sc L xs).1 Mm6 = some (1, M') → ∀ (H : Heap) (locs : List Loc) (cells slots : Nat) (ls : Array Slot), jm_St g b M M' Mm6 s room_1 H locs cells slots → lv_has ls 4 [] → W p l e room_1 s m args below meth c H locs cells slots Q (F0 m 1020 ls []) := by
    intro  Mm6 hf H locs cells slots ls hst hl
    unfold jf_L_law_k18_1020 at hf
    refine lv_iconst (v := 0) hx hb dL_law_1020 (by decide) ?_
    exact absurd (jm_ret_some hf).1 (by decide)
  have K18_986 : ∀  (Mm7 : Mem), (jf_L_law_k18_986 N sc L xs).1 Mm7 = some (1, M') → ∀ (H : Heap) (locs : List Loc) (cells slots : Nat) (ls : Array Slot), jm_St g b M M' Mm7 s room_1 H locs cells slots → lv_has ls 4 [] → W p l e room_1 s m args below meth c H locs cells slots Q (F0 m 986 ls []) := by
    intro  Mm7 hf H locs cells slots ls hst hl
    unfold jf_L_law_k18_986 at hf
    refine lv_iconst (v := 0) hx hb dL_law_986 (by decide) ?_
    exact absurd (jm_ret_some hf).1 (by decide)
  have K18_953 : ∀  (Mm8 : Mem), (jf_L_law_k18_953 N sc L xs).1 Mm8 = some (1, M') → ∀ (H : Heap) (locs : List Loc) (cells slots : Nat) (ls : Array Slot), jm_St g b M M' Mm8 s room_1 H locs cells slots → lv_has ls 4 [] → W p l e room_1 s m args below meth c H locs cells slots Q (F0 m 953 ls []) := by
    intro  Mm8 hf H locs cells slots ls hst hl
    unfold jf_L_law_k18_953 at hf
    refine lv_iconst (v := 0) hx hb dL_law_953 (by decide) ?_
    exact absurd (jm_ret_some hf).1 (by decide)
  have K18_909 : ∀  (Mm9 : Mem), (jf_L_law_k18_909 N sc L xs).1 Mm9 = some (1, M') → ∀ (H : Heap) (locs : List Loc) (cells slots : Nat) (ls : Array Slot), jm_St g b M M' Mm9 s room_1 H locs cells slots → lv_has ls 4 [] → W p l e room_1 s m args below meth c H locs cells slots Q (F0 m 909 ls []) := by
    intro  Mm9 hf H locs cells slots ls hst hl
    unfold jf_L_law_k18_909 at hf
    refine lv_iconst (v := 0) hx hb dL_law_909 (by decide) ?_
    exact absurd (jm_ret_some hf).1 (by decide)
  have K18_855 : ∀  (Mm10 : Mem), (jf_L_law_k18_855 N sc L xs).1 Mm10 = some (1, M') → ∀ (H : Heap) (locs : List Loc) (cells slots : Nat) (ls : Array Slot), jm_St g b M M' Mm10 s room_1 H locs cells slots → lv_has ls 4 [] → W p l e room_1 s m args below meth c H locs cells slots Q (F0 m 855 ls []) := by
    intro  Mm10 hf H locs cells slots ls hst hl
    unfold jf_L_law_k18_855 at hf
    refine lv_iconst (v := 0) hx hb dL_law_855 (by decide) ?_
    exact absurd (jm_ret_some hf).1 (by decide)
  have K18_822 : ∀  (Mm11 : Mem), (jf_L_law_k18_822 N sc L xs).1 Mm11 = some (1, M') → ∀ (H : Heap) (locs : List Loc) (cells slots : Nat) (ls : Array Slot), jm_St g b M M' Mm11 s room_1 H locs cells slots → lv_has ls 4 [] → W p l e room_1 s m args below meth c H locs cells slots Q (F0 m 822 ls []) := by
    intro  Mm11 hf H locs cells slots ls hst hl
    unfold jf_L_law_k18_822 at hf
    refine lv_iconst (v := 0) hx hb dL_law_822 (by decide) ?_
    exact absurd (jm_ret_some hf).1 (by decide)
  have K18_789 : ∀  (Mm12 : Mem), (jf_L_law_k18_789 N sc L xs).1 Mm12 = some (1, M') → ∀ (H : Heap) (locs : List Loc) (cells slots : Nat) (ls : Array Slot), jm_St g b M M' Mm12 s room_1 H locs cells slots → lv_has ls 4 [] → W p l e room_1 s m args below meth c H locs cells slots Q (F0 m 789 ls []) := by
    intro  Mm12 hf H locs cells slots ls hst hl
    unfold jf_L_law_k18_789 at hf
    refine lv_iconst (v := 0) hx hb dL_law_789 (by decide) ?_
    exact absurd (jm_ret_some hf).1 (by decide)
  have K18_756 : ∀  (Mm13 : Mem), (jf_L_law_k18_756 N sc L xs).1 Mm13 = some (1, M') → ∀ (H : Heap) (locs : List Loc) (cells slots : Nat) (ls : Array Slot), jm_St g b M M' Mm13 s room_1 H locs cells slots → lv_has ls 4 [] → W p l e room_1 s m args below meth c H locs cells slots Q (F0 m 756 ls []) := by
    intro  Mm13 hf H locs cells slots ls hst hl
    unfold jf_L_law_k18_756 at hf
    refine lv_iconst (v := 0) hx hb dL_law_756 (by decide) ?_
    exact absurd (jm_ret_some hf).1 (by decide)
  have K18_723 : ∀  (Mm14 : Mem), (jf_L_law_k18_723 N sc L xs).1 Mm14 = some (1, M') → ∀ (H : Heap) (locs : List Loc) (cells slots : Nat) (ls : Array Slot), jm_St g b M M' Mm14 s room_1 H locs cells slots → lv_has ls 4 [] → W p l e room_1 s m args below meth c H locs cells slots Q (F0 m 723 ls []) := by
    intro  Mm14 hf H locs cells slots ls hst hl
    unfold jf_L_law_k18_723 at hf
    refine lv_iconst (v := 0) hx hb dL_law_723 (by decide) ?_
    exact absurd (jm_ret_some hf).1 (by decide)
  have K18_690 : ∀  (Mm15 : Mem), (jf_L_law_k18_690 N sc L xs).1 Mm15 = some (1, M') → ∀ (H : Heap) (locs : List Loc) (cells slots : Nat) (ls : Array Slot), jm_St g b M M' Mm15 s room_1 H locs cells slots → lv_has ls 4 [] → W p l e room_1 s m args below meth c H locs cells slots Q (F0 m 690 ls []) := by
    intro  Mm15 hf H locs cells slots ls hst hl
    unfold jf_L_law_k18_690 at hf
    refine lv_iconst (v := 0) hx hb dL_law_690 (by decide) ?_
    exact absurd (jm_ret_some hf).1 (by decide)
  have K18_657 : ∀  (Mm16 : Mem), (jf_L_law_k18_657 N sc L xs).1 Mm16 = some (1, M') → ∀ (H : Heap) (locs : List Loc) (cells slots : Nat) (ls : Array Slot), jm_St g b M M' Mm16 s room_1 H locs cells slots → lv_has ls 4 [] → W p l e room_1 s m args below meth c H locs cells slots Q (F0 m 657 ls []) := by
    intro  Mm16 hf H locs cells slots ls hst hl
    unfold jf_L_law_k18_657 at hf
    refine lv_iconst (v := 0) hx hb dL_law_657 (by decide) ?_
    exact absurd (jm_ret_some hf).1 (by decide)
  have K18_614 : ∀  (Mm17 : Mem), (jf_L_law_k18_614 N sc L xs).1 Mm17 = some (1, M') → ∀ (H : Heap) (locs : List Loc) (cells slots : Nat) (ls : Array Slot), jm_St g b M M' Mm17 s room_1 H locs cells slots → lv_has ls 4 [] → W p l e room_1 s m args below meth c H locs cells slots Q (F0 m 614 ls []) := by
    intro  Mm17 hf H locs cells slots ls hst hl
    unfold jf_L_law_k18_614 at hf
    refine lv_iconst (v := 0) hx hb dL_law_614 (by decide) ?_
    exact absurd (jm_ret_some hf).1 (by decide)
  have K18_571 : ∀  (Mm18 : Mem), (jf_L_law_k18_571 N sc L xs).1 Mm18 = some (1, M') → ∀ (H : Heap) (locs : List Loc) (cells slots : Nat) (ls : Array Slot), jm_St g b M M' Mm18 s room_1 H locs cells slots → lv_has ls 4 [] → W p l e room_1 s m args below meth c H locs cells slots Q (F0 m 571 ls []) := by
    intro  Mm18 hf H locs cells slots ls hst hl
    unfold jf_L_law_k18_571 at hf
    refine lv_iconst (v := 0) hx hb dL_law_571 (by decide) ?_
    exact absurd (jm_ret_some hf).1 (by decide)
  have K18_528 : ∀  (Mm19 : Mem), (jf_L_law_k18_528 N sc L xs).1 Mm19 = some (1, M') → ∀ (H : Heap) (locs : List Loc) (cells slots : Nat) (ls : Array Slot), jm_St g b M M' Mm19 s room_1 H locs cells slots → lv_has ls 4 [] → W p l e room_1 s m args below meth c H locs cells slots Q (F0 m 528 ls []) := by
    intro  Mm19 hf H locs cells slots ls hst hl
    unfold jf_L_law_k18_528 at hf
    refine lv_iconst (v := 0) hx hb dL_law_528 (by decide) ?_
    exact absurd (jm_ret_some hf).1 (by decide)
  have K18_485 : ∀  (Mm20 : Mem), (jf_L_law_k18_485 N sc L xs).1 Mm20 = some (1, M') → ∀ (H : Heap) (locs : List Loc) (cells slots : Nat) (ls : Array Slot), jm_St g b M M' Mm20 s room_1 H locs cells slots → lv_has ls 4 [] → W p l e room_1 s m args below meth c H locs cells slots Q (F0 m 485 ls []) := by
    intro  Mm20 hf H locs cells slots ls hst hl
    unfold jf_L_law_k18_485 at hf
    refine lv_iconst (v := 0) hx hb dL_law_485 (by decide) ?_
    exact absurd (jm_ret_some hf).1 (by decide)
  have K18_452 : ∀  (Mm21 : Mem), (jf_L_law_k18_452 N sc L xs).1 Mm21 = some (1, M') → ∀ (H : Heap) (locs : List Loc) (cells slots : Nat) (ls : Array Slot), jm_St g b M M' Mm21 s room_1 H locs cells slots → lv_has ls 4 [] → W p l e room_1 s m args below meth c H locs cells slots Q (F0 m 452 ls []) := by
    intro  Mm21 hf H locs cells slots ls hst hl
    unfold jf_L_law_k18_452 at hf
    refine lv_iconst (v := 0) hx hb dL_law_452 (by decide) ?_
    exact absurd (jm_ret_some hf).1 (by decide)
  have K18_409 : ∀  (Mm22 : Mem), (jf_L_law_k18_409 N sc L xs).1 Mm22 = some (1, M') → ∀ (H : Heap) (locs : List Loc) (cells slots : Nat) (ls : Array Slot), jm_St g b M M' Mm22 s room_1 H locs cells slots → lv_has ls 4 [] → W p l e room_1 s m args below meth c H locs cells slots Q (F0 m 409 ls []) := by
    intro  Mm22 hf H locs cells slots ls hst hl
    unfold jf_L_law_k18_409 at hf
    refine lv_iconst (v := 0) hx hb dL_law_409 (by decide) ?_
    exact absurd (jm_ret_some hf).1 (by decide)
  have K18_366 : ∀  (Mm23 : Mem), (jf_L_law_k18_366 N sc L xs).1 Mm23 = some (1, M') → ∀ (H : Heap) (locs : List Loc) (cells slots : Nat) (ls : Array Slot), jm_St g b M M' Mm23 s room_1 H locs cells slots → lv_has ls 4 [] → W p l e room_1 s m args below meth c H locs cells slots Q (F0 m 366 ls []) := by
    intro  Mm23 hf H locs cells slots ls hst hl
    unfold jf_L_law_k18_366 at hf
    refine lv_iconst (v := 0) hx hb dL_law_366 (by decide) ?_
    exact absurd (jm_ret_some hf).1 (by decide)
  have K18_333 : ∀  (Mm24 : Mem), (jf_L_law_k18_333 N sc L xs).1 Mm24 = some (1, M') → ∀ (H : Heap) (locs : List Loc) (cells slots : Nat) (ls : Array Slot), jm_St g b M M' Mm24 s room_1 H locs cells slots → lv_has ls 4 [] → W p l e room_1 s m args below meth c H locs cells slots Q (F0 m 333 ls []) := by
    intro  Mm24 hf H locs cells slots ls hst hl
    unfold jf_L_law_k18_333 at hf
    refine lv_iconst (v := 0) hx hb dL_law_333 (by decide) ?_
    exact absurd (jm_ret_some hf).1 (by decide)
  have K18_310 : ∀  (Mm25 : Mem), (jf_L_law_k18_310 N sc L xs).1 Mm25 = some (1, M') → ∀ (H : Heap) (locs : List Loc) (cells slots : Nat) (ls : Array Slot), jm_St g b M M' Mm25 s room_1 H locs cells slots → lv_has ls 4 [] → W p l e room_1 s m args below meth c H locs cells slots Q (F0 m 310 ls []) := by
    intro  Mm25 hf H locs cells slots ls hst hl
    unfold jf_L_law_k18_310 at hf
    refine lv_iconst (v := 0) hx hb dL_law_310 (by decide) ?_
    exact absurd (jm_ret_some hf).1 (by decide)
  have K18_267 : ∀  (Mm26 : Mem), (jf_L_law_k18_267 N sc L xs).1 Mm26 = some (1, M') → ∀ (H : Heap) (locs : List Loc) (cells slots : Nat) (ls : Array Slot), jm_St g b M M' Mm26 s room_1 H locs cells slots → lv_has ls 4 [] → W p l e room_1 s m args below meth c H locs cells slots Q (F0 m 267 ls []) := by
    intro  Mm26 hf H locs cells slots ls hst hl
    unfold jf_L_law_k18_267 at hf
    refine lv_iconst (v := 0) hx hb dL_law_267 (by decide) ?_
    exact absurd (jm_ret_some hf).1 (by decide)
  have K18_224 : ∀  (Mm27 : Mem), (jf_L_law_k18_224 N sc L xs).1 Mm27 = some (1, M') → ∀ (H : Heap) (locs : List Loc) (cells slots : Nat) (ls : Array Slot), jm_St g b M M' Mm27 s room_1 H locs cells slots → lv_has ls 4 [] → W p l e room_1 s m args below meth c H locs cells slots Q (F0 m 224 ls []) := by
    intro  Mm27 hf H locs cells slots ls hst hl
    unfold jf_L_law_k18_224 at hf
    refine lv_iconst (v := 0) hx hb dL_law_224 (by decide) ?_
    exact absurd (jm_ret_some hf).1 (by decide)
  have K18_211 : ∀  (Mm28 : Mem), (jf_L_law_k18_211 N sc L xs).1 Mm28 = some (1, M') → ∀ (H : Heap) (locs : List Loc) (cells slots : Nat) (ls : Array Slot), jm_St g b M M' Mm28 s room_1 H locs cells slots → lv_has ls 4 [] → W p l e room_1 s m args below meth c H locs cells slots Q (F0 m 211 ls []) := by
    intro  Mm28 hf H locs cells slots ls hst hl
    unfold jf_L_law_k18_211 at hf
    refine lv_iconst (v := 0) hx hb dL_law_211 (by decide) ?_
    exact absurd (jm_ret_some hf).1 (by decide)
  have K18_198 : ∀  (Mm29 : Mem), (jf_L_law_k18_198 N sc L xs).1 Mm29 = some (1, M') → ∀ (H : Heap) (locs : List Loc) (cells slots : Nat) (ls : Array Slot), jm_St g b M M' Mm29 s room_1 H locs cells slots → lv_has ls 4 [] → W p l e room_1 s m args below meth c H locs cells slots Q (F0 m 198 ls []) := by
    intro  Mm29 hf H locs cells slots ls hst hl
    unfold jf_L_law_k18_198 at hf
    refine lv_iconst (v := 0) hx hb dL_law_198 (by decide) ?_
    exact absurd (jm_ret_some hf).1 (by decide)
  have K18_185 : ∀  (Mm30 : Mem), (jf_L_law_k18_185 N sc L xs).1 Mm30 = some (1, M') → ∀ (H : Heap) (locs : List Loc) (cells slots : Nat) (ls : Array Slot), jm_St g b M M' Mm30 s room_1 H locs cells slots → lv_has ls 4 [] → W p l e room_1 s m args below meth c H locs cells slots Q (F0 m 185 ls []) := by
    intro  Mm30 hf H locs cells slots ls hst hl
    unfold jf_L_law_k18_185 at hf
    refine lv_iconst (v := 0) hx hb dL_law_185 (by decide) ?_
    exact absurd (jm_ret_some hf).1 (by decide)
  have B18 : ∀ (v0 : Option Nat) (v1 : Option Nat) (v2 : Option Nat) (v3 : Int32) (Mm42 : Mem) (xe18 : (Int32 ⊕ (Unit ⊕ (Unit ⊕ (Unit ⊕ (Unit ⊕ (Unit ⊕ (Unit ⊕ (Unit ⊕ (Unit ⊕ (Unit ⊕ (Unit ⊕ (Unit ⊕ (Unit ⊕ (Unit ⊕ (Unit ⊕ (Unit ⊕ (Unit ⊕ (Unit ⊕ (Unit ⊕ (Unit ⊕ (Unit ⊕ (Unit ⊕ (Unit ⊕ (Unit ⊕ (Unit ⊕ (Unit ⊕ (Unit ⊕ (Unit ⊕ (Unit ⊕ (Unit ⊕ Unit))))))))))))))))))))))))))))))) (Me18 : Mem), (jf_L_law_L18 N sc L xs v0 v1 v2 v3).1 Mm42 = some (xe18, Me18) → jm_le Me18 M' → (jm_or (fun (z : Int32) => ∀ (H : Heap) (locs : List Loc) (cells slots : Nat) (ls : Array Slot), jm_St g b M M' Me18 s room_1 H locs cells slots → lv_has ls 4 [(0, va_rf v0), (1, va_rf v1), (2, va_rf v2), (3, .int z)] → W p l e room_1 s m args below meth c H locs cells slots Q (F0 m 18 ls [])) (jm_or (fun (y : Unit) => ∀ (H : Heap) (locs : List Loc) (cells slots : Nat) (ls : Array Slot), jm_St g b M M' Me18 s room_1 H locs cells slots → lv_has ls 4 [] → W p l e room_1 s m args below meth c H locs cells slots Q (F0 m 185 ls [])) (jm_or (fun (y : Unit) => ∀ (H : Heap) (locs : List Loc) (cells slots : Nat) (ls : Array Slot), jm_St g b M M' Me18 s room_1 H locs cells slots → lv_has ls 4 [] → W p l e room_1 s m args below meth c H locs cells slots Q (F0 m 198 ls [])) (jm_or (fun (y : Unit) => ∀ (H : Heap) (locs : List Loc) (cells slots : Nat) (ls : Array Slot), jm_St g b M M' Me18 s room_1 H locs cells slots → lv_has ls 4 [] → W p l e room_1 s m args below meth c H locs cells slots Q (F0 m 211 ls [])) (jm_or (fun (y : Unit) => ∀ (H : Heap) (locs : List Loc) (cells slots : Nat) (ls : Array Slot), jm_St g b M M' Me18 s room_1 H locs cells slots → lv_has ls 4 [] → W p l e room_1 s m args below meth c H locs cells slots Q (F0 m 224 ls [])) (jm_or (fun (y : Unit) => ∀ (H : Heap) (locs : List Loc) (cells slots : Nat) (ls : Array Slot), jm_St g b M M' Me18 s room_1 H locs cells slots → lv_has ls 4 [] → W p l e room_1 s m args below meth c H locs cells slots Q (F0 m 267 ls [])) (jm_or (fun (y : Unit) => ∀ (H : Heap) (locs : List Loc) (cells slots : Nat) (ls : Array Slot), jm_St g b M M' Me18 s room_1 H locs cells slots → lv_has ls 4 [] → W p l e room_1 s m args below meth c H locs cells slots Q (F0 m 310 ls [])) (jm_or (fun (y : Unit) => ∀ (H : Heap) (locs : List Loc) (cells slots : Nat) (ls : Array Slot), jm_St g b M M' Me18 s room_1 H locs cells slots → lv_has ls 4 [] → W p l e room_1 s m args below meth c H locs cells slots Q (F0 m 333 ls [])) (jm_or (fun (y : Unit) => ∀ (H : Heap) (locs : List Loc) (cells slots : Nat) (ls : Array Slot), jm_St g b M M' Me18 s room_1 H locs cells slots → lv_has ls 4 [] → W p l e room_1 s m args below meth c H locs cells slots Q (F0 m 366 ls [])) (jm_or (fun (y : Unit) => ∀ (H : Heap) (locs : List Loc) (cells slots : Nat) (ls : Array Slot), jm_St g b M M' Me18 s room_1 H locs cells slots → lv_has ls 4 [] → W p l e room_1 s m args below meth c H locs cells slots Q (F0 m 409 ls [])) (jm_or (fun (y : Unit) => ∀ (H : Heap) (locs : List Loc) (cells slots : Nat) (ls : Array Slot), jm_St g b M M' Me18 s room_1 H locs cells slots → lv_has ls 4 [] → W p l e room_1 s m args below meth c H locs cells slots Q (F0 m 452 ls [])) (jm_or (fun (y : Unit) => ∀ (H : Heap) (locs : List Loc) (cells slots : Nat) (ls : Array Slot), jm_St g b M M' Me18 s room_1 H locs cells slots → lv_has ls 4 [] → W p l e room_1 s m args below meth c H locs cells slots Q (F0 m 485 ls [])) (jm_or (fun (y : Unit) => ∀ (H : Heap) (locs : List Loc) (cells slots : Nat) (ls : Array Slot), jm_St g b M M' Me18 s room_1 H locs cells slots → lv_has ls 4 [] → W p l e room_1 s m args below meth c H locs cells slots Q (F0 m 528 ls [])) (jm_or (fun (y : Unit) => ∀ (H : Heap) (locs : List Loc) (cells slots : Nat) (ls : Array Slot), jm_St g b M M' Me18 s room_1 H locs cells slots → lv_has ls 4 [] → W p l e room_1 s m args below meth c H locs cells slots Q (F0 m 571 ls [])) (jm_or (fun (y : Unit) => ∀ (H : Heap) (locs : List Loc) (cells slots : Nat) (ls : Array Slot), jm_St g b M M' Me18 s room_1 H locs cells slots → lv_has ls 4 [] → W p l e room_1 s m args below meth c H locs cells slots Q (F0 m 614 ls [])) (jm_or (fun (y : Unit) => ∀ (H : Heap) (locs : List Loc) (cells slots : Nat) (ls : Array Slot), jm_St g b M M' Me18 s room_1 H locs cells slots → lv_has ls 4 [] → W p l e room_1 s m args below meth c H locs cells slots Q (F0 m 657 ls [])) (jm_or (fun (y : Unit) => ∀ (H : Heap) (locs : List Loc) (cells slots : Nat) (ls : Array Slot), jm_St g b M M' Me18 s room_1 H locs cells slots → lv_has ls 4 [] → W p l e room_1 s m args below meth c H locs cells slots Q (F0 m 690 ls [])) (jm_or (fun (y : Unit) => ∀ (H : Heap) (locs : List Loc) (cells slots : Nat) (ls : Array Slot), jm_St g b M M' Me18 s room_1 H locs cells slots → lv_has ls 4 [] → W p l e room_1 s m args below meth c H locs cells slots Q (F0 m 723 ls [])) (jm_or (fun (y : Unit) => ∀ (H : Heap) (locs : List Loc) (cells slots : Nat) (ls : Array Slot), jm_St g b M M' Me18 s room_1 H locs cells slots → lv_has ls 4 [] → W p l e room_1 s m args below meth c H locs cells slots Q (F0 m 756 ls [])) (jm_or (fun (y : Unit) => ∀ (H : Heap) (locs : List Loc) (cells slots : Nat) (ls : Array Slot), jm_St g b M M' Me18 s room_1 H locs cells slots → lv_has ls 4 [] → W p l e room_1 s m args below meth c H locs cells slots Q (F0 m 789 ls [])) (jm_or (fun (y : Unit) => ∀ (H : Heap) (locs : List Loc) (cells slots : Nat) (ls : Array Slot), jm_St g b M M' Me18 s room_1 H locs cells slots → lv_has ls 4 [] → W p l e room_1 s m args below meth c H locs cells slots Q (F0 m 822 ls [])) (jm_or (fun (y : Unit) => ∀ (H : Heap) (locs : List Loc) (cells slots : Nat) (ls : Array Slot), jm_St g b M M' Me18 s room_1 H locs cells slots → lv_has ls 4 [] → W p l e room_1 s m args below meth c H locs cells slots Q (F0 m 855 ls [])) (jm_or (fun (y : Unit) => ∀ (H : Heap) (locs : List Loc) (cells slots : Nat) (ls : Array Slot), jm_St g b M M' Me18 s room_1 H locs cells slots → lv_has ls 4 [] → W p l e room_1 s m args below meth c H locs cells slots Q (F0 m 909 ls [])) (jm_or (fun (y : Unit) => ∀ (H : Heap) (locs : List Loc) (cells slots : Nat) (ls : Array Slot), jm_St g b M M' Me18 s room_1 H locs cells slots → lv_has ls 4 [] → W p l e room_1 s m args below meth c H locs cells slots Q (F0 m 953 ls [])) (jm_or (fun (y : Unit) => ∀ (H : Heap) (locs : List Loc) (cells slots : Nat) (ls : Array Slot), jm_St g b M M' Me18 s room_1 H locs cells slots → lv_has ls 4 [] → W p l e room_1 s m args below meth c H locs cells slots Q (F0 m 986 ls [])) (jm_or (fun (y : Unit) => ∀ (H : Heap) (locs : List Loc) (cells slots : Nat) (ls : Array Slot), jm_St g b M M' Me18 s room_1 H locs cells slots → lv_has ls 4 [] → W p l e room_1 s m args below meth c H locs cells slots Q (F0 m 1020 ls [])) (jm_or (fun (y : Unit) => ∀ (H : Heap) (locs : List Loc) (cells slots : Nat) (ls : Array Slot), jm_St g b M M' Me18 s room_1 H locs cells slots → lv_has ls 4 [] → W p l e room_1 s m args below meth c H locs cells slots Q (F0 m 1044 ls [])) (jm_or (fun (y : Unit) => ∀ (H : Heap) (locs : List Loc) (cells slots : Nat) (ls : Array Slot), jm_St g b M M' Me18 s room_1 H locs cells slots → lv_has ls 4 [] → W p l e room_1 s m args below meth c H locs cells slots Q (F0 m 1067 ls [])) (jm_or (fun (y : Unit) => ∀ (H : Heap) (locs : List Loc) (cells slots : Nat) (ls : Array Slot), jm_St g b M M' Me18 s room_1 H locs cells slots → lv_has ls 4 [] → W p l e room_1 s m args below meth c H locs cells slots Q (F0 m 1090 ls [])) (jm_or (fun (y : Unit) => ∀ (H : Heap) (locs : List Loc) (cells slots : Nat) (ls : Array Slot), jm_St g b M M' Me18 s room_1 H locs cells slots → lv_has ls 4 [] → W p l e room_1 s m args below meth c H locs cells slots Q (F0 m 1113 ls [])) (fun (y : Unit) => ∀ (H : Heap) (locs : List Loc) (cells slots : Nat) (ls : Array Slot), jm_St g b M M' Me18 s room_1 H locs cells slots → lv_has ls 4 [] → W p l e room_1 s m args below meth c H locs cells slots Q (F0 m 1121 ls []))))))))))))))))))))))))))))))) xe18) → ∀ (H : Heap) (locs : List Loc) (cells slots : Nat) (ls : Array Slot), jm_St g b M M' Mm42 s room_1 H locs cells slots → lv_has ls 4 [(0, va_rf v0), (1, va_rf v1), (2, va_rf v2), (3, .int v3)] → W p l e room_1 s m args below meth c H locs cells slots Q (F0 m 18 ls []) := by
    intro v0 v1 v2 v3 Mm42 xe18 Me18 hf hle18 hk18
    have J1115 : ∀ (v3 : Int32) (Mm41 : Mem), (jf_L_law_j1115 N sc L xs v0 v1 v2 v3).1 Mm41 = some (xe18, Me18) → ∀ (H : Heap) (locs : List Loc) (cells slots : Nat) (ls : Array Slot), jm_St g b M M' Mm41 s room_1 H locs cells slots → lv_has ls 4 [(0, va_rf v0), (1, va_rf v1), (2, va_rf v2), (3, .int v3)] → W p l e room_1 s m args below meth c H locs cells slots Q (F0 m 1115 ls []) := by
      intro v3 Mm41 hf H locs cells slots ls hst hl
      unfold jf_L_law_j1115 at hf
      refine lv_iinc (i := 3) (v := (v3 + 5)) (lv' := [(3, .int (v3 + 5)), (0, va_rf v0), (1, va_rf v1), (2, va_rf v2)]) hx hb dL_law_1115 hl (k := 3) rfl (by rfl) (by decide) (by simp [va_rf_cat, cat_i, cat_j, cat_f]) (fun ls hl => ?_)
      refine lv_goto (tgt := 18) hx hb dL_law_1118 (by decide) ?_
      obtain ⟨rfl, rfl⟩ := jm_ret_some hf
      exact jm_or_l hk18 _ _ _ _ _ hst (lv_sub hl [1, 2, 3, 0] rfl)
    intro H locs cells slots ls hst hl
    unfold jf_L_law_L18 at hf
    refine lv_iload_n hx hb dL_law_18 rfl (lv_at hl 3 rfl) ?_
    refine jw_aload_n (r := v0) hx hb dL_law_19 rfl (lv_at hl 0 rfl) ?_
    obtain ⟨_, h43, hf⟩ := jm_rd_some hf
    refine jw_slen hx hb (jm_ck_some h43) hX hbl hbA hst dL_law_20 ?_
    refine lv_iconst (v := 5) hx hb dL_law_21 (by decide) ?_
    refine lv_isub hx hb dL_law_22 ?_
    refine lv_icmp_gt (tgt := 1121) hx hb dL_law_23 (by decide) (fun hc => ?_) (fun hc => ?_)
    · rw [if_pos hc] at hf
      obtain ⟨rfl, rfl⟩ := jm_ret_some hf
      exact jm_or_r (jm_or_r (jm_or_r (jm_or_r (jm_or_r (jm_or_r (jm_or_r (jm_or_r (jm_or_r (jm_or_r (jm_or_r (jm_or_r (jm_or_r (jm_or_r (jm_or_r (jm_or_r (jm_or_r (jm_or_r (jm_or_r (jm_or_r (jm_or_r (jm_or_r (jm_or_r (jm_or_r (jm_or_r (jm_or_r (jm_or_r (jm_or_r (jm_or_r (jm_or_r hk18))))))))))))))))))))))))))))) _ _ _ _ _ hst (lv_sub hl [] rfl)
    · rw [if_neg hc] at hf
      refine jw_aload_n (r := v0) hx hb dL_law_26 rfl (lv_at hl 0 rfl) ?_
      refine lv_iload_n hx hb dL_law_27 rfl (lv_at hl 3 rfl) ?_
      obtain ⟨_, h44, hf⟩ := jm_rd_some hf
      refine jw_sld hx hb (jm_ck_some h44).1 hX hbl hbA hst (vp_in_iff.mpr (jm_ck_some h44).2) dL_law_28 ?_
      refine lv_bipush (v := 31) hx hb dL_law_29 (by decide) ?_
      refine lv_iand hx hb dL_law_31 ?_
      by_cases hn0 : ((xs v3.toNatClampNeg) &&& (31 : Int32)) = (0 : Int32)
      · rw [if_pos hn0] at hf
        refine lv_tableIn (tgt := 164) hx hb dL_law_32 (by rw [hn0]; decide) (by rw [hn0]; decide) (off := 132) (by rw [hn0]; rfl) (by decide) ?_
        refine jw_aload_n (r := v1) hx hb dL_law_164 rfl (lv_at hl 1 rfl) ?_
        refine jw_aload_n (r := v0) hx hb dL_law_165 rfl (lv_at hl 0 rfl) ?_
        refine lv_iload_n hx hb dL_law_166 rfl (lv_at hl 3 rfl) ?_
        refine lv_iconst (v := 1) hx hb dL_law_167 (by decide) ?_
        refine lv_iadd hx hb dL_law_168 ?_
        obtain ⟨_, h45, hf⟩ := jm_rd_some hf
        refine jw_sld hx hb (jm_ck_some h45).1 hX hbl hbA hst (vp_in_iff.mpr (jm_ck_some h45).2) dL_law_169 ?_
        obtain ⟨a49, h50, hf⟩ := jm_rd_some hf
        obtain ⟨fsa49, hea49, hr51⟩ := jm_cl_some h50
        obtain ⟨x46, Mm47, h48, hf⟩ := jm_bd_some hf
        refine jw_V (As := [.int (xs (v3 + (1 : Int32)).toNatClampNeg)]) (rest := []) (C := RX0) (T := TX0) (N := 7) (rv := v1) (jt_X0_feed l g b N a49 (xs (v3 + (1 : Int32)).toNatClampNeg) Mm42 Mm47 x46 h48) C0 hK hst (jm_mono h48) (jm_le_tr (jm_mono hf) hle18) q126 q127 q128 q72 q129 hd_X0_feed ⟨Nat.le_of_ble_eq_true rfl, Nat.le_of_ble_eq_true rfl⟩ hea49 hr51 rfl rfl hl.1 rfl (by rw [cs_n]; exact Nat.le_of_ble_eq_true rfl) dL_law_170 (fun H locs cells slots hst => ?_)
        refine W.eq (g2 := F0 m 173 ls [.int x46]) rfl ?_
        refine jw_aload_n (r := v2) hx hb dL_law_173 rfl (lv_at hl 2 rfl) ?_
        refine jw_aload_n (r := v0) hx hb dL_law_174 rfl (lv_at hl 0 rfl) ?_
        refine lv_iload_n hx hb dL_law_175 rfl (lv_at hl 3 rfl) ?_
        refine lv_iconst (v := 1) hx hb dL_law_176 (by decide) ?_
        refine lv_iadd hx hb dL_law_177 ?_
        obtain ⟨_, h52, hf⟩ := jm_rd_some hf
        refine jw_sld hx hb (jm_ck_some h52).1 hX hbl hbA hst (vp_in_iff.mpr (jm_ck_some h52).2) dL_law_178 ?_
        obtain ⟨a56, h57, hf⟩ := jm_rd_some hf
        obtain ⟨fsa56, hea56, hr58⟩ := jm_cl_some h57
        obtain ⟨x53, Mm54, h55, hf⟩ := jm_bd_some hf
        refine jw_V (As := [.int (xs (v3 + (1 : Int32)).toNatClampNeg)]) (rest := [.int x46]) (C := RX1) (T := TX1) (N := 24) (rv := v2) (jt_X1_feed l g b N a56 (xs (v3 + (1 : Int32)).toNatClampNeg) Mm47 Mm54 x53 h55) C0 hK hst (jm_mono h55) (jm_le_tr (jm_mono hf) hle18) q1007 q1008 q1009 q73 q1010 hd_X1_feed ⟨Nat.le_of_ble_eq_true rfl, Nat.le_of_ble_eq_true rfl⟩ hea56 hr58 rfl rfl hl.1 rfl (by rw [cs_i, cs_n]; exact Nat.le_of_ble_eq_true rfl) dL_law_179 (fun H locs cells slots hst => ?_)
        refine W.eq (g2 := F0 m 182 ls [.int x53, .int x46]) rfl ?_
        refine lv_icmp_eq (tgt := 1115) hx hb dL_law_182 (by decide) (fun hc => ?_) (fun hc => ?_)
        · rw [if_pos hc] at hf
          exact J1115 v3 _ hf _ _ _ _ _ hst (lv_sub hl [0, 1, 2, 3] rfl)
        · rw [if_neg hc] at hf
          obtain ⟨rfl, rfl⟩ := jm_ret_some hf
          exact jm_or_l (jm_or_r hk18) _ _ _ _ _ hst (lv_sub hl [] rfl)
      rw [if_neg hn0] at hf
      by_cases hn1 : ((xs v3.toNatClampNeg) &&& (31 : Int32)) = (1 : Int32)
      · rw [if_pos hn1] at hf
        refine lv_tableIn (tgt := 187) hx hb dL_law_32 (by rw [hn1]; decide) (by rw [hn1]; decide) (off := 155) (by rw [hn1]; rfl) (by decide) ?_
        refine jw_aload_n (r := v1) hx hb dL_law_187 rfl (lv_at hl 1 rfl) ?_
        obtain ⟨a62, h63, hf⟩ := jm_rd_some hf
        obtain ⟨fsa62, hea62, hr64⟩ := jm_cl_some h63
        obtain ⟨x59, Mm60, h61, hf⟩ := jm_bd_some hf
        refine jw_VXW (hh := [(21, 29, 32, 79)]) (As := []) (rest := []) (C := RX0) (T := TX0) (N := 7) (rv := v1) (jt_X0_complex l hl0 g b sa N a62  Mm42 Mm60 x59 h61) C0 hK hKX hst (jm_mono h61) (jm_le_tr (jm_mono hf) hle18) q136 q137 q138 q72 q139 hd_X0_complex ⟨Nat.le_of_ble_eq_true rfl, Nat.le_of_ble_eq_true rfl⟩ hea62 hr64 rfl rfl hl.1 rfl (by rw [cs_n]; exact Nat.le_of_ble_eq_true rfl) dL_law_188 (fun H locs cells slots hst => ?_)
        refine W.eq (g2 := F0 m 191 ls [.int x59]) rfl ?_
        refine jw_aload_n (r := v2) hx hb dL_law_191 rfl (lv_at hl 2 rfl) ?_
        obtain ⟨a68, h69, hf⟩ := jm_rd_some hf
        obtain ⟨fsa68, hea68, hr70⟩ := jm_cl_some h69
        obtain ⟨x65, Mm66, h67, hf⟩ := jm_bd_some hf
        refine jw_V (As := []) (rest := [.int x59]) (C := RX1) (T := TX1) (N := 24) (rv := v2) (jt_X1_complex l g b N a68  Mm60 Mm66 x65 h67) C0 hK hst (jm_mono h67) (jm_le_tr (jm_mono hf) hle18) q1017 q1018 q1019 q73 q1020 hd_X1_complex ⟨Nat.le_of_ble_eq_true rfl, Nat.le_of_ble_eq_true rfl⟩ hea68 hr70 rfl rfl hl.1 rfl (by rw [cs_i, cs_n]; exact Nat.le_of_ble_eq_true rfl) dL_law_192 (fun H locs cells slots hst => ?_)
        refine W.eq (g2 := F0 m 195 ls [.int x65, .int x59]) rfl ?_
        refine lv_icmp_eq (tgt := 1115) hx hb dL_law_195 (by decide) (fun hc => ?_) (fun hc => ?_)
        · rw [if_pos hc] at hf
          exact J1115 v3 _ hf _ _ _ _ _ hst (lv_sub hl [0, 1, 2, 3] rfl)
        · rw [if_neg hc] at hf
          obtain ⟨rfl, rfl⟩ := jm_ret_some hf
          exact jm_or_l (jm_or_r (jm_or_r hk18)) _ _ _ _ _ hst (lv_sub hl [] rfl)
      rw [if_neg hn1] at hf
      by_cases hn2 : ((xs v3.toNatClampNeg) &&& (31 : Int32)) = (2 : Int32)
      · rw [if_pos hn2] at hf
        refine lv_tableIn (tgt := 200) hx hb dL_law_32 (by rw [hn2]; decide) (by rw [hn2]; decide) (off := 168) (by rw [hn2]; rfl) (by decide) ?_
        refine jw_aload_n (r := v1) hx hb dL_law_200 rfl (lv_at hl 1 rfl) ?_
        obtain ⟨a74, h75, hf⟩ := jm_rd_some hf
        obtain ⟨fsa74, hea74, hr76⟩ := jm_cl_some h75
        obtain ⟨x71, Mm72, h73, hf⟩ := jm_bd_some hf
        refine jw_V (As := []) (rest := []) (C := RX0) (T := TX0) (N := 7) (rv := v1) (jt_X0_fault l g b N a74  Mm42 Mm72 x71 h73) C0 hK hst (jm_mono h73) (jm_le_tr (jm_mono hf) hle18) q381 q382 q383 q72 q384 hd_X0_fault ⟨Nat.le_of_ble_eq_true rfl, Nat.le_of_ble_eq_true rfl⟩ hea74 hr76 rfl rfl hl.1 rfl (by rw [cs_n]; exact Nat.le_of_ble_eq_true rfl) dL_law_201 (fun H locs cells slots hst => ?_)
        refine W.eq (g2 := F0 m 204 ls [.int x71]) rfl ?_
        refine jw_aload_n (r := v2) hx hb dL_law_204 rfl (lv_at hl 2 rfl) ?_
        obtain ⟨a80, h81, hf⟩ := jm_rd_some hf
        obtain ⟨fsa80, hea80, hr82⟩ := jm_cl_some h81
        obtain ⟨x77, Mm78, h79, hf⟩ := jm_bd_some hf
        refine jw_V (As := []) (rest := [.int x71]) (C := RX1) (T := TX1) (N := 24) (rv := v2) (jt_X1_fault l g b N a80  Mm72 Mm78 x77 h79) C0 hK hst (jm_mono h79) (jm_le_tr (jm_mono hf) hle18) q1104 q1105 q1106 q73 q1107 hd_X1_fault ⟨Nat.le_of_ble_eq_true rfl, Nat.le_of_ble_eq_true rfl⟩ hea80 hr82 rfl rfl hl.1 rfl (by rw [cs_i, cs_n]; exact Nat.le_of_ble_eq_true rfl) dL_law_205 (fun H locs cells slots hst => ?_)
        refine W.eq (g2 := F0 m 208 ls [.int x77, .int x71]) rfl ?_
        refine lv_icmp_eq (tgt := 1115) hx hb dL_law_208 (by decide) (fun hc => ?_) (fun hc => ?_)
        · rw [if_pos hc] at hf
          exact J1115 v3 _ hf _ _ _ _ _ hst (lv_sub hl [0, 1, 2, 3] rfl)
        · rw [if_neg hc] at hf
          obtain ⟨rfl, rfl⟩ := jm_ret_some hf
          exact jm_or_l (jm_or_r (jm_or_r (jm_or_r hk18))) _ _ _ _ _ hst (lv_sub hl [] rfl)
      rw [if_neg hn2] at hf
      by_cases hn3 : ((xs v3.toNatClampNeg) &&& (31 : Int32)) = (3 : Int32)
      · rw [if_pos hn3] at hf
        refine lv_tableIn (tgt := 213) hx hb dL_law_32 (by rw [hn3]; decide) (by rw [hn3]; decide) (off := 181) (by rw [hn3]; rfl) (by decide) ?_
        refine jw_aload_n (r := v1) hx hb dL_law_213 rfl (lv_at hl 1 rfl) ?_
        obtain ⟨a86, h87, hf⟩ := jm_rd_some hf
        obtain ⟨fsa86, hea86, hr88⟩ := jm_cl_some h87
        obtain ⟨x83, Mm84, h85, hf⟩ := jm_bd_some hf
        refine jw_V (As := []) (rest := []) (C := RX0) (T := TX0) (N := 7) (rv := v1) (jt_X0_undo l g b N a86  Mm42 Mm84 x83 h85) C0 hK hst (jm_mono h85) (jm_le_tr (jm_mono hf) hle18) q385 q386 q387 q72 q388 hd_X0_undo ⟨Nat.le_of_ble_eq_true rfl, Nat.le_of_ble_eq_true rfl⟩ hea86 hr88 rfl rfl hl.1 rfl (by rw [cs_n]; exact Nat.le_of_ble_eq_true rfl) dL_law_214 (fun H locs cells slots hst => ?_)
        refine W.eq (g2 := F0 m 217 ls [.int x83]) rfl ?_
        refine jw_aload_n (r := v2) hx hb dL_law_217 rfl (lv_at hl 2 rfl) ?_
        obtain ⟨a92, h93, hf⟩ := jm_rd_some hf
        obtain ⟨fsa92, hea92, hr94⟩ := jm_cl_some h93
        obtain ⟨x89, Mm90, h91, hf⟩ := jm_bd_some hf
        refine jw_V (As := []) (rest := [.int x83]) (C := RX1) (T := TX1) (N := 24) (rv := v2) (jt_X1_undo l g b N a92  Mm84 Mm90 x89 h91) C0 hK hst (jm_mono h91) (jm_le_tr (jm_mono hf) hle18) q1108 q1109 q1110 q73 q1111 hd_X1_undo ⟨Nat.le_of_ble_eq_true rfl, Nat.le_of_ble_eq_true rfl⟩ hea92 hr94 rfl rfl hl.1 rfl (by rw [cs_i, cs_n]; exact Nat.le_of_ble_eq_true rfl) dL_law_218 (fun H locs cells slots hst => ?_)
        refine W.eq (g2 := F0 m 221 ls [.int x89, .int x83]) rfl ?_
        refine lv_icmp_eq (tgt := 1115) hx hb dL_law_221 (by decide) (fun hc => ?_) (fun hc => ?_)
        · rw [if_pos hc] at hf
          exact J1115 v3 _ hf _ _ _ _ _ hst (lv_sub hl [0, 1, 2, 3] rfl)
        · rw [if_neg hc] at hf
          obtain ⟨rfl, rfl⟩ := jm_ret_some hf
          exact jm_or_l (jm_or_r (jm_or_r (jm_or_r (jm_or_r hk18)))) _ _ _ _ _ hst (lv_sub hl [] rfl)
      rw [if_neg hn3] at hf
      by_cases hn4 : ((xs v3.toNatClampNeg) &&& (31 : Int32)) = (4 : Int32)
      · rw [if_pos hn4] at hf
        refine lv_tableIn (tgt := 226) hx hb dL_law_32 (by rw [hn4]; decide) (by rw [hn4]; decide) (off := 194) (by rw [hn4]; rfl) (by decide) ?_
        refine jw_aload_n (r := v1) hx hb dL_law_226 rfl (lv_at hl 1 rfl) ?_
        refine jw_aload_n (r := v0) hx hb dL_law_227 rfl (lv_at hl 0 rfl) ?_
        refine lv_iload_n hx hb dL_law_228 rfl (lv_at hl 3 rfl) ?_
        refine lv_iconst (v := 1) hx hb dL_law_229 (by decide) ?_
        refine lv_iadd hx hb dL_law_230 ?_
        obtain ⟨_, h95, hf⟩ := jm_rd_some hf
        refine jw_sld hx hb (jm_ck_some h95).1 hX hbl hbA hst (vp_in_iff.mpr (jm_ck_some h95).2) dL_law_231 ?_
        refine jw_aload_n (r := v0) hx hb dL_law_232 rfl (lv_at hl 0 rfl) ?_
        refine lv_iload_n hx hb dL_law_233 rfl (lv_at hl 3 rfl) ?_
        refine lv_iconst (v := 2) hx hb dL_law_234 (by decide) ?_
        refine lv_iadd hx hb dL_law_235 ?_
        obtain ⟨_, h96, hf⟩ := jm_rd_some hf
        refine jw_sld hx hb (jm_ck_some h96).1 hX hbl hbA hst (vp_in_iff.mpr (jm_ck_some h96).2) dL_law_236 ?_
        refine jw_aload_n (r := v0) hx hb dL_law_237 rfl (lv_at hl 0 rfl) ?_
        refine lv_iload_n hx hb dL_law_238 rfl (lv_at hl 3 rfl) ?_
        refine lv_iconst (v := 3) hx hb dL_law_239 (by decide) ?_
        refine lv_iadd hx hb dL_law_240 ?_
        obtain ⟨_, h97, hf⟩ := jm_rd_some hf
        refine jw_sld hx hb (jm_ck_some h97).1 hX hbl hbA hst (vp_in_iff.mpr (jm_ck_some h97).2) dL_law_241 ?_
        obtain ⟨a101, h102, hf⟩ := jm_rd_some hf
        obtain ⟨fsa101, hea101, hr103⟩ := jm_cl_some h102
        obtain ⟨x98, Mm99, h100, hf⟩ := jm_bd_some hf
        refine jw_V (As := [.int (xs (v3 + (1 : Int32)).toNatClampNeg), .int (xs (v3 + (2 : Int32)).toNatClampNeg), .int (xs (v3 + (3 : Int32)).toNatClampNeg)]) (rest := []) (C := RX0) (T := TX0) (N := 7) (rv := v1) (jt_X0_weigh l g b N a101 (xs (v3 + (1 : Int32)).toNatClampNeg) (xs (v3 + (2 : Int32)).toNatClampNeg) (xs (v3 + (3 : Int32)).toNatClampNeg) Mm42 Mm99 x98 h100) C0 hK hst (jm_mono h100) (jm_le_tr (jm_mono hf) hle18) q390 q391 q392 q72 q393 hd_X0_weigh ⟨Nat.le_of_ble_eq_true rfl, Nat.le_of_ble_eq_true rfl⟩ hea101 hr103 rfl rfl hl.1 rfl (by rw [cs_n]; exact Nat.le_of_ble_eq_true rfl) dL_law_242 (fun H locs cells slots hst => ?_)
        refine W.eq (g2 := F0 m 245 ls [.int x98]) rfl ?_
        refine jw_aload_n (r := v2) hx hb dL_law_245 rfl (lv_at hl 2 rfl) ?_
        refine jw_aload_n (r := v0) hx hb dL_law_246 rfl (lv_at hl 0 rfl) ?_
        refine lv_iload_n hx hb dL_law_247 rfl (lv_at hl 3 rfl) ?_
        refine lv_iconst (v := 1) hx hb dL_law_248 (by decide) ?_
        refine lv_iadd hx hb dL_law_249 ?_
        obtain ⟨_, h104, hf⟩ := jm_rd_some hf
        refine jw_sld hx hb (jm_ck_some h104).1 hX hbl hbA hst (vp_in_iff.mpr (jm_ck_some h104).2) dL_law_250 ?_
        refine jw_aload_n (r := v0) hx hb dL_law_251 rfl (lv_at hl 0 rfl) ?_
        refine lv_iload_n hx hb dL_law_252 rfl (lv_at hl 3 rfl) ?_
        refine lv_iconst (v := 2) hx hb dL_law_253 (by decide) ?_
        refine lv_iadd hx hb dL_law_254 ?_
        obtain ⟨_, h105, hf⟩ := jm_rd_some hf
        refine jw_sld hx hb (jm_ck_some h105).1 hX hbl hbA hst (vp_in_iff.mpr (jm_ck_some h105).2) dL_law_255 ?_
        refine jw_aload_n (r := v0) hx hb dL_law_256 rfl (lv_at hl 0 rfl) ?_
        refine lv_iload_n hx hb dL_law_257 rfl (lv_at hl 3 rfl) ?_
        refine lv_iconst (v := 3) hx hb dL_law_258 (by decide) ?_
        refine lv_iadd hx hb dL_law_259 ?_
        obtain ⟨_, h106, hf⟩ := jm_rd_some hf
        refine jw_sld hx hb (jm_ck_some h106).1 hX hbl hbA hst (vp_in_iff.mpr (jm_ck_some h106).2) dL_law_260 ?_
        obtain ⟨a110, h111, hf⟩ := jm_rd_some hf
        obtain ⟨fsa110, hea110, hr112⟩ := jm_cl_some h111
        obtain ⟨x107, Mm108, h109, hf⟩ := jm_bd_some hf
        refine jw_V (As := [.int (xs (v3 + (1 : Int32)).toNatClampNeg), .int (xs (v3 + (2 : Int32)).toNatClampNeg), .int (xs (v3 + (3 : Int32)).toNatClampNeg)]) (rest := [.int x98]) (C := RX1) (T := TX1) (N := 24) (rv := v2) (jt_X1_weigh l g b N a110 (xs (v3 + (1 : Int32)).toNatClampNeg) (xs (v3 + (2 : Int32)).toNatClampNeg) (xs (v3 + (3 : Int32)).toNatClampNeg) Mm99 Mm108 x107 h109) C0 hK hst (jm_mono h109) (jm_le_tr (jm_mono hf) hle18) q1113 q1114 q1115 q73 q1116 hd_X1_weigh ⟨Nat.le_of_ble_eq_true rfl, Nat.le_of_ble_eq_true rfl⟩ hea110 hr112 rfl rfl hl.1 rfl (by rw [cs_i, cs_n]; exact Nat.le_of_ble_eq_true rfl) dL_law_261 (fun H locs cells slots hst => ?_)
        refine W.eq (g2 := F0 m 264 ls [.int x107, .int x98]) rfl ?_
        refine lv_icmp_eq (tgt := 1115) hx hb dL_law_264 (by decide) (fun hc => ?_) (fun hc => ?_)
        · rw [if_pos hc] at hf
          exact J1115 v3 _ hf _ _ _ _ _ hst (lv_sub hl [0, 1, 2, 3] rfl)
        · rw [if_neg hc] at hf
          obtain ⟨rfl, rfl⟩ := jm_ret_some hf
          exact jm_or_l (jm_or_r (jm_or_r (jm_or_r (jm_or_r (jm_or_r hk18))))) _ _ _ _ _ hst (lv_sub hl [] rfl)
      rw [if_neg hn4] at hf
      by_cases hn5 : ((xs v3.toNatClampNeg) &&& (31 : Int32)) = (5 : Int32)
      · rw [if_pos hn5] at hf
        refine lv_tableIn (tgt := 269) hx hb dL_law_32 (by rw [hn5]; decide) (by rw [hn5]; decide) (off := 237) (by rw [hn5]; rfl) (by decide) ?_
        refine jw_aload_n (r := v1) hx hb dL_law_269 rfl (lv_at hl 1 rfl) ?_
        refine jw_aload_n (r := v0) hx hb dL_law_270 rfl (lv_at hl 0 rfl) ?_
        refine lv_iload_n hx hb dL_law_271 rfl (lv_at hl 3 rfl) ?_
        refine lv_iconst (v := 1) hx hb dL_law_272 (by decide) ?_
        refine lv_iadd hx hb dL_law_273 ?_
        obtain ⟨_, h113, hf⟩ := jm_rd_some hf
        refine jw_sld hx hb (jm_ck_some h113).1 hX hbl hbA hst (vp_in_iff.mpr (jm_ck_some h113).2) dL_law_274 ?_
        refine jw_aload_n (r := v0) hx hb dL_law_275 rfl (lv_at hl 0 rfl) ?_
        refine lv_iload_n hx hb dL_law_276 rfl (lv_at hl 3 rfl) ?_
        refine lv_iconst (v := 2) hx hb dL_law_277 (by decide) ?_
        refine lv_iadd hx hb dL_law_278 ?_
        obtain ⟨_, h114, hf⟩ := jm_rd_some hf
        refine jw_sld hx hb (jm_ck_some h114).1 hX hbl hbA hst (vp_in_iff.mpr (jm_ck_some h114).2) dL_law_279 ?_
        refine jw_aload_n (r := v0) hx hb dL_law_280 rfl (lv_at hl 0 rfl) ?_
        refine lv_iload_n hx hb dL_law_281 rfl (lv_at hl 3 rfl) ?_
        refine lv_iconst (v := 3) hx hb dL_law_282 (by decide) ?_
        refine lv_iadd hx hb dL_law_283 ?_
        obtain ⟨_, h115, hf⟩ := jm_rd_some hf
        refine jw_sld hx hb (jm_ck_some h115).1 hX hbl hbA hst (vp_in_iff.mpr (jm_ck_some h115).2) dL_law_284 ?_
        obtain ⟨a119, h120, hf⟩ := jm_rd_some hf
        obtain ⟨fsa119, hea119, hr121⟩ := jm_cl_some h120
        obtain ⟨x116, Mm117, h118, hf⟩ := jm_bd_some hf
        refine jw_V (As := [.int (xs (v3 + (1 : Int32)).toNatClampNeg), .int (xs (v3 + (2 : Int32)).toNatClampNeg), .int (xs (v3 + (3 : Int32)).toNatClampNeg)]) (rest := []) (C := RX0) (T := TX0) (N := 7) (rv := v1) (jt_X0_edge l g b N a119 (xs (v3 + (1 : Int32)).toNatClampNeg) (xs (v3 + (2 : Int32)).toNatClampNeg) (xs (v3 + (3 : Int32)).toNatClampNeg) Mm42 Mm117 x116 h118) C0 hK hst (jm_mono h118) (jm_le_tr (jm_mono hf) hle18) q451 q452 q453 q72 q454 hd_X0_edge ⟨Nat.le_of_ble_eq_true rfl, Nat.le_of_ble_eq_true rfl⟩ hea119 hr121 rfl rfl hl.1 rfl (by rw [cs_n]; exact Nat.le_of_ble_eq_true rfl) dL_law_285 (fun H locs cells slots hst => ?_)
        refine W.eq (g2 := F0 m 288 ls [.int x116]) rfl ?_
        refine jw_aload_n (r := v2) hx hb dL_law_288 rfl (lv_at hl 2 rfl) ?_
        refine jw_aload_n (r := v0) hx hb dL_law_289 rfl (lv_at hl 0 rfl) ?_
        refine lv_iload_n hx hb dL_law_290 rfl (lv_at hl 3 rfl) ?_
        refine lv_iconst (v := 1) hx hb dL_law_291 (by decide) ?_
        refine lv_iadd hx hb dL_law_292 ?_
        obtain ⟨_, h122, hf⟩ := jm_rd_some hf
        refine jw_sld hx hb (jm_ck_some h122).1 hX hbl hbA hst (vp_in_iff.mpr (jm_ck_some h122).2) dL_law_293 ?_
        refine jw_aload_n (r := v0) hx hb dL_law_294 rfl (lv_at hl 0 rfl) ?_
        refine lv_iload_n hx hb dL_law_295 rfl (lv_at hl 3 rfl) ?_
        refine lv_iconst (v := 2) hx hb dL_law_296 (by decide) ?_
        refine lv_iadd hx hb dL_law_297 ?_
        obtain ⟨_, h123, hf⟩ := jm_rd_some hf
        refine jw_sld hx hb (jm_ck_some h123).1 hX hbl hbA hst (vp_in_iff.mpr (jm_ck_some h123).2) dL_law_298 ?_
        refine jw_aload_n (r := v0) hx hb dL_law_299 rfl (lv_at hl 0 rfl) ?_
        refine lv_iload_n hx hb dL_law_300 rfl (lv_at hl 3 rfl) ?_
        refine lv_iconst (v := 3) hx hb dL_law_301 (by decide) ?_
        refine lv_iadd hx hb dL_law_302 ?_
        obtain ⟨_, h124, hf⟩ := jm_rd_some hf
        refine jw_sld hx hb (jm_ck_some h124).1 hX hbl hbA hst (vp_in_iff.mpr (jm_ck_some h124).2) dL_law_303 ?_
        obtain ⟨a128, h129, hf⟩ := jm_rd_some hf
        obtain ⟨fsa128, hea128, hr130⟩ := jm_cl_some h129
        obtain ⟨x125, Mm126, h127, hf⟩ := jm_bd_some hf
        refine jw_V (As := [.int (xs (v3 + (1 : Int32)).toNatClampNeg), .int (xs (v3 + (2 : Int32)).toNatClampNeg), .int (xs (v3 + (3 : Int32)).toNatClampNeg)]) (rest := [.int x116]) (C := RX1) (T := TX1) (N := 24) (rv := v2) (jt_X1_edge l g b N a128 (xs (v3 + (1 : Int32)).toNatClampNeg) (xs (v3 + (2 : Int32)).toNatClampNeg) (xs (v3 + (3 : Int32)).toNatClampNeg) Mm117 Mm126 x125 h127) C0 hK hst (jm_mono h127) (jm_le_tr (jm_mono hf) hle18) q1130 q1131 q1132 q73 q1133 hd_X1_edge ⟨Nat.le_of_ble_eq_true rfl, Nat.le_of_ble_eq_true rfl⟩ hea128 hr130 rfl rfl hl.1 rfl (by rw [cs_i, cs_n]; exact Nat.le_of_ble_eq_true rfl) dL_law_304 (fun H locs cells slots hst => ?_)
        refine W.eq (g2 := F0 m 307 ls [.int x125, .int x116]) rfl ?_
        refine lv_icmp_eq (tgt := 1115) hx hb dL_law_307 (by decide) (fun hc => ?_) (fun hc => ?_)
        · rw [if_pos hc] at hf
          exact J1115 v3 _ hf _ _ _ _ _ hst (lv_sub hl [0, 1, 2, 3] rfl)
        · rw [if_neg hc] at hf
          obtain ⟨rfl, rfl⟩ := jm_ret_some hf
          exact jm_or_l (jm_or_r (jm_or_r (jm_or_r (jm_or_r (jm_or_r (jm_or_r hk18)))))) _ _ _ _ _ hst (lv_sub hl [] rfl)
      rw [if_neg hn5] at hf
      by_cases hn6 : ((xs v3.toNatClampNeg) &&& (31 : Int32)) = (6 : Int32)
      · rw [if_pos hn6] at hf
        refine lv_tableIn (tgt := 312) hx hb dL_law_32 (by rw [hn6]; decide) (by rw [hn6]; decide) (off := 280) (by rw [hn6]; rfl) (by decide) ?_
        refine jw_aload_n (r := v1) hx hb dL_law_312 rfl (lv_at hl 1 rfl) ?_
        refine jw_aload_n (r := v0) hx hb dL_law_313 rfl (lv_at hl 0 rfl) ?_
        refine lv_iload_n hx hb dL_law_314 rfl (lv_at hl 3 rfl) ?_
        refine lv_iconst (v := 1) hx hb dL_law_315 (by decide) ?_
        refine lv_iadd hx hb dL_law_316 ?_
        obtain ⟨_, h131, hf⟩ := jm_rd_some hf
        refine jw_sld hx hb (jm_ck_some h131).1 hX hbl hbA hst (vp_in_iff.mpr (jm_ck_some h131).2) dL_law_317 ?_
        obtain ⟨a135, h136, hf⟩ := jm_rd_some hf
        obtain ⟨fsa135, hea135, hr137⟩ := jm_cl_some h136
        obtain ⟨x132, Mm133, h134, hf⟩ := jm_bd_some hf
        refine jw_VX (As := [.int (xs (v3 + (1 : Int32)).toNatClampNeg)]) (rest := []) (C := RX0) (T := TX0) (N := 7) (rv := v1) (jt_X0_face l hl0 g b sa N a135 (xs (v3 + (1 : Int32)).toNatClampNeg) Mm42 Mm133 x132 h134) C0 hK hKX hst (jm_mono h134) (jm_le_tr (jm_mono hf) hle18) q456 q457 q458 q72 q459 hd_X0_face ⟨Nat.le_of_ble_eq_true rfl, Nat.le_of_ble_eq_true rfl⟩ hea135 hr137 rfl rfl hl.1 rfl (by rw [cs_n]; exact Nat.le_of_ble_eq_true rfl) dL_law_318 (fun H locs cells slots hst => ?_)
        refine W.eq (g2 := F0 m 321 ls [.int x132]) rfl ?_
        refine jw_aload_n (r := v2) hx hb dL_law_321 rfl (lv_at hl 2 rfl) ?_
        refine jw_aload_n (r := v0) hx hb dL_law_322 rfl (lv_at hl 0 rfl) ?_
        refine lv_iload_n hx hb dL_law_323 rfl (lv_at hl 3 rfl) ?_
        refine lv_iconst (v := 1) hx hb dL_law_324 (by decide) ?_
        refine lv_iadd hx hb dL_law_325 ?_
        obtain ⟨_, h138, hf⟩ := jm_rd_some hf
        refine jw_sld hx hb (jm_ck_some h138).1 hX hbl hbA hst (vp_in_iff.mpr (jm_ck_some h138).2) dL_law_326 ?_
        obtain ⟨a142, h143, hf⟩ := jm_rd_some hf
        obtain ⟨fsa142, hea142, hr144⟩ := jm_cl_some h143
        obtain ⟨x139, Mm140, h141, hf⟩ := jm_bd_some hf
        refine jw_V (As := [.int (xs (v3 + (1 : Int32)).toNatClampNeg)]) (rest := [.int x132]) (C := RX1) (T := TX1) (N := 24) (rv := v2) (jt_X1_face l g b N a142 (xs (v3 + (1 : Int32)).toNatClampNeg) Mm133 Mm140 x139 h141) C0 hK hst (jm_mono h141) (jm_le_tr (jm_mono hf) hle18) q1138 q1139 q1140 q73 q1141 hd_X1_face ⟨Nat.le_of_ble_eq_true rfl, Nat.le_of_ble_eq_true rfl⟩ hea142 hr144 rfl rfl hl.1 rfl (by rw [cs_i, cs_n]; exact Nat.le_of_ble_eq_true rfl) dL_law_327 (fun H locs cells slots hst => ?_)
        refine W.eq (g2 := F0 m 330 ls [.int x139, .int x132]) rfl ?_
        refine lv_icmp_eq (tgt := 1115) hx hb dL_law_330 (by decide) (fun hc => ?_) (fun hc => ?_)
        · rw [if_pos hc] at hf
          exact J1115 v3 _ hf _ _ _ _ _ hst (lv_sub hl [0, 1, 2, 3] rfl)
        · rw [if_neg hc] at hf
          obtain ⟨rfl, rfl⟩ := jm_ret_some hf
          exact jm_or_l (jm_or_r (jm_or_r (jm_or_r (jm_or_r (jm_or_r (jm_or_r (jm_or_r hk18))))))) _ _ _ _ _ hst (lv_sub hl [] rfl)
      rw [if_neg hn6] at hf
      by_cases hn7 : ((xs v3.toNatClampNeg) &&& (31 : Int32)) = (7 : Int32)
      · rw [if_pos hn7] at hf
        refine lv_tableIn (tgt := 335) hx hb dL_law_32 (by rw [hn7]; decide) (by rw [hn7]; decide) (off := 303) (by rw [hn7]; rfl) (by decide) ?_
        refine jw_aload_n (r := v1) hx hb dL_law_335 rfl (lv_at hl 1 rfl) ?_
        refine jw_aload_n (r := v0) hx hb dL_law_336 rfl (lv_at hl 0 rfl) ?_
        refine lv_iload_n hx hb dL_law_337 rfl (lv_at hl 3 rfl) ?_
        refine lv_iconst (v := 1) hx hb dL_law_338 (by decide) ?_
        refine lv_iadd hx hb dL_law_339 ?_
        obtain ⟨_, h145, hf⟩ := jm_rd_some hf
        refine jw_sld hx hb (jm_ck_some h145).1 hX hbl hbA hst (vp_in_iff.mpr (jm_ck_some h145).2) dL_law_340 ?_
        refine jw_aload_n (r := v0) hx hb dL_law_341 rfl (lv_at hl 0 rfl) ?_
        refine lv_iload_n hx hb dL_law_342 rfl (lv_at hl 3 rfl) ?_
        refine lv_iconst (v := 2) hx hb dL_law_343 (by decide) ?_
        refine lv_iadd hx hb dL_law_344 ?_
        obtain ⟨_, h146, hf⟩ := jm_rd_some hf
        refine jw_sld hx hb (jm_ck_some h146).1 hX hbl hbA hst (vp_in_iff.mpr (jm_ck_some h146).2) dL_law_345 ?_
        obtain ⟨a150, h151, hf⟩ := jm_rd_some hf
        obtain ⟨fsa150, hea150, hr152⟩ := jm_cl_some h151
        obtain ⟨x147, Mm148, h149, hf⟩ := jm_bd_some hf
        refine jw_V (As := [.int (xs (v3 + (1 : Int32)).toNatClampNeg), .int (xs (v3 + (2 : Int32)).toNatClampNeg)]) (rest := []) (C := RX0) (T := TX0) (N := 7) (rv := v1) (jt_X0_drop l g b N a150 (xs (v3 + (1 : Int32)).toNatClampNeg) (xs (v3 + (2 : Int32)).toNatClampNeg) Mm42 Mm148 x147 h149) C0 hK hst (jm_mono h149) (jm_le_tr (jm_mono hf) hle18) q467 q468 q469 q72 q470 hd_X0_drop ⟨Nat.le_of_ble_eq_true rfl, Nat.le_of_ble_eq_true rfl⟩ hea150 hr152 rfl rfl hl.1 rfl (by rw [cs_n]; exact Nat.le_of_ble_eq_true rfl) dL_law_346 (fun H locs cells slots hst => ?_)
        refine W.eq (g2 := F0 m 349 ls [.int x147]) rfl ?_
        refine jw_aload_n (r := v2) hx hb dL_law_349 rfl (lv_at hl 2 rfl) ?_
        refine jw_aload_n (r := v0) hx hb dL_law_350 rfl (lv_at hl 0 rfl) ?_
        refine lv_iload_n hx hb dL_law_351 rfl (lv_at hl 3 rfl) ?_
        refine lv_iconst (v := 1) hx hb dL_law_352 (by decide) ?_
        refine lv_iadd hx hb dL_law_353 ?_
        obtain ⟨_, h153, hf⟩ := jm_rd_some hf
        refine jw_sld hx hb (jm_ck_some h153).1 hX hbl hbA hst (vp_in_iff.mpr (jm_ck_some h153).2) dL_law_354 ?_
        refine jw_aload_n (r := v0) hx hb dL_law_355 rfl (lv_at hl 0 rfl) ?_
        refine lv_iload_n hx hb dL_law_356 rfl (lv_at hl 3 rfl) ?_
        refine lv_iconst (v := 2) hx hb dL_law_357 (by decide) ?_
        refine lv_iadd hx hb dL_law_358 ?_
        obtain ⟨_, h154, hf⟩ := jm_rd_some hf
        refine jw_sld hx hb (jm_ck_some h154).1 hX hbl hbA hst (vp_in_iff.mpr (jm_ck_some h154).2) dL_law_359 ?_
        obtain ⟨a158, h159, hf⟩ := jm_rd_some hf
        obtain ⟨fsa158, hea158, hr160⟩ := jm_cl_some h159
        obtain ⟨x155, Mm156, h157, hf⟩ := jm_bd_some hf
        refine jw_V (As := [.int (xs (v3 + (1 : Int32)).toNatClampNeg), .int (xs (v3 + (2 : Int32)).toNatClampNeg)]) (rest := [.int x147]) (C := RX1) (T := TX1) (N := 24) (rv := v2) (jt_X1_drop l g b N a158 (xs (v3 + (1 : Int32)).toNatClampNeg) (xs (v3 + (2 : Int32)).toNatClampNeg) Mm148 Mm156 x155 h157) C0 hK hst (jm_mono h157) (jm_le_tr (jm_mono hf) hle18) q1147 q1148 q1149 q73 q1150 hd_X1_drop ⟨Nat.le_of_ble_eq_true rfl, Nat.le_of_ble_eq_true rfl⟩ hea158 hr160 rfl rfl hl.1 rfl (by rw [cs_i, cs_n]; exact Nat.le_of_ble_eq_true rfl) dL_law_360 (fun H locs cells slots hst => ?_)
        refine W.eq (g2 := F0 m 363 ls [.int x155, .int x147]) rfl ?_
        refine lv_icmp_eq (tgt := 1115) hx hb dL_law_363 (by decide) (fun hc => ?_) (fun hc => ?_)
        · rw [if_pos hc] at hf
          exact J1115 v3 _ hf _ _ _ _ _ hst (lv_sub hl [0, 1, 2, 3] rfl)
        · rw [if_neg hc] at hf
          obtain ⟨rfl, rfl⟩ := jm_ret_some hf
          exact jm_or_l (jm_or_r (jm_or_r (jm_or_r (jm_or_r (jm_or_r (jm_or_r (jm_or_r (jm_or_r hk18)))))))) _ _ _ _ _ hst (lv_sub hl [] rfl)
      rw [if_neg hn7] at hf
      by_cases hn8 : ((xs v3.toNatClampNeg) &&& (31 : Int32)) = (8 : Int32)
      · rw [if_pos hn8] at hf
        refine lv_tableIn (tgt := 368) hx hb dL_law_32 (by rw [hn8]; decide) (by rw [hn8]; decide) (off := 336) (by rw [hn8]; rfl) (by decide) ?_
        refine jw_aload_n (r := v1) hx hb dL_law_368 rfl (lv_at hl 1 rfl) ?_
        refine jw_aload_n (r := v0) hx hb dL_law_369 rfl (lv_at hl 0 rfl) ?_
        refine lv_iload_n hx hb dL_law_370 rfl (lv_at hl 3 rfl) ?_
        refine lv_iconst (v := 1) hx hb dL_law_371 (by decide) ?_
        refine lv_iadd hx hb dL_law_372 ?_
        obtain ⟨_, h161, hf⟩ := jm_rd_some hf
        refine jw_sld hx hb (jm_ck_some h161).1 hX hbl hbA hst (vp_in_iff.mpr (jm_ck_some h161).2) dL_law_373 ?_
        refine jw_aload_n (r := v0) hx hb dL_law_374 rfl (lv_at hl 0 rfl) ?_
        refine lv_iload_n hx hb dL_law_375 rfl (lv_at hl 3 rfl) ?_
        refine lv_iconst (v := 2) hx hb dL_law_376 (by decide) ?_
        refine lv_iadd hx hb dL_law_377 ?_
        obtain ⟨_, h162, hf⟩ := jm_rd_some hf
        refine jw_sld hx hb (jm_ck_some h162).1 hX hbl hbA hst (vp_in_iff.mpr (jm_ck_some h162).2) dL_law_378 ?_
        refine jw_aload_n (r := v0) hx hb dL_law_379 rfl (lv_at hl 0 rfl) ?_
        refine lv_iload_n hx hb dL_law_380 rfl (lv_at hl 3 rfl) ?_
        refine lv_iconst (v := 3) hx hb dL_law_381 (by decide) ?_
        refine lv_iadd hx hb dL_law_382 ?_
        obtain ⟨_, h163, hf⟩ := jm_rd_some hf
        refine jw_sld hx hb (jm_ck_some h163).1 hX hbl hbA hst (vp_in_iff.mpr (jm_ck_some h163).2) dL_law_383 ?_
        obtain ⟨a167, h168, hf⟩ := jm_rd_some hf
        obtain ⟨fsa167, hea167, hr169⟩ := jm_cl_some h168
        obtain ⟨x164, Mm165, h166, hf⟩ := jm_bd_some hf
        refine jw_V (As := [.int (xs (v3 + (1 : Int32)).toNatClampNeg), .int (xs (v3 + (2 : Int32)).toNatClampNeg), .int (xs (v3 + (3 : Int32)).toNatClampNeg)]) (rest := []) (C := RX0) (T := TX0) (N := 7) (rv := v1) (jt_X0_put l g b N a167 (xs (v3 + (1 : Int32)).toNatClampNeg) (xs (v3 + (2 : Int32)).toNatClampNeg) (xs (v3 + (3 : Int32)).toNatClampNeg) Mm42 Mm165 x164 h166) C0 hK hst (jm_mono h166) (jm_le_tr (jm_mono hf) hle18) q504 q505 q506 q72 q507 hd_X0_put ⟨Nat.le_of_ble_eq_true rfl, Nat.le_of_ble_eq_true rfl⟩ hea167 hr169 rfl rfl hl.1 rfl (by rw [cs_n]; exact Nat.le_of_ble_eq_true rfl) dL_law_384 (fun H locs cells slots hst => ?_)
        refine W.eq (g2 := F0 m 387 ls [.int x164]) rfl ?_
        refine jw_aload_n (r := v2) hx hb dL_law_387 rfl (lv_at hl 2 rfl) ?_
        refine jw_aload_n (r := v0) hx hb dL_law_388 rfl (lv_at hl 0 rfl) ?_
        refine lv_iload_n hx hb dL_law_389 rfl (lv_at hl 3 rfl) ?_
        refine lv_iconst (v := 1) hx hb dL_law_390 (by decide) ?_
        refine lv_iadd hx hb dL_law_391 ?_
        obtain ⟨_, h170, hf⟩ := jm_rd_some hf
        refine jw_sld hx hb (jm_ck_some h170).1 hX hbl hbA hst (vp_in_iff.mpr (jm_ck_some h170).2) dL_law_392 ?_
        refine jw_aload_n (r := v0) hx hb dL_law_393 rfl (lv_at hl 0 rfl) ?_
        refine lv_iload_n hx hb dL_law_394 rfl (lv_at hl 3 rfl) ?_
        refine lv_iconst (v := 2) hx hb dL_law_395 (by decide) ?_
        refine lv_iadd hx hb dL_law_396 ?_
        obtain ⟨_, h171, hf⟩ := jm_rd_some hf
        refine jw_sld hx hb (jm_ck_some h171).1 hX hbl hbA hst (vp_in_iff.mpr (jm_ck_some h171).2) dL_law_397 ?_
        refine jw_aload_n (r := v0) hx hb dL_law_398 rfl (lv_at hl 0 rfl) ?_
        refine lv_iload_n hx hb dL_law_399 rfl (lv_at hl 3 rfl) ?_
        refine lv_iconst (v := 3) hx hb dL_law_400 (by decide) ?_
        refine lv_iadd hx hb dL_law_401 ?_
        obtain ⟨_, h172, hf⟩ := jm_rd_some hf
        refine jw_sld hx hb (jm_ck_some h172).1 hX hbl hbA hst (vp_in_iff.mpr (jm_ck_some h172).2) dL_law_402 ?_
        obtain ⟨a176, h177, hf⟩ := jm_rd_some hf
        obtain ⟨fsa176, hea176, hr178⟩ := jm_cl_some h177
        obtain ⟨x173, Mm174, h175, hf⟩ := jm_bd_some hf
        refine jw_V (As := [.int (xs (v3 + (1 : Int32)).toNatClampNeg), .int (xs (v3 + (2 : Int32)).toNatClampNeg), .int (xs (v3 + (3 : Int32)).toNatClampNeg)]) (rest := [.int x164]) (C := RX1) (T := TX1) (N := 24) (rv := v2) (jt_X1_put l g b N a176 (xs (v3 + (1 : Int32)).toNatClampNeg) (xs (v3 + (2 : Int32)).toNatClampNeg) (xs (v3 + (3 : Int32)).toNatClampNeg) Mm165 Mm174 x173 h175) C0 hK hst (jm_mono h175) (jm_le_tr (jm_mono hf) hle18) q1159 q1160 q1161 q73 q1162 hd_X1_put ⟨Nat.le_of_ble_eq_true rfl, Nat.le_of_ble_eq_true rfl⟩ hea176 hr178 rfl rfl hl.1 rfl (by rw [cs_i, cs_n]; exact Nat.le_of_ble_eq_true rfl) dL_law_403 (fun H locs cells slots hst => ?_)
        refine W.eq (g2 := F0 m 406 ls [.int x173, .int x164]) rfl ?_
        refine lv_icmp_eq (tgt := 1115) hx hb dL_law_406 (by decide) (fun hc => ?_) (fun hc => ?_)
        · rw [if_pos hc] at hf
          exact J1115 v3 _ hf _ _ _ _ _ hst (lv_sub hl [0, 1, 2, 3] rfl)
        · rw [if_neg hc] at hf
          obtain ⟨rfl, rfl⟩ := jm_ret_some hf
          exact jm_or_l (jm_or_r (jm_or_r (jm_or_r (jm_or_r (jm_or_r (jm_or_r (jm_or_r (jm_or_r (jm_or_r hk18))))))))) _ _ _ _ _ hst (lv_sub hl [] rfl)
      rw [if_neg hn8] at hf
      by_cases hn9 : ((xs v3.toNatClampNeg) &&& (31 : Int32)) = (9 : Int32)
      · rw [if_pos hn9] at hf
        refine lv_tableIn (tgt := 411) hx hb dL_law_32 (by rw [hn9]; decide) (by rw [hn9]; decide) (off := 379) (by rw [hn9]; rfl) (by decide) ?_
        refine jw_aload_n (r := v1) hx hb dL_law_411 rfl (lv_at hl 1 rfl) ?_
        refine jw_aload_n (r := v0) hx hb dL_law_412 rfl (lv_at hl 0 rfl) ?_
        refine lv_iload_n hx hb dL_law_413 rfl (lv_at hl 3 rfl) ?_
        refine lv_iconst (v := 1) hx hb dL_law_414 (by decide) ?_
        refine lv_iadd hx hb dL_law_415 ?_
        obtain ⟨_, h179, hf⟩ := jm_rd_some hf
        refine jw_sld hx hb (jm_ck_some h179).1 hX hbl hbA hst (vp_in_iff.mpr (jm_ck_some h179).2) dL_law_416 ?_
        refine jw_aload_n (r := v0) hx hb dL_law_417 rfl (lv_at hl 0 rfl) ?_
        refine lv_iload_n hx hb dL_law_418 rfl (lv_at hl 3 rfl) ?_
        refine lv_iconst (v := 2) hx hb dL_law_419 (by decide) ?_
        refine lv_iadd hx hb dL_law_420 ?_
        obtain ⟨_, h180, hf⟩ := jm_rd_some hf
        refine jw_sld hx hb (jm_ck_some h180).1 hX hbl hbA hst (vp_in_iff.mpr (jm_ck_some h180).2) dL_law_421 ?_
        refine jw_aload_n (r := v0) hx hb dL_law_422 rfl (lv_at hl 0 rfl) ?_
        refine lv_iload_n hx hb dL_law_423 rfl (lv_at hl 3 rfl) ?_
        refine lv_iconst (v := 3) hx hb dL_law_424 (by decide) ?_
        refine lv_iadd hx hb dL_law_425 ?_
        obtain ⟨_, h181, hf⟩ := jm_rd_some hf
        refine jw_sld hx hb (jm_ck_some h181).1 hX hbl hbA hst (vp_in_iff.mpr (jm_ck_some h181).2) dL_law_426 ?_
        obtain ⟨a185, h186, hf⟩ := jm_rd_some hf
        obtain ⟨fsa185, hea185, hr187⟩ := jm_cl_some h186
        obtain ⟨x182, Mm183, h184, hf⟩ := jm_bd_some hf
        refine jw_V (As := [.int (xs (v3 + (1 : Int32)).toNatClampNeg), .int (xs (v3 + (2 : Int32)).toNatClampNeg), .int (xs (v3 + (3 : Int32)).toNatClampNeg)]) (rest := []) (C := RX0) (T := TX0) (N := 7) (rv := v1) (jt_X0_bound l g b N a185 (xs (v3 + (1 : Int32)).toNatClampNeg) (xs (v3 + (2 : Int32)).toNatClampNeg) (xs (v3 + (3 : Int32)).toNatClampNeg) Mm42 Mm183 x182 h184) C0 hK hst (jm_mono h184) (jm_le_tr (jm_mono hf) hle18) q523 q524 q525 q72 q526 hd_X0_bound ⟨Nat.le_of_ble_eq_true rfl, Nat.le_of_ble_eq_true rfl⟩ hea185 hr187 rfl rfl hl.1 rfl (by rw [cs_n]; exact Nat.le_of_ble_eq_true rfl) dL_law_427 (fun H locs cells slots hst => ?_)
        refine W.eq (g2 := F0 m 430 ls [.int x182]) rfl ?_
        refine jw_aload_n (r := v2) hx hb dL_law_430 rfl (lv_at hl 2 rfl) ?_
        refine jw_aload_n (r := v0) hx hb dL_law_431 rfl (lv_at hl 0 rfl) ?_
        refine lv_iload_n hx hb dL_law_432 rfl (lv_at hl 3 rfl) ?_
        refine lv_iconst (v := 1) hx hb dL_law_433 (by decide) ?_
        refine lv_iadd hx hb dL_law_434 ?_
        obtain ⟨_, h188, hf⟩ := jm_rd_some hf
        refine jw_sld hx hb (jm_ck_some h188).1 hX hbl hbA hst (vp_in_iff.mpr (jm_ck_some h188).2) dL_law_435 ?_
        refine jw_aload_n (r := v0) hx hb dL_law_436 rfl (lv_at hl 0 rfl) ?_
        refine lv_iload_n hx hb dL_law_437 rfl (lv_at hl 3 rfl) ?_
        refine lv_iconst (v := 2) hx hb dL_law_438 (by decide) ?_
        refine lv_iadd hx hb dL_law_439 ?_
        obtain ⟨_, h189, hf⟩ := jm_rd_some hf
        refine jw_sld hx hb (jm_ck_some h189).1 hX hbl hbA hst (vp_in_iff.mpr (jm_ck_some h189).2) dL_law_440 ?_
        refine jw_aload_n (r := v0) hx hb dL_law_441 rfl (lv_at hl 0 rfl) ?_
        refine lv_iload_n hx hb dL_law_442 rfl (lv_at hl 3 rfl) ?_
        refine lv_iconst (v := 3) hx hb dL_law_443 (by decide) ?_
        refine lv_iadd hx hb dL_law_444 ?_
        obtain ⟨_, h190, hf⟩ := jm_rd_some hf
        refine jw_sld hx hb (jm_ck_some h190).1 hX hbl hbA hst (vp_in_iff.mpr (jm_ck_some h190).2) dL_law_445 ?_
        obtain ⟨a194, h195, hf⟩ := jm_rd_some hf
        obtain ⟨fsa194, hea194, hr196⟩ := jm_cl_some h195
        obtain ⟨x191, Mm192, h193, hf⟩ := jm_bd_some hf
        refine jw_V (As := [.int (xs (v3 + (1 : Int32)).toNatClampNeg), .int (xs (v3 + (2 : Int32)).toNatClampNeg), .int (xs (v3 + (3 : Int32)).toNatClampNeg)]) (rest := [.int x182]) (C := RX1) (T := TX1) (N := 24) (rv := v2) (jt_X1_bound l g b N a194 (xs (v3 + (1 : Int32)).toNatClampNeg) (xs (v3 + (2 : Int32)).toNatClampNeg) (xs (v3 + (3 : Int32)).toNatClampNeg) Mm183 Mm192 x191 h193) C0 hK hst (jm_mono h193) (jm_le_tr (jm_mono hf) hle18) q1169 q1170 q1171 q73 q1172 hd_X1_bound ⟨Nat.le_of_ble_eq_true rfl, Nat.le_of_ble_eq_true rfl⟩ hea194 hr196 rfl rfl hl.1 rfl (by rw [cs_i, cs_n]; exact Nat.le_of_ble_eq_true rfl) dL_law_446 (fun H locs cells slots hst => ?_)
        refine W.eq (g2 := F0 m 449 ls [.int x191, .int x182]) rfl ?_
        refine lv_icmp_eq (tgt := 1115) hx hb dL_law_449 (by decide) (fun hc => ?_) (fun hc => ?_)
        · rw [if_pos hc] at hf
          exact J1115 v3 _ hf _ _ _ _ _ hst (lv_sub hl [0, 1, 2, 3] rfl)
        · rw [if_neg hc] at hf
          obtain ⟨rfl, rfl⟩ := jm_ret_some hf
          exact jm_or_l (jm_or_r (jm_or_r (jm_or_r (jm_or_r (jm_or_r (jm_or_r (jm_or_r (jm_or_r (jm_or_r (jm_or_r hk18)))))))))) _ _ _ _ _ hst (lv_sub hl [] rfl)
      rw [if_neg hn9] at hf
      by_cases hn10 : ((xs v3.toNatClampNeg) &&& (31 : Int32)) = (10 : Int32)
      · rw [if_pos hn10] at hf
        refine lv_tableIn (tgt := 454) hx hb dL_law_32 (by rw [hn10]; decide) (by rw [hn10]; decide) (off := 422) (by rw [hn10]; rfl) (by decide) ?_
        refine jw_aload_n (r := v1) hx hb dL_law_454 rfl (lv_at hl 1 rfl) ?_
        refine jw_aload_n (r := v0) hx hb dL_law_455 rfl (lv_at hl 0 rfl) ?_
        refine lv_iload_n hx hb dL_law_456 rfl (lv_at hl 3 rfl) ?_
        refine lv_iconst (v := 1) hx hb dL_law_457 (by decide) ?_
        refine lv_iadd hx hb dL_law_458 ?_
        obtain ⟨_, h197, hf⟩ := jm_rd_some hf
        refine jw_sld hx hb (jm_ck_some h197).1 hX hbl hbA hst (vp_in_iff.mpr (jm_ck_some h197).2) dL_law_459 ?_
        refine jw_aload_n (r := v0) hx hb dL_law_460 rfl (lv_at hl 0 rfl) ?_
        refine lv_iload_n hx hb dL_law_461 rfl (lv_at hl 3 rfl) ?_
        refine lv_iconst (v := 2) hx hb dL_law_462 (by decide) ?_
        refine lv_iadd hx hb dL_law_463 ?_
        obtain ⟨_, h198, hf⟩ := jm_rd_some hf
        refine jw_sld hx hb (jm_ck_some h198).1 hX hbl hbA hst (vp_in_iff.mpr (jm_ck_some h198).2) dL_law_464 ?_
        obtain ⟨a202, h203, hf⟩ := jm_rd_some hf
        obtain ⟨fsa202, hea202, hr204⟩ := jm_cl_some h203
        obtain ⟨x199, Mm200, h201, hf⟩ := jm_bd_some hf
        refine jw_V (As := [.int (xs (v3 + (1 : Int32)).toNatClampNeg), .int (xs (v3 + (2 : Int32)).toNatClampNeg)]) (rest := []) (C := RX0) (T := TX0) (N := 7) (rv := v1) (jt_X0_drawn l g b N a202 (xs (v3 + (1 : Int32)).toNatClampNeg) (xs (v3 + (2 : Int32)).toNatClampNeg) Mm42 Mm200 x199 h201) C0 hK hst (jm_mono h201) (jm_le_tr (jm_mono hf) hle18) q530 q531 q532 q72 q533 hd_X0_drawn ⟨Nat.le_of_ble_eq_true rfl, Nat.le_of_ble_eq_true rfl⟩ hea202 hr204 rfl rfl hl.1 rfl (by rw [cs_n]; exact Nat.le_of_ble_eq_true rfl) dL_law_465 (fun H locs cells slots hst => ?_)
        refine W.eq (g2 := F0 m 468 ls [.int x199]) rfl ?_
        refine jw_aload_n (r := v2) hx hb dL_law_468 rfl (lv_at hl 2 rfl) ?_
        refine jw_aload_n (r := v0) hx hb dL_law_469 rfl (lv_at hl 0 rfl) ?_
        refine lv_iload_n hx hb dL_law_470 rfl (lv_at hl 3 rfl) ?_
        refine lv_iconst (v := 1) hx hb dL_law_471 (by decide) ?_
        refine lv_iadd hx hb dL_law_472 ?_
        obtain ⟨_, h205, hf⟩ := jm_rd_some hf
        refine jw_sld hx hb (jm_ck_some h205).1 hX hbl hbA hst (vp_in_iff.mpr (jm_ck_some h205).2) dL_law_473 ?_
        refine jw_aload_n (r := v0) hx hb dL_law_474 rfl (lv_at hl 0 rfl) ?_
        refine lv_iload_n hx hb dL_law_475 rfl (lv_at hl 3 rfl) ?_
        refine lv_iconst (v := 2) hx hb dL_law_476 (by decide) ?_
        refine lv_iadd hx hb dL_law_477 ?_
        obtain ⟨_, h206, hf⟩ := jm_rd_some hf
        refine jw_sld hx hb (jm_ck_some h206).1 hX hbl hbA hst (vp_in_iff.mpr (jm_ck_some h206).2) dL_law_478 ?_
        obtain ⟨a210, h211, hf⟩ := jm_rd_some hf
        obtain ⟨fsa210, hea210, hr212⟩ := jm_cl_some h211
        obtain ⟨x207, Mm208, h209, hf⟩ := jm_bd_some hf
        refine jw_V (As := [.int (xs (v3 + (1 : Int32)).toNatClampNeg), .int (xs (v3 + (2 : Int32)).toNatClampNeg)]) (rest := [.int x199]) (C := RX1) (T := TX1) (N := 24) (rv := v2) (jt_X1_drawn l g b N a210 (xs (v3 + (1 : Int32)).toNatClampNeg) (xs (v3 + (2 : Int32)).toNatClampNeg) Mm200 Mm208 x207 h209) C0 hK hst (jm_mono h209) (jm_le_tr (jm_mono hf) hle18) q1181 q1182 q1183 q73 q1184 hd_X1_drawn ⟨Nat.le_of_ble_eq_true rfl, Nat.le_of_ble_eq_true rfl⟩ hea210 hr212 rfl rfl hl.1 rfl (by rw [cs_i, cs_n]; exact Nat.le_of_ble_eq_true rfl) dL_law_479 (fun H locs cells slots hst => ?_)
        refine W.eq (g2 := F0 m 482 ls [.int x207, .int x199]) rfl ?_
        refine lv_icmp_eq (tgt := 1115) hx hb dL_law_482 (by decide) (fun hc => ?_) (fun hc => ?_)
        · rw [if_pos hc] at hf
          exact J1115 v3 _ hf _ _ _ _ _ hst (lv_sub hl [0, 1, 2, 3] rfl)
        · rw [if_neg hc] at hf
          obtain ⟨rfl, rfl⟩ := jm_ret_some hf
          exact jm_or_l (jm_or_r (jm_or_r (jm_or_r (jm_or_r (jm_or_r (jm_or_r (jm_or_r (jm_or_r (jm_or_r (jm_or_r (jm_or_r hk18))))))))))) _ _ _ _ _ hst (lv_sub hl [] rfl)
      rw [if_neg hn10] at hf
      by_cases hn11 : ((xs v3.toNatClampNeg) &&& (31 : Int32)) = (11 : Int32)
      · rw [if_pos hn11] at hf
        refine lv_tableIn (tgt := 487) hx hb dL_law_32 (by rw [hn11]; decide) (by rw [hn11]; decide) (off := 455) (by rw [hn11]; rfl) (by decide) ?_
        refine jw_aload_n (r := v1) hx hb dL_law_487 rfl (lv_at hl 1 rfl) ?_
        refine jw_aload_n (r := v0) hx hb dL_law_488 rfl (lv_at hl 0 rfl) ?_
        refine lv_iload_n hx hb dL_law_489 rfl (lv_at hl 3 rfl) ?_
        refine lv_iconst (v := 1) hx hb dL_law_490 (by decide) ?_
        refine lv_iadd hx hb dL_law_491 ?_
        obtain ⟨_, h213, hf⟩ := jm_rd_some hf
        refine jw_sld hx hb (jm_ck_some h213).1 hX hbl hbA hst (vp_in_iff.mpr (jm_ck_some h213).2) dL_law_492 ?_
        refine jw_aload_n (r := v0) hx hb dL_law_493 rfl (lv_at hl 0 rfl) ?_
        refine lv_iload_n hx hb dL_law_494 rfl (lv_at hl 3 rfl) ?_
        refine lv_iconst (v := 2) hx hb dL_law_495 (by decide) ?_
        refine lv_iadd hx hb dL_law_496 ?_
        obtain ⟨_, h214, hf⟩ := jm_rd_some hf
        refine jw_sld hx hb (jm_ck_some h214).1 hX hbl hbA hst (vp_in_iff.mpr (jm_ck_some h214).2) dL_law_497 ?_
        refine jw_aload_n (r := v0) hx hb dL_law_498 rfl (lv_at hl 0 rfl) ?_
        refine lv_iload_n hx hb dL_law_499 rfl (lv_at hl 3 rfl) ?_
        refine lv_iconst (v := 3) hx hb dL_law_500 (by decide) ?_
        refine lv_iadd hx hb dL_law_501 ?_
        obtain ⟨_, h215, hf⟩ := jm_rd_some hf
        refine jw_sld hx hb (jm_ck_some h215).1 hX hbl hbA hst (vp_in_iff.mpr (jm_ck_some h215).2) dL_law_502 ?_
        obtain ⟨a219, h220, hf⟩ := jm_rd_some hf
        obtain ⟨fsa219, hea219, hr221⟩ := jm_cl_some h220
        obtain ⟨x216, Mm217, h218, hf⟩ := jm_bd_some hf
        refine jw_V (As := [.int (xs (v3 + (1 : Int32)).toNatClampNeg), .int (xs (v3 + (2 : Int32)).toNatClampNeg), .int (xs (v3 + (3 : Int32)).toNatClampNeg)]) (rest := []) (C := RX0) (T := TX0) (N := 7) (rv := v1) (jt_X0_cell l g b N a219 (xs (v3 + (1 : Int32)).toNatClampNeg) (xs (v3 + (2 : Int32)).toNatClampNeg) (xs (v3 + (3 : Int32)).toNatClampNeg) Mm42 Mm217 x216 h218) C0 hK hst (jm_mono h218) (jm_le_tr (jm_mono hf) hle18) q538 q539 q540 q72 q541 hd_X0_cell ⟨Nat.le_of_ble_eq_true rfl, Nat.le_of_ble_eq_true rfl⟩ hea219 hr221 rfl rfl hl.1 rfl (by rw [cs_n]; exact Nat.le_of_ble_eq_true rfl) dL_law_503 (fun H locs cells slots hst => ?_)
        refine W.eq (g2 := F0 m 506 ls [.int x216]) rfl ?_
        refine jw_aload_n (r := v2) hx hb dL_law_506 rfl (lv_at hl 2 rfl) ?_
        refine jw_aload_n (r := v0) hx hb dL_law_507 rfl (lv_at hl 0 rfl) ?_
        refine lv_iload_n hx hb dL_law_508 rfl (lv_at hl 3 rfl) ?_
        refine lv_iconst (v := 1) hx hb dL_law_509 (by decide) ?_
        refine lv_iadd hx hb dL_law_510 ?_
        obtain ⟨_, h222, hf⟩ := jm_rd_some hf
        refine jw_sld hx hb (jm_ck_some h222).1 hX hbl hbA hst (vp_in_iff.mpr (jm_ck_some h222).2) dL_law_511 ?_
        refine jw_aload_n (r := v0) hx hb dL_law_512 rfl (lv_at hl 0 rfl) ?_
        refine lv_iload_n hx hb dL_law_513 rfl (lv_at hl 3 rfl) ?_
        refine lv_iconst (v := 2) hx hb dL_law_514 (by decide) ?_
        refine lv_iadd hx hb dL_law_515 ?_
        obtain ⟨_, h223, hf⟩ := jm_rd_some hf
        refine jw_sld hx hb (jm_ck_some h223).1 hX hbl hbA hst (vp_in_iff.mpr (jm_ck_some h223).2) dL_law_516 ?_
        refine jw_aload_n (r := v0) hx hb dL_law_517 rfl (lv_at hl 0 rfl) ?_
        refine lv_iload_n hx hb dL_law_518 rfl (lv_at hl 3 rfl) ?_
        refine lv_iconst (v := 3) hx hb dL_law_519 (by decide) ?_
        refine lv_iadd hx hb dL_law_520 ?_
        obtain ⟨_, h224, hf⟩ := jm_rd_some hf
        refine jw_sld hx hb (jm_ck_some h224).1 hX hbl hbA hst (vp_in_iff.mpr (jm_ck_some h224).2) dL_law_521 ?_
        obtain ⟨a228, h229, hf⟩ := jm_rd_some hf
        obtain ⟨fsa228, hea228, hr230⟩ := jm_cl_some h229
        obtain ⟨x225, Mm226, h227, hf⟩ := jm_bd_some hf
        refine jw_V (As := [.int (xs (v3 + (1 : Int32)).toNatClampNeg), .int (xs (v3 + (2 : Int32)).toNatClampNeg), .int (xs (v3 + (3 : Int32)).toNatClampNeg)]) (rest := [.int x216]) (C := RX1) (T := TX1) (N := 24) (rv := v2) (jt_X1_cell l g b N a228 (xs (v3 + (1 : Int32)).toNatClampNeg) (xs (v3 + (2 : Int32)).toNatClampNeg) (xs (v3 + (3 : Int32)).toNatClampNeg) Mm217 Mm226 x225 h227) C0 hK hst (jm_mono h227) (jm_le_tr (jm_mono hf) hle18) q1189 q1190 q1191 q73 q1192 hd_X1_cell ⟨Nat.le_of_ble_eq_true rfl, Nat.le_of_ble_eq_true rfl⟩ hea228 hr230 rfl rfl hl.1 rfl (by rw [cs_i, cs_n]; exact Nat.le_of_ble_eq_true rfl) dL_law_522 (fun H locs cells slots hst => ?_)
        refine W.eq (g2 := F0 m 525 ls [.int x225, .int x216]) rfl ?_
        refine lv_icmp_eq (tgt := 1115) hx hb dL_law_525 (by decide) (fun hc => ?_) (fun hc => ?_)
        · rw [if_pos hc] at hf
          exact J1115 v3 _ hf _ _ _ _ _ hst (lv_sub hl [0, 1, 2, 3] rfl)
        · rw [if_neg hc] at hf
          obtain ⟨rfl, rfl⟩ := jm_ret_some hf
          exact jm_or_l (jm_or_r (jm_or_r (jm_or_r (jm_or_r (jm_or_r (jm_or_r (jm_or_r (jm_or_r (jm_or_r (jm_or_r (jm_or_r (jm_or_r hk18)))))))))))) _ _ _ _ _ hst (lv_sub hl [] rfl)
      rw [if_neg hn11] at hf
      by_cases hn12 : ((xs v3.toNatClampNeg) &&& (31 : Int32)) = (12 : Int32)
      · rw [if_pos hn12] at hf
        refine lv_tableIn (tgt := 530) hx hb dL_law_32 (by rw [hn12]; decide) (by rw [hn12]; decide) (off := 498) (by rw [hn12]; rfl) (by decide) ?_
        refine jw_aload_n (r := v1) hx hb dL_law_530 rfl (lv_at hl 1 rfl) ?_
        refine jw_aload_n (r := v0) hx hb dL_law_531 rfl (lv_at hl 0 rfl) ?_
        refine lv_iload_n hx hb dL_law_532 rfl (lv_at hl 3 rfl) ?_
        refine lv_iconst (v := 1) hx hb dL_law_533 (by decide) ?_
        refine lv_iadd hx hb dL_law_534 ?_
        obtain ⟨_, h231, hf⟩ := jm_rd_some hf
        refine jw_sld hx hb (jm_ck_some h231).1 hX hbl hbA hst (vp_in_iff.mpr (jm_ck_some h231).2) dL_law_535 ?_
        refine jw_aload_n (r := v0) hx hb dL_law_536 rfl (lv_at hl 0 rfl) ?_
        refine lv_iload_n hx hb dL_law_537 rfl (lv_at hl 3 rfl) ?_
        refine lv_iconst (v := 2) hx hb dL_law_538 (by decide) ?_
        refine lv_iadd hx hb dL_law_539 ?_
        obtain ⟨_, h232, hf⟩ := jm_rd_some hf
        refine jw_sld hx hb (jm_ck_some h232).1 hX hbl hbA hst (vp_in_iff.mpr (jm_ck_some h232).2) dL_law_540 ?_
        refine jw_aload_n (r := v0) hx hb dL_law_541 rfl (lv_at hl 0 rfl) ?_
        refine lv_iload_n hx hb dL_law_542 rfl (lv_at hl 3 rfl) ?_
        refine lv_iconst (v := 3) hx hb dL_law_543 (by decide) ?_
        refine lv_iadd hx hb dL_law_544 ?_
        obtain ⟨_, h233, hf⟩ := jm_rd_some hf
        refine jw_sld hx hb (jm_ck_some h233).1 hX hbl hbA hst (vp_in_iff.mpr (jm_ck_some h233).2) dL_law_545 ?_
        obtain ⟨a237, h238, hf⟩ := jm_rd_some hf
        obtain ⟨fsa237, hea237, hr239⟩ := jm_cl_some h238
        obtain ⟨x234, Mm235, h236, hf⟩ := jm_bd_some hf
        refine jw_VXW (hh := [(30, 74, 77, 235)]) (As := [.int (xs (v3 + (1 : Int32)).toNatClampNeg), .int (xs (v3 + (2 : Int32)).toNatClampNeg), .int (xs (v3 + (3 : Int32)).toNatClampNeg)]) (rest := []) (C := RX0) (T := TX0) (N := 7) (rv := v1) (jt_X0_as l hl0 g b sa N a237 (xs (v3 + (1 : Int32)).toNatClampNeg) (xs (v3 + (2 : Int32)).toNatClampNeg) (xs (v3 + (3 : Int32)).toNatClampNeg) Mm42 Mm235 x234 h236) C0 hK hKX hst (jm_mono h236) (jm_le_tr (jm_mono hf) hle18) q562 q563 q564 q72 q565 hd_X0_as ⟨Nat.le_of_ble_eq_true rfl, Nat.le_of_ble_eq_true rfl⟩ hea237 hr239 rfl rfl hl.1 rfl (by rw [cs_n]; exact Nat.le_of_ble_eq_true rfl) dL_law_546 (fun H locs cells slots hst => ?_)
        refine W.eq (g2 := F0 m 549 ls [.int x234]) rfl ?_
        refine jw_aload_n (r := v2) hx hb dL_law_549 rfl (lv_at hl 2 rfl) ?_
        refine jw_aload_n (r := v0) hx hb dL_law_550 rfl (lv_at hl 0 rfl) ?_
        refine lv_iload_n hx hb dL_law_551 rfl (lv_at hl 3 rfl) ?_
        refine lv_iconst (v := 1) hx hb dL_law_552 (by decide) ?_
        refine lv_iadd hx hb dL_law_553 ?_
        obtain ⟨_, h240, hf⟩ := jm_rd_some hf
        refine jw_sld hx hb (jm_ck_some h240).1 hX hbl hbA hst (vp_in_iff.mpr (jm_ck_some h240).2) dL_law_554 ?_
        refine jw_aload_n (r := v0) hx hb dL_law_555 rfl (lv_at hl 0 rfl) ?_
        refine lv_iload_n hx hb dL_law_556 rfl (lv_at hl 3 rfl) ?_
        refine lv_iconst (v := 2) hx hb dL_law_557 (by decide) ?_
        refine lv_iadd hx hb dL_law_558 ?_
        obtain ⟨_, h241, hf⟩ := jm_rd_some hf
        refine jw_sld hx hb (jm_ck_some h241).1 hX hbl hbA hst (vp_in_iff.mpr (jm_ck_some h241).2) dL_law_559 ?_
        refine jw_aload_n (r := v0) hx hb dL_law_560 rfl (lv_at hl 0 rfl) ?_
        refine lv_iload_n hx hb dL_law_561 rfl (lv_at hl 3 rfl) ?_
        refine lv_iconst (v := 3) hx hb dL_law_562 (by decide) ?_
        refine lv_iadd hx hb dL_law_563 ?_
        obtain ⟨_, h242, hf⟩ := jm_rd_some hf
        refine jw_sld hx hb (jm_ck_some h242).1 hX hbl hbA hst (vp_in_iff.mpr (jm_ck_some h242).2) dL_law_564 ?_
        obtain ⟨a246, h247, hf⟩ := jm_rd_some hf
        obtain ⟨fsa246, hea246, hr248⟩ := jm_cl_some h247
        obtain ⟨x243, Mm244, h245, hf⟩ := jm_bd_some hf
        refine jw_V (As := [.int (xs (v3 + (1 : Int32)).toNatClampNeg), .int (xs (v3 + (2 : Int32)).toNatClampNeg), .int (xs (v3 + (3 : Int32)).toNatClampNeg)]) (rest := [.int x234]) (C := RX1) (T := TX1) (N := 24) (rv := v2) (jt_X1_as l g b N a246 (xs (v3 + (1 : Int32)).toNatClampNeg) (xs (v3 + (2 : Int32)).toNatClampNeg) (xs (v3 + (3 : Int32)).toNatClampNeg) Mm235 Mm244 x243 h245) C0 hK hst (jm_mono h245) (jm_le_tr (jm_mono hf) hle18) q1200 q1201 q1202 q73 q1203 hd_X1_as ⟨Nat.le_of_ble_eq_true rfl, Nat.le_of_ble_eq_true rfl⟩ hea246 hr248 rfl rfl hl.1 rfl (by rw [cs_i, cs_n]; exact Nat.le_of_ble_eq_true rfl) dL_law_565 (fun H locs cells slots hst => ?_)
        refine W.eq (g2 := F0 m 568 ls [.int x243, .int x234]) rfl ?_
        refine lv_icmp_eq (tgt := 1115) hx hb dL_law_568 (by decide) (fun hc => ?_) (fun hc => ?_)
        · rw [if_pos hc] at hf
          exact J1115 v3 _ hf _ _ _ _ _ hst (lv_sub hl [0, 1, 2, 3] rfl)
        · rw [if_neg hc] at hf
          obtain ⟨rfl, rfl⟩ := jm_ret_some hf
          exact jm_or_l (jm_or_r (jm_or_r (jm_or_r (jm_or_r (jm_or_r (jm_or_r (jm_or_r (jm_or_r (jm_or_r (jm_or_r (jm_or_r (jm_or_r (jm_or_r hk18))))))))))))) _ _ _ _ _ hst (lv_sub hl [] rfl)
      rw [if_neg hn12] at hf
      by_cases hn13 : ((xs v3.toNatClampNeg) &&& (31 : Int32)) = (13 : Int32)
      · rw [if_pos hn13] at hf
        refine lv_tableIn (tgt := 573) hx hb dL_law_32 (by rw [hn13]; decide) (by rw [hn13]; decide) (off := 541) (by rw [hn13]; rfl) (by decide) ?_
        refine jw_aload_n (r := v1) hx hb dL_law_573 rfl (lv_at hl 1 rfl) ?_
        refine jw_aload_n (r := v0) hx hb dL_law_574 rfl (lv_at hl 0 rfl) ?_
        refine lv_iload_n hx hb dL_law_575 rfl (lv_at hl 3 rfl) ?_
        refine lv_iconst (v := 1) hx hb dL_law_576 (by decide) ?_
        refine lv_iadd hx hb dL_law_577 ?_
        obtain ⟨_, h249, hf⟩ := jm_rd_some hf
        refine jw_sld hx hb (jm_ck_some h249).1 hX hbl hbA hst (vp_in_iff.mpr (jm_ck_some h249).2) dL_law_578 ?_
        refine jw_aload_n (r := v0) hx hb dL_law_579 rfl (lv_at hl 0 rfl) ?_
        refine lv_iload_n hx hb dL_law_580 rfl (lv_at hl 3 rfl) ?_
        refine lv_iconst (v := 2) hx hb dL_law_581 (by decide) ?_
        refine lv_iadd hx hb dL_law_582 ?_
        obtain ⟨_, h250, hf⟩ := jm_rd_some hf
        refine jw_sld hx hb (jm_ck_some h250).1 hX hbl hbA hst (vp_in_iff.mpr (jm_ck_some h250).2) dL_law_583 ?_
        refine jw_aload_n (r := v0) hx hb dL_law_584 rfl (lv_at hl 0 rfl) ?_
        refine lv_iload_n hx hb dL_law_585 rfl (lv_at hl 3 rfl) ?_
        refine lv_iconst (v := 3) hx hb dL_law_586 (by decide) ?_
        refine lv_iadd hx hb dL_law_587 ?_
        obtain ⟨_, h251, hf⟩ := jm_rd_some hf
        refine jw_sld hx hb (jm_ck_some h251).1 hX hbl hbA hst (vp_in_iff.mpr (jm_ck_some h251).2) dL_law_588 ?_
        obtain ⟨a255, h256, hf⟩ := jm_rd_some hf
        obtain ⟨fsa255, hea255, hr257⟩ := jm_cl_some h256
        obtain ⟨x252, Mm253, h254, hf⟩ := jm_bd_some hf
        refine jw_V (As := [.int (xs (v3 + (1 : Int32)).toNatClampNeg), .int (xs (v3 + (2 : Int32)).toNatClampNeg), .int (xs (v3 + (3 : Int32)).toNatClampNeg)]) (rest := []) (C := RX0) (T := TX0) (N := 7) (rv := v1) (jt_X0_table l g b N a255 (xs (v3 + (1 : Int32)).toNatClampNeg) (xs (v3 + (2 : Int32)).toNatClampNeg) (xs (v3 + (3 : Int32)).toNatClampNeg) Mm42 Mm253 x252 h254) C0 hK hst (jm_mono h254) (jm_le_tr (jm_mono hf) hle18) q607 q608 q609 q72 q610 hd_X0_table ⟨Nat.le_of_ble_eq_true rfl, Nat.le_of_ble_eq_true rfl⟩ hea255 hr257 rfl rfl hl.1 rfl (by rw [cs_n]; exact Nat.le_of_ble_eq_true rfl) dL_law_589 (fun H locs cells slots hst => ?_)
        refine W.eq (g2 := F0 m 592 ls [.int x252]) rfl ?_
        refine jw_aload_n (r := v2) hx hb dL_law_592 rfl (lv_at hl 2 rfl) ?_
        refine jw_aload_n (r := v0) hx hb dL_law_593 rfl (lv_at hl 0 rfl) ?_
        refine lv_iload_n hx hb dL_law_594 rfl (lv_at hl 3 rfl) ?_
        refine lv_iconst (v := 1) hx hb dL_law_595 (by decide) ?_
        refine lv_iadd hx hb dL_law_596 ?_
        obtain ⟨_, h258, hf⟩ := jm_rd_some hf
        refine jw_sld hx hb (jm_ck_some h258).1 hX hbl hbA hst (vp_in_iff.mpr (jm_ck_some h258).2) dL_law_597 ?_
        refine jw_aload_n (r := v0) hx hb dL_law_598 rfl (lv_at hl 0 rfl) ?_
        refine lv_iload_n hx hb dL_law_599 rfl (lv_at hl 3 rfl) ?_
        refine lv_iconst (v := 2) hx hb dL_law_600 (by decide) ?_
        refine lv_iadd hx hb dL_law_601 ?_
        obtain ⟨_, h259, hf⟩ := jm_rd_some hf
        refine jw_sld hx hb (jm_ck_some h259).1 hX hbl hbA hst (vp_in_iff.mpr (jm_ck_some h259).2) dL_law_602 ?_
        refine jw_aload_n (r := v0) hx hb dL_law_603 rfl (lv_at hl 0 rfl) ?_
        refine lv_iload_n hx hb dL_law_604 rfl (lv_at hl 3 rfl) ?_
        refine lv_iconst (v := 3) hx hb dL_law_605 (by decide) ?_
        refine lv_iadd hx hb dL_law_606 ?_
        obtain ⟨_, h260, hf⟩ := jm_rd_some hf
        refine jw_sld hx hb (jm_ck_some h260).1 hX hbl hbA hst (vp_in_iff.mpr (jm_ck_some h260).2) dL_law_607 ?_
        obtain ⟨a264, h265, hf⟩ := jm_rd_some hf
        obtain ⟨fsa264, hea264, hr266⟩ := jm_cl_some h265
        obtain ⟨x261, Mm262, h263, hf⟩ := jm_bd_some hf
        refine jw_V (As := [.int (xs (v3 + (1 : Int32)).toNatClampNeg), .int (xs (v3 + (2 : Int32)).toNatClampNeg), .int (xs (v3 + (3 : Int32)).toNatClampNeg)]) (rest := [.int x252]) (C := RX1) (T := TX1) (N := 24) (rv := v2) (jt_X1_table l g b N a264 (xs (v3 + (1 : Int32)).toNatClampNeg) (xs (v3 + (2 : Int32)).toNatClampNeg) (xs (v3 + (3 : Int32)).toNatClampNeg) Mm253 Mm262 x261 h263) C0 hK hst (jm_mono h263) (jm_le_tr (jm_mono hf) hle18) q1209 q1210 q1211 q73 q1212 hd_X1_table ⟨Nat.le_of_ble_eq_true rfl, Nat.le_of_ble_eq_true rfl⟩ hea264 hr266 rfl rfl hl.1 rfl (by rw [cs_i, cs_n]; exact Nat.le_of_ble_eq_true rfl) dL_law_608 (fun H locs cells slots hst => ?_)
        refine W.eq (g2 := F0 m 611 ls [.int x261, .int x252]) rfl ?_
        refine lv_icmp_eq (tgt := 1115) hx hb dL_law_611 (by decide) (fun hc => ?_) (fun hc => ?_)
        · rw [if_pos hc] at hf
          exact J1115 v3 _ hf _ _ _ _ _ hst (lv_sub hl [0, 1, 2, 3] rfl)
        · rw [if_neg hc] at hf
          obtain ⟨rfl, rfl⟩ := jm_ret_some hf
          exact jm_or_l (jm_or_r (jm_or_r (jm_or_r (jm_or_r (jm_or_r (jm_or_r (jm_or_r (jm_or_r (jm_or_r (jm_or_r (jm_or_r (jm_or_r (jm_or_r (jm_or_r hk18)))))))))))))) _ _ _ _ _ hst (lv_sub hl [] rfl)
      rw [if_neg hn13] at hf
      by_cases hn14 : ((xs v3.toNatClampNeg) &&& (31 : Int32)) = (14 : Int32)
      · rw [if_pos hn14] at hf
        refine lv_tableIn (tgt := 616) hx hb dL_law_32 (by rw [hn14]; decide) (by rw [hn14]; decide) (off := 584) (by rw [hn14]; rfl) (by decide) ?_
        refine jw_aload_n (r := v1) hx hb dL_law_616 rfl (lv_at hl 1 rfl) ?_
        refine jw_aload_n (r := v0) hx hb dL_law_617 rfl (lv_at hl 0 rfl) ?_
        refine lv_iload_n hx hb dL_law_618 rfl (lv_at hl 3 rfl) ?_
        refine lv_iconst (v := 1) hx hb dL_law_619 (by decide) ?_
        refine lv_iadd hx hb dL_law_620 ?_
        obtain ⟨_, h267, hf⟩ := jm_rd_some hf
        refine jw_sld hx hb (jm_ck_some h267).1 hX hbl hbA hst (vp_in_iff.mpr (jm_ck_some h267).2) dL_law_621 ?_
        refine jw_aload_n (r := v0) hx hb dL_law_622 rfl (lv_at hl 0 rfl) ?_
        refine lv_iload_n hx hb dL_law_623 rfl (lv_at hl 3 rfl) ?_
        refine lv_iconst (v := 2) hx hb dL_law_624 (by decide) ?_
        refine lv_iadd hx hb dL_law_625 ?_
        obtain ⟨_, h268, hf⟩ := jm_rd_some hf
        refine jw_sld hx hb (jm_ck_some h268).1 hX hbl hbA hst (vp_in_iff.mpr (jm_ck_some h268).2) dL_law_626 ?_
        refine jw_aload_n (r := v0) hx hb dL_law_627 rfl (lv_at hl 0 rfl) ?_
        refine lv_iload_n hx hb dL_law_628 rfl (lv_at hl 3 rfl) ?_
        refine lv_iconst (v := 3) hx hb dL_law_629 (by decide) ?_
        refine lv_iadd hx hb dL_law_630 ?_
        obtain ⟨_, h269, hf⟩ := jm_rd_some hf
        refine jw_sld hx hb (jm_ck_some h269).1 hX hbl hbA hst (vp_in_iff.mpr (jm_ck_some h269).2) dL_law_631 ?_
        obtain ⟨a273, h274, hf⟩ := jm_rd_some hf
        obtain ⟨fsa273, hea273, hr275⟩ := jm_cl_some h274
        obtain ⟨x270, Mm271, h272, hf⟩ := jm_bd_some hf
        refine jw_V (As := [.int (xs (v3 + (1 : Int32)).toNatClampNeg), .int (xs (v3 + (2 : Int32)).toNatClampNeg), .int (xs (v3 + (3 : Int32)).toNatClampNeg)]) (rest := []) (C := RX0) (T := TX0) (N := 7) (rv := v1) (jt_X0_near l g b N a273 (xs (v3 + (1 : Int32)).toNatClampNeg) (xs (v3 + (2 : Int32)).toNatClampNeg) (xs (v3 + (3 : Int32)).toNatClampNeg) Mm42 Mm271 x270 h272) C0 hK hst (jm_mono h272) (jm_le_tr (jm_mono hf) hle18) q639 q640 q641 q72 q642 hd_X0_near ⟨Nat.le_of_ble_eq_true rfl, Nat.le_of_ble_eq_true rfl⟩ hea273 hr275 rfl rfl hl.1 rfl (by rw [cs_n]; exact Nat.le_of_ble_eq_true rfl) dL_law_632 (fun H locs cells slots hst => ?_)
        refine W.eq (g2 := F0 m 635 ls [.int x270]) rfl ?_
        refine jw_aload_n (r := v2) hx hb dL_law_635 rfl (lv_at hl 2 rfl) ?_
        refine jw_aload_n (r := v0) hx hb dL_law_636 rfl (lv_at hl 0 rfl) ?_
        refine lv_iload_n hx hb dL_law_637 rfl (lv_at hl 3 rfl) ?_
        refine lv_iconst (v := 1) hx hb dL_law_638 (by decide) ?_
        refine lv_iadd hx hb dL_law_639 ?_
        obtain ⟨_, h276, hf⟩ := jm_rd_some hf
        refine jw_sld hx hb (jm_ck_some h276).1 hX hbl hbA hst (vp_in_iff.mpr (jm_ck_some h276).2) dL_law_640 ?_
        refine jw_aload_n (r := v0) hx hb dL_law_641 rfl (lv_at hl 0 rfl) ?_
        refine lv_iload_n hx hb dL_law_642 rfl (lv_at hl 3 rfl) ?_
        refine lv_iconst (v := 2) hx hb dL_law_643 (by decide) ?_
        refine lv_iadd hx hb dL_law_644 ?_
        obtain ⟨_, h277, hf⟩ := jm_rd_some hf
        refine jw_sld hx hb (jm_ck_some h277).1 hX hbl hbA hst (vp_in_iff.mpr (jm_ck_some h277).2) dL_law_645 ?_
        refine jw_aload_n (r := v0) hx hb dL_law_646 rfl (lv_at hl 0 rfl) ?_
        refine lv_iload_n hx hb dL_law_647 rfl (lv_at hl 3 rfl) ?_
        refine lv_iconst (v := 3) hx hb dL_law_648 (by decide) ?_
        refine lv_iadd hx hb dL_law_649 ?_
        obtain ⟨_, h278, hf⟩ := jm_rd_some hf
        refine jw_sld hx hb (jm_ck_some h278).1 hX hbl hbA hst (vp_in_iff.mpr (jm_ck_some h278).2) dL_law_650 ?_
        obtain ⟨a282, h283, hf⟩ := jm_rd_some hf
        obtain ⟨fsa282, hea282, hr284⟩ := jm_cl_some h283
        obtain ⟨x279, Mm280, h281, hf⟩ := jm_bd_some hf
        refine jw_V (As := [.int (xs (v3 + (1 : Int32)).toNatClampNeg), .int (xs (v3 + (2 : Int32)).toNatClampNeg), .int (xs (v3 + (3 : Int32)).toNatClampNeg)]) (rest := [.int x270]) (C := RX1) (T := TX1) (N := 24) (rv := v2) (jt_X1_near l g b N a282 (xs (v3 + (1 : Int32)).toNatClampNeg) (xs (v3 + (2 : Int32)).toNatClampNeg) (xs (v3 + (3 : Int32)).toNatClampNeg) Mm271 Mm280 x279 h281) C0 hK hst (jm_mono h281) (jm_le_tr (jm_mono hf) hle18) q1229 q1230 q1231 q73 q1232 hd_X1_near ⟨Nat.le_of_ble_eq_true rfl, Nat.le_of_ble_eq_true rfl⟩ hea282 hr284 rfl rfl hl.1 rfl (by rw [cs_i, cs_n]; exact Nat.le_of_ble_eq_true rfl) dL_law_651 (fun H locs cells slots hst => ?_)
        refine W.eq (g2 := F0 m 654 ls [.int x279, .int x270]) rfl ?_
        refine lv_icmp_eq (tgt := 1115) hx hb dL_law_654 (by decide) (fun hc => ?_) (fun hc => ?_)
        · rw [if_pos hc] at hf
          exact J1115 v3 _ hf _ _ _ _ _ hst (lv_sub hl [0, 1, 2, 3] rfl)
        · rw [if_neg hc] at hf
          obtain ⟨rfl, rfl⟩ := jm_ret_some hf
          exact jm_or_l (jm_or_r (jm_or_r (jm_or_r (jm_or_r (jm_or_r (jm_or_r (jm_or_r (jm_or_r (jm_or_r (jm_or_r (jm_or_r (jm_or_r (jm_or_r (jm_or_r (jm_or_r hk18))))))))))))))) _ _ _ _ _ hst (lv_sub hl [] rfl)
      rw [if_neg hn14] at hf
      by_cases hn15 : ((xs v3.toNatClampNeg) &&& (31 : Int32)) = (15 : Int32)
      · rw [if_pos hn15] at hf
        refine lv_tableIn (tgt := 659) hx hb dL_law_32 (by rw [hn15]; decide) (by rw [hn15]; decide) (off := 627) (by rw [hn15]; rfl) (by decide) ?_
        refine jw_aload_n (r := v1) hx hb dL_law_659 rfl (lv_at hl 1 rfl) ?_
        refine jw_aload_n (r := v0) hx hb dL_law_660 rfl (lv_at hl 0 rfl) ?_
        refine lv_iload_n hx hb dL_law_661 rfl (lv_at hl 3 rfl) ?_
        refine lv_iconst (v := 1) hx hb dL_law_662 (by decide) ?_
        refine lv_iadd hx hb dL_law_663 ?_
        obtain ⟨_, h285, hf⟩ := jm_rd_some hf
        refine jw_sld hx hb (jm_ck_some h285).1 hX hbl hbA hst (vp_in_iff.mpr (jm_ck_some h285).2) dL_law_664 ?_
        refine jw_aload_n (r := v0) hx hb dL_law_665 rfl (lv_at hl 0 rfl) ?_
        refine lv_iload_n hx hb dL_law_666 rfl (lv_at hl 3 rfl) ?_
        refine lv_iconst (v := 2) hx hb dL_law_667 (by decide) ?_
        refine lv_iadd hx hb dL_law_668 ?_
        obtain ⟨_, h286, hf⟩ := jm_rd_some hf
        refine jw_sld hx hb (jm_ck_some h286).1 hX hbl hbA hst (vp_in_iff.mpr (jm_ck_some h286).2) dL_law_669 ?_
        obtain ⟨a290, h291, hf⟩ := jm_rd_some hf
        obtain ⟨fsa290, hea290, hr292⟩ := jm_cl_some h291
        obtain ⟨x287, Mm288, h289, hf⟩ := jm_bd_some hf
        refine jw_V (As := [.int (xs (v3 + (1 : Int32)).toNatClampNeg), .int (xs (v3 + (2 : Int32)).toNatClampNeg)]) (rest := []) (C := RX0) (T := TX0) (N := 7) (rv := v1) (jt_X0_rank l g b N a290 (xs (v3 + (1 : Int32)).toNatClampNeg) (xs (v3 + (2 : Int32)).toNatClampNeg) Mm42 Mm288 x287 h289) C0 hK hst (jm_mono h289) (jm_le_tr (jm_mono hf) hle18) q675 q676 q677 q72 q678 hd_X0_rank ⟨Nat.le_of_ble_eq_true rfl, Nat.le_of_ble_eq_true rfl⟩ hea290 hr292 rfl rfl hl.1 rfl (by rw [cs_n]; exact Nat.le_of_ble_eq_true rfl) dL_law_670 (fun H locs cells slots hst => ?_)
        refine W.eq (g2 := F0 m 673 ls [.int x287]) rfl ?_
        refine jw_aload_n (r := v2) hx hb dL_law_673 rfl (lv_at hl 2 rfl) ?_
        refine jw_aload_n (r := v0) hx hb dL_law_674 rfl (lv_at hl 0 rfl) ?_
        refine lv_iload_n hx hb dL_law_675 rfl (lv_at hl 3 rfl) ?_
        refine lv_iconst (v := 1) hx hb dL_law_676 (by decide) ?_
        refine lv_iadd hx hb dL_law_677 ?_
        obtain ⟨_, h293, hf⟩ := jm_rd_some hf
        refine jw_sld hx hb (jm_ck_some h293).1 hX hbl hbA hst (vp_in_iff.mpr (jm_ck_some h293).2) dL_law_678 ?_
        refine jw_aload_n (r := v0) hx hb dL_law_679 rfl (lv_at hl 0 rfl) ?_
        refine lv_iload_n hx hb dL_law_680 rfl (lv_at hl 3 rfl) ?_
        refine lv_iconst (v := 2) hx hb dL_law_681 (by decide) ?_
        refine lv_iadd hx hb dL_law_682 ?_
        obtain ⟨_, h294, hf⟩ := jm_rd_some hf
        refine jw_sld hx hb (jm_ck_some h294).1 hX hbl hbA hst (vp_in_iff.mpr (jm_ck_some h294).2) dL_law_683 ?_
        obtain ⟨a298, h299, hf⟩ := jm_rd_some hf
        obtain ⟨fsa298, hea298, hr300⟩ := jm_cl_some h299
        obtain ⟨x295, Mm296, h297, hf⟩ := jm_bd_some hf
        refine jw_V (As := [.int (xs (v3 + (1 : Int32)).toNatClampNeg), .int (xs (v3 + (2 : Int32)).toNatClampNeg)]) (rest := [.int x287]) (C := RX1) (T := TX1) (N := 24) (rv := v2) (jt_X1_rank l g b N a298 (xs (v3 + (1 : Int32)).toNatClampNeg) (xs (v3 + (2 : Int32)).toNatClampNeg) Mm288 Mm296 x295 h297) C0 hK hst (jm_mono h297) (jm_le_tr (jm_mono hf) hle18) q1241 q1242 q1243 q73 q1244 hd_X1_rank ⟨Nat.le_of_ble_eq_true rfl, Nat.le_of_ble_eq_true rfl⟩ hea298 hr300 rfl rfl hl.1 rfl (by rw [cs_i, cs_n]; exact Nat.le_of_ble_eq_true rfl) dL_law_684 (fun H locs cells slots hst => ?_)
        refine W.eq (g2 := F0 m 687 ls [.int x295, .int x287]) rfl ?_
        refine lv_icmp_eq (tgt := 1115) hx hb dL_law_687 (by decide) (fun hc => ?_) (fun hc => ?_)
        · rw [if_pos hc] at hf
          exact J1115 v3 _ hf _ _ _ _ _ hst (lv_sub hl [0, 1, 2, 3] rfl)
        · rw [if_neg hc] at hf
          obtain ⟨rfl, rfl⟩ := jm_ret_some hf
          exact jm_or_l (jm_or_r (jm_or_r (jm_or_r (jm_or_r (jm_or_r (jm_or_r (jm_or_r (jm_or_r (jm_or_r (jm_or_r (jm_or_r (jm_or_r (jm_or_r (jm_or_r (jm_or_r (jm_or_r hk18)))))))))))))))) _ _ _ _ _ hst (lv_sub hl [] rfl)
      rw [if_neg hn15] at hf
      by_cases hn16 : ((xs v3.toNatClampNeg) &&& (31 : Int32)) = (16 : Int32)
      · rw [if_pos hn16] at hf
        refine lv_tableIn (tgt := 692) hx hb dL_law_32 (by rw [hn16]; decide) (by rw [hn16]; decide) (off := 660) (by rw [hn16]; rfl) (by decide) ?_
        refine jw_aload_n (r := v1) hx hb dL_law_692 rfl (lv_at hl 1 rfl) ?_
        refine jw_aload_n (r := v0) hx hb dL_law_693 rfl (lv_at hl 0 rfl) ?_
        refine lv_iload_n hx hb dL_law_694 rfl (lv_at hl 3 rfl) ?_
        refine lv_iconst (v := 1) hx hb dL_law_695 (by decide) ?_
        refine lv_iadd hx hb dL_law_696 ?_
        obtain ⟨_, h301, hf⟩ := jm_rd_some hf
        refine jw_sld hx hb (jm_ck_some h301).1 hX hbl hbA hst (vp_in_iff.mpr (jm_ck_some h301).2) dL_law_697 ?_
        refine jw_aload_n (r := v0) hx hb dL_law_698 rfl (lv_at hl 0 rfl) ?_
        refine lv_iload_n hx hb dL_law_699 rfl (lv_at hl 3 rfl) ?_
        refine lv_iconst (v := 2) hx hb dL_law_700 (by decide) ?_
        refine lv_iadd hx hb dL_law_701 ?_
        obtain ⟨_, h302, hf⟩ := jm_rd_some hf
        refine jw_sld hx hb (jm_ck_some h302).1 hX hbl hbA hst (vp_in_iff.mpr (jm_ck_some h302).2) dL_law_702 ?_
        obtain ⟨a306, h307, hf⟩ := jm_rd_some hf
        obtain ⟨fsa306, hea306, hr308⟩ := jm_cl_some h307
        obtain ⟨x303, Mm304, h305, hf⟩ := jm_bd_some hf
        refine jw_V (As := [.int (xs (v3 + (1 : Int32)).toNatClampNeg), .int (xs (v3 + (2 : Int32)).toNatClampNeg)]) (rest := []) (C := RX0) (T := TX0) (N := 7) (rv := v1) (jt_X0_holes l g b N a306 (xs (v3 + (1 : Int32)).toNatClampNeg) (xs (v3 + (2 : Int32)).toNatClampNeg) Mm42 Mm304 x303 h305) C0 hK hst (jm_mono h305) (jm_le_tr (jm_mono hf) hle18) q729 q730 q731 q72 q732 hd_X0_holes ⟨Nat.le_of_ble_eq_true rfl, Nat.le_of_ble_eq_true rfl⟩ hea306 hr308 rfl rfl hl.1 rfl (by rw [cs_n]; exact Nat.le_of_ble_eq_true rfl) dL_law_703 (fun H locs cells slots hst => ?_)
        refine W.eq (g2 := F0 m 706 ls [.int x303]) rfl ?_
        refine jw_aload_n (r := v2) hx hb dL_law_706 rfl (lv_at hl 2 rfl) ?_
        refine jw_aload_n (r := v0) hx hb dL_law_707 rfl (lv_at hl 0 rfl) ?_
        refine lv_iload_n hx hb dL_law_708 rfl (lv_at hl 3 rfl) ?_
        refine lv_iconst (v := 1) hx hb dL_law_709 (by decide) ?_
        refine lv_iadd hx hb dL_law_710 ?_
        obtain ⟨_, h309, hf⟩ := jm_rd_some hf
        refine jw_sld hx hb (jm_ck_some h309).1 hX hbl hbA hst (vp_in_iff.mpr (jm_ck_some h309).2) dL_law_711 ?_
        refine jw_aload_n (r := v0) hx hb dL_law_712 rfl (lv_at hl 0 rfl) ?_
        refine lv_iload_n hx hb dL_law_713 rfl (lv_at hl 3 rfl) ?_
        refine lv_iconst (v := 2) hx hb dL_law_714 (by decide) ?_
        refine lv_iadd hx hb dL_law_715 ?_
        obtain ⟨_, h310, hf⟩ := jm_rd_some hf
        refine jw_sld hx hb (jm_ck_some h310).1 hX hbl hbA hst (vp_in_iff.mpr (jm_ck_some h310).2) dL_law_716 ?_
        obtain ⟨a314, h315, hf⟩ := jm_rd_some hf
        obtain ⟨fsa314, hea314, hr316⟩ := jm_cl_some h315
        obtain ⟨x311, Mm312, h313, hf⟩ := jm_bd_some hf
        refine jw_V (As := [.int (xs (v3 + (1 : Int32)).toNatClampNeg), .int (xs (v3 + (2 : Int32)).toNatClampNeg)]) (rest := [.int x303]) (C := RX1) (T := TX1) (N := 24) (rv := v2) (jt_X1_holes l g b N a314 (xs (v3 + (1 : Int32)).toNatClampNeg) (xs (v3 + (2 : Int32)).toNatClampNeg) Mm304 Mm312 x311 h313) C0 hK hst (jm_mono h313) (jm_le_tr (jm_mono hf) hle18) q1311 q1312 q1313 q73 q1314 hd_X1_holes ⟨Nat.le_of_ble_eq_true rfl, Nat.le_of_ble_eq_true rfl⟩ hea314 hr316 rfl rfl hl.1 rfl (by rw [cs_i, cs_n]; exact Nat.le_of_ble_eq_true rfl) dL_law_717 (fun H locs cells slots hst => ?_)
        refine W.eq (g2 := F0 m 720 ls [.int x311, .int x303]) rfl ?_
        refine lv_icmp_eq (tgt := 1115) hx hb dL_law_720 (by decide) (fun hc => ?_) (fun hc => ?_)
        · rw [if_pos hc] at hf
          exact J1115 v3 _ hf _ _ _ _ _ hst (lv_sub hl [0, 1, 2, 3] rfl)
        · rw [if_neg hc] at hf
          obtain ⟨rfl, rfl⟩ := jm_ret_some hf
          exact jm_or_l (jm_or_r (jm_or_r (jm_or_r (jm_or_r (jm_or_r (jm_or_r (jm_or_r (jm_or_r (jm_or_r (jm_or_r (jm_or_r (jm_or_r (jm_or_r (jm_or_r (jm_or_r (jm_or_r (jm_or_r hk18))))))))))))))))) _ _ _ _ _ hst (lv_sub hl [] rfl)
      rw [if_neg hn16] at hf
      by_cases hn17 : ((xs v3.toNatClampNeg) &&& (31 : Int32)) = (17 : Int32)
      · rw [if_pos hn17] at hf
        refine lv_tableIn (tgt := 725) hx hb dL_law_32 (by rw [hn17]; decide) (by rw [hn17]; decide) (off := 693) (by rw [hn17]; rfl) (by decide) ?_
        refine jw_aload_n (r := v1) hx hb dL_law_725 rfl (lv_at hl 1 rfl) ?_
        refine jw_aload_n (r := v0) hx hb dL_law_726 rfl (lv_at hl 0 rfl) ?_
        refine lv_iload_n hx hb dL_law_727 rfl (lv_at hl 3 rfl) ?_
        refine lv_iconst (v := 1) hx hb dL_law_728 (by decide) ?_
        refine lv_iadd hx hb dL_law_729 ?_
        obtain ⟨_, h317, hf⟩ := jm_rd_some hf
        refine jw_sld hx hb (jm_ck_some h317).1 hX hbl hbA hst (vp_in_iff.mpr (jm_ck_some h317).2) dL_law_730 ?_
        refine jw_aload_n (r := v0) hx hb dL_law_731 rfl (lv_at hl 0 rfl) ?_
        refine lv_iload_n hx hb dL_law_732 rfl (lv_at hl 3 rfl) ?_
        refine lv_iconst (v := 2) hx hb dL_law_733 (by decide) ?_
        refine lv_iadd hx hb dL_law_734 ?_
        obtain ⟨_, h318, hf⟩ := jm_rd_some hf
        refine jw_sld hx hb (jm_ck_some h318).1 hX hbl hbA hst (vp_in_iff.mpr (jm_ck_some h318).2) dL_law_735 ?_
        obtain ⟨a322, h323, hf⟩ := jm_rd_some hf
        obtain ⟨fsa322, hea322, hr324⟩ := jm_cl_some h323
        obtain ⟨x319, Mm320, h321, hf⟩ := jm_bd_some hf
        refine jw_V (As := [.int (xs (v3 + (1 : Int32)).toNatClampNeg), .int (xs (v3 + (2 : Int32)).toNatClampNeg)]) (rest := []) (C := RX0) (T := TX0) (N := 7) (rv := v1) (jt_X0_twist l g b N a322 (xs (v3 + (1 : Int32)).toNatClampNeg) (xs (v3 + (2 : Int32)).toNatClampNeg) Mm42 Mm320 x319 h321) C0 hK hst (jm_mono h321) (jm_le_tr (jm_mono hf) hle18) q739 q740 q741 q72 q742 hd_X0_twist ⟨Nat.le_of_ble_eq_true rfl, Nat.le_of_ble_eq_true rfl⟩ hea322 hr324 rfl rfl hl.1 rfl (by rw [cs_n]; exact Nat.le_of_ble_eq_true rfl) dL_law_736 (fun H locs cells slots hst => ?_)
        refine W.eq (g2 := F0 m 739 ls [.int x319]) rfl ?_
        refine jw_aload_n (r := v2) hx hb dL_law_739 rfl (lv_at hl 2 rfl) ?_
        refine jw_aload_n (r := v0) hx hb dL_law_740 rfl (lv_at hl 0 rfl) ?_
        refine lv_iload_n hx hb dL_law_741 rfl (lv_at hl 3 rfl) ?_
        refine lv_iconst (v := 1) hx hb dL_law_742 (by decide) ?_
        refine lv_iadd hx hb dL_law_743 ?_
        obtain ⟨_, h325, hf⟩ := jm_rd_some hf
        refine jw_sld hx hb (jm_ck_some h325).1 hX hbl hbA hst (vp_in_iff.mpr (jm_ck_some h325).2) dL_law_744 ?_
        refine jw_aload_n (r := v0) hx hb dL_law_745 rfl (lv_at hl 0 rfl) ?_
        refine lv_iload_n hx hb dL_law_746 rfl (lv_at hl 3 rfl) ?_
        refine lv_iconst (v := 2) hx hb dL_law_747 (by decide) ?_
        refine lv_iadd hx hb dL_law_748 ?_
        obtain ⟨_, h326, hf⟩ := jm_rd_some hf
        refine jw_sld hx hb (jm_ck_some h326).1 hX hbl hbA hst (vp_in_iff.mpr (jm_ck_some h326).2) dL_law_749 ?_
        obtain ⟨a330, h331, hf⟩ := jm_rd_some hf
        obtain ⟨fsa330, hea330, hr332⟩ := jm_cl_some h331
        obtain ⟨x327, Mm328, h329, hf⟩ := jm_bd_some hf
        refine jw_V (As := [.int (xs (v3 + (1 : Int32)).toNatClampNeg), .int (xs (v3 + (2 : Int32)).toNatClampNeg)]) (rest := [.int x319]) (C := RX1) (T := TX1) (N := 24) (rv := v2) (jt_X1_twist l g b N a330 (xs (v3 + (1 : Int32)).toNatClampNeg) (xs (v3 + (2 : Int32)).toNatClampNeg) Mm320 Mm328 x327 h329) C0 hK hst (jm_mono h329) (jm_le_tr (jm_mono hf) hle18) q1315 q1316 q1317 q73 q1318 hd_X1_twist ⟨Nat.le_of_ble_eq_true rfl, Nat.le_of_ble_eq_true rfl⟩ hea330 hr332 rfl rfl hl.1 rfl (by rw [cs_i, cs_n]; exact Nat.le_of_ble_eq_true rfl) dL_law_750 (fun H locs cells slots hst => ?_)
        refine W.eq (g2 := F0 m 753 ls [.int x327, .int x319]) rfl ?_
        refine lv_icmp_eq (tgt := 1115) hx hb dL_law_753 (by decide) (fun hc => ?_) (fun hc => ?_)
        · rw [if_pos hc] at hf
          exact J1115 v3 _ hf _ _ _ _ _ hst (lv_sub hl [0, 1, 2, 3] rfl)
        · rw [if_neg hc] at hf
          obtain ⟨rfl, rfl⟩ := jm_ret_some hf
          exact jm_or_l (jm_or_r (jm_or_r (jm_or_r (jm_or_r (jm_or_r (jm_or_r (jm_or_r (jm_or_r (jm_or_r (jm_or_r (jm_or_r (jm_or_r (jm_or_r (jm_or_r (jm_or_r (jm_or_r (jm_or_r (jm_or_r hk18)))))))))))))))))) _ _ _ _ _ hst (lv_sub hl [] rfl)
      rw [if_neg hn17] at hf
      by_cases hn18 : ((xs v3.toNatClampNeg) &&& (31 : Int32)) = (18 : Int32)
      · rw [if_pos hn18] at hf
        refine lv_tableIn (tgt := 758) hx hb dL_law_32 (by rw [hn18]; decide) (by rw [hn18]; decide) (off := 726) (by rw [hn18]; rfl) (by decide) ?_
        refine jw_aload_n (r := v1) hx hb dL_law_758 rfl (lv_at hl 1 rfl) ?_
        refine jw_aload_n (r := v0) hx hb dL_law_759 rfl (lv_at hl 0 rfl) ?_
        refine lv_iload_n hx hb dL_law_760 rfl (lv_at hl 3 rfl) ?_
        refine lv_iconst (v := 1) hx hb dL_law_761 (by decide) ?_
        refine lv_iadd hx hb dL_law_762 ?_
        obtain ⟨_, h333, hf⟩ := jm_rd_some hf
        refine jw_sld hx hb (jm_ck_some h333).1 hX hbl hbA hst (vp_in_iff.mpr (jm_ck_some h333).2) dL_law_763 ?_
        refine jw_aload_n (r := v0) hx hb dL_law_764 rfl (lv_at hl 0 rfl) ?_
        refine lv_iload_n hx hb dL_law_765 rfl (lv_at hl 3 rfl) ?_
        refine lv_iconst (v := 2) hx hb dL_law_766 (by decide) ?_
        refine lv_iadd hx hb dL_law_767 ?_
        obtain ⟨_, h334, hf⟩ := jm_rd_some hf
        refine jw_sld hx hb (jm_ck_some h334).1 hX hbl hbA hst (vp_in_iff.mpr (jm_ck_some h334).2) dL_law_768 ?_
        obtain ⟨a338, h339, hf⟩ := jm_rd_some hf
        obtain ⟨fsa338, hea338, hr340⟩ := jm_cl_some h339
        obtain ⟨x335, Mm336, h337, hf⟩ := jm_bd_some hf
        refine jw_V (As := [.int (xs (v3 + (1 : Int32)).toNatClampNeg), .int (xs (v3 + (2 : Int32)).toNatClampNeg)]) (rest := []) (C := RX0) (T := TX0) (N := 7) (rv := v1) (jt_X0_chain l g b N a338 (xs (v3 + (1 : Int32)).toNatClampNeg) (xs (v3 + (2 : Int32)).toNatClampNeg) Mm42 Mm336 x335 h337) C0 hK hst (jm_mono h337) (jm_le_tr (jm_mono hf) hle18) q770 q771 q772 q72 q773 hd_X0_chain ⟨Nat.le_of_ble_eq_true rfl, Nat.le_of_ble_eq_true rfl⟩ hea338 hr340 rfl rfl hl.1 rfl (by rw [cs_n]; exact Nat.le_of_ble_eq_true rfl) dL_law_769 (fun H locs cells slots hst => ?_)
        refine W.eq (g2 := F0 m 772 ls [.int x335]) rfl ?_
        refine jw_aload_n (r := v2) hx hb dL_law_772 rfl (lv_at hl 2 rfl) ?_
        refine jw_aload_n (r := v0) hx hb dL_law_773 rfl (lv_at hl 0 rfl) ?_
        refine lv_iload_n hx hb dL_law_774 rfl (lv_at hl 3 rfl) ?_
        refine lv_iconst (v := 1) hx hb dL_law_775 (by decide) ?_
        refine lv_iadd hx hb dL_law_776 ?_
        obtain ⟨_, h341, hf⟩ := jm_rd_some hf
        refine jw_sld hx hb (jm_ck_some h341).1 hX hbl hbA hst (vp_in_iff.mpr (jm_ck_some h341).2) dL_law_777 ?_
        refine jw_aload_n (r := v0) hx hb dL_law_778 rfl (lv_at hl 0 rfl) ?_
        refine lv_iload_n hx hb dL_law_779 rfl (lv_at hl 3 rfl) ?_
        refine lv_iconst (v := 2) hx hb dL_law_780 (by decide) ?_
        refine lv_iadd hx hb dL_law_781 ?_
        obtain ⟨_, h342, hf⟩ := jm_rd_some hf
        refine jw_sld hx hb (jm_ck_some h342).1 hX hbl hbA hst (vp_in_iff.mpr (jm_ck_some h342).2) dL_law_782 ?_
        obtain ⟨a346, h347, hf⟩ := jm_rd_some hf
        obtain ⟨fsa346, hea346, hr348⟩ := jm_cl_some h347
        obtain ⟨x343, Mm344, h345, hf⟩ := jm_bd_some hf
        refine jw_V (As := [.int (xs (v3 + (1 : Int32)).toNatClampNeg), .int (xs (v3 + (2 : Int32)).toNatClampNeg)]) (rest := [.int x335]) (C := RX1) (T := TX1) (N := 24) (rv := v2) (jt_X1_chain l g b N a346 (xs (v3 + (1 : Int32)).toNatClampNeg) (xs (v3 + (2 : Int32)).toNatClampNeg) Mm336 Mm344 x343 h345) C0 hK hst (jm_mono h345) (jm_le_tr (jm_mono hf) hle18) q1319 q1320 q1321 q73 q1322 hd_X1_chain ⟨Nat.le_of_ble_eq_true rfl, Nat.le_of_ble_eq_true rfl⟩ hea346 hr348 rfl rfl hl.1 rfl (by rw [cs_i, cs_n]; exact Nat.le_of_ble_eq_true rfl) dL_law_783 (fun H locs cells slots hst => ?_)
        refine W.eq (g2 := F0 m 786 ls [.int x343, .int x335]) rfl ?_
        refine lv_icmp_eq (tgt := 1115) hx hb dL_law_786 (by decide) (fun hc => ?_) (fun hc => ?_)
        · rw [if_pos hc] at hf
          exact J1115 v3 _ hf _ _ _ _ _ hst (lv_sub hl [0, 1, 2, 3] rfl)
        · rw [if_neg hc] at hf
          obtain ⟨rfl, rfl⟩ := jm_ret_some hf
          exact jm_or_l (jm_or_r (jm_or_r (jm_or_r (jm_or_r (jm_or_r (jm_or_r (jm_or_r (jm_or_r (jm_or_r (jm_or_r (jm_or_r (jm_or_r (jm_or_r (jm_or_r (jm_or_r (jm_or_r (jm_or_r (jm_or_r (jm_or_r hk18))))))))))))))))))) _ _ _ _ _ hst (lv_sub hl [] rfl)
      rw [if_neg hn18] at hf
      by_cases hn19 : ((xs v3.toNatClampNeg) &&& (31 : Int32)) = (19 : Int32)
      · rw [if_pos hn19] at hf
        refine lv_tableIn (tgt := 791) hx hb dL_law_32 (by rw [hn19]; decide) (by rw [hn19]; decide) (off := 759) (by rw [hn19]; rfl) (by decide) ?_
        refine jw_aload_n (r := v1) hx hb dL_law_791 rfl (lv_at hl 1 rfl) ?_
        refine jw_aload_n (r := v0) hx hb dL_law_792 rfl (lv_at hl 0 rfl) ?_
        refine lv_iload_n hx hb dL_law_793 rfl (lv_at hl 3 rfl) ?_
        refine lv_iconst (v := 1) hx hb dL_law_794 (by decide) ?_
        refine lv_iadd hx hb dL_law_795 ?_
        obtain ⟨_, h349, hf⟩ := jm_rd_some hf
        refine jw_sld hx hb (jm_ck_some h349).1 hX hbl hbA hst (vp_in_iff.mpr (jm_ck_some h349).2) dL_law_796 ?_
        refine jw_aload_n (r := v0) hx hb dL_law_797 rfl (lv_at hl 0 rfl) ?_
        refine lv_iload_n hx hb dL_law_798 rfl (lv_at hl 3 rfl) ?_
        refine lv_iconst (v := 2) hx hb dL_law_799 (by decide) ?_
        refine lv_iadd hx hb dL_law_800 ?_
        obtain ⟨_, h350, hf⟩ := jm_rd_some hf
        refine jw_sld hx hb (jm_ck_some h350).1 hX hbl hbA hst (vp_in_iff.mpr (jm_ck_some h350).2) dL_law_801 ?_
        obtain ⟨a354, h355, hf⟩ := jm_rd_some hf
        obtain ⟨fsa354, hea354, hr356⟩ := jm_cl_some h355
        obtain ⟨x351, Mm352, h353, hf⟩ := jm_bd_some hf
        refine jw_V (As := [.int (xs (v3 + (1 : Int32)).toNatClampNeg), .int (xs (v3 + (2 : Int32)).toNatClampNeg)]) (rest := []) (C := RX0) (T := TX0) (N := 7) (rv := v1) (jt_X0_ends l g b N a354 (xs (v3 + (1 : Int32)).toNatClampNeg) (xs (v3 + (2 : Int32)).toNatClampNeg) Mm42 Mm352 x351 h353) C0 hK hst (jm_mono h353) (jm_le_tr (jm_mono hf) hle18) q774 q775 q776 q72 q777 hd_X0_ends ⟨Nat.le_of_ble_eq_true rfl, Nat.le_of_ble_eq_true rfl⟩ hea354 hr356 rfl rfl hl.1 rfl (by rw [cs_n]; exact Nat.le_of_ble_eq_true rfl) dL_law_802 (fun H locs cells slots hst => ?_)
        refine W.eq (g2 := F0 m 805 ls [.int x351]) rfl ?_
        refine jw_aload_n (r := v2) hx hb dL_law_805 rfl (lv_at hl 2 rfl) ?_
        refine jw_aload_n (r := v0) hx hb dL_law_806 rfl (lv_at hl 0 rfl) ?_
        refine lv_iload_n hx hb dL_law_807 rfl (lv_at hl 3 rfl) ?_
        refine lv_iconst (v := 1) hx hb dL_law_808 (by decide) ?_
        refine lv_iadd hx hb dL_law_809 ?_
        obtain ⟨_, h357, hf⟩ := jm_rd_some hf
        refine jw_sld hx hb (jm_ck_some h357).1 hX hbl hbA hst (vp_in_iff.mpr (jm_ck_some h357).2) dL_law_810 ?_
        refine jw_aload_n (r := v0) hx hb dL_law_811 rfl (lv_at hl 0 rfl) ?_
        refine lv_iload_n hx hb dL_law_812 rfl (lv_at hl 3 rfl) ?_
        refine lv_iconst (v := 2) hx hb dL_law_813 (by decide) ?_
        refine lv_iadd hx hb dL_law_814 ?_
        obtain ⟨_, h358, hf⟩ := jm_rd_some hf
        refine jw_sld hx hb (jm_ck_some h358).1 hX hbl hbA hst (vp_in_iff.mpr (jm_ck_some h358).2) dL_law_815 ?_
        obtain ⟨a362, h363, hf⟩ := jm_rd_some hf
        obtain ⟨fsa362, hea362, hr364⟩ := jm_cl_some h363
        obtain ⟨x359, Mm360, h361, hf⟩ := jm_bd_some hf
        refine jw_V (As := [.int (xs (v3 + (1 : Int32)).toNatClampNeg), .int (xs (v3 + (2 : Int32)).toNatClampNeg)]) (rest := [.int x351]) (C := RX1) (T := TX1) (N := 24) (rv := v2) (jt_X1_ends l g b N a362 (xs (v3 + (1 : Int32)).toNatClampNeg) (xs (v3 + (2 : Int32)).toNatClampNeg) Mm352 Mm360 x359 h361) C0 hK hst (jm_mono h361) (jm_le_tr (jm_mono hf) hle18) q1323 q1324 q1325 q73 q1326 hd_X1_ends ⟨Nat.le_of_ble_eq_true rfl, Nat.le_of_ble_eq_true rfl⟩ hea362 hr364 rfl rfl hl.1 rfl (by rw [cs_i, cs_n]; exact Nat.le_of_ble_eq_true rfl) dL_law_816 (fun H locs cells slots hst => ?_)
        refine W.eq (g2 := F0 m 819 ls [.int x359, .int x351]) rfl ?_
        refine lv_icmp_eq (tgt := 1115) hx hb dL_law_819 (by decide) (fun hc => ?_) (fun hc => ?_)
        · rw [if_pos hc] at hf
          exact J1115 v3 _ hf _ _ _ _ _ hst (lv_sub hl [0, 1, 2, 3] rfl)
        · rw [if_neg hc] at hf
          obtain ⟨rfl, rfl⟩ := jm_ret_some hf
          exact jm_or_l (jm_or_r (jm_or_r (jm_or_r (jm_or_r (jm_or_r (jm_or_r (jm_or_r (jm_or_r (jm_or_r (jm_or_r (jm_or_r (jm_or_r (jm_or_r (jm_or_r (jm_or_r (jm_or_r (jm_or_r (jm_or_r (jm_or_r (jm_or_r hk18)))))))))))))))))))) _ _ _ _ _ hst (lv_sub hl [] rfl)
      rw [if_neg hn19] at hf
      by_cases hn20 : ((xs v3.toNatClampNeg) &&& (31 : Int32)) = (20 : Int32)
      · rw [if_pos hn20] at hf
        refine lv_tableIn (tgt := 824) hx hb dL_law_32 (by rw [hn20]; decide) (by rw [hn20]; decide) (off := 792) (by rw [hn20]; rfl) (by decide) ?_
        refine jw_aload_n (r := v1) hx hb dL_law_824 rfl (lv_at hl 1 rfl) ?_
        refine jw_aload_n (r := v0) hx hb dL_law_825 rfl (lv_at hl 0 rfl) ?_
        refine lv_iload_n hx hb dL_law_826 rfl (lv_at hl 3 rfl) ?_
        refine lv_iconst (v := 1) hx hb dL_law_827 (by decide) ?_
        refine lv_iadd hx hb dL_law_828 ?_
        obtain ⟨_, h365, hf⟩ := jm_rd_some hf
        refine jw_sld hx hb (jm_ck_some h365).1 hX hbl hbA hst (vp_in_iff.mpr (jm_ck_some h365).2) dL_law_829 ?_
        refine jw_aload_n (r := v0) hx hb dL_law_830 rfl (lv_at hl 0 rfl) ?_
        refine lv_iload_n hx hb dL_law_831 rfl (lv_at hl 3 rfl) ?_
        refine lv_iconst (v := 2) hx hb dL_law_832 (by decide) ?_
        refine lv_iadd hx hb dL_law_833 ?_
        obtain ⟨_, h366, hf⟩ := jm_rd_some hf
        refine jw_sld hx hb (jm_ck_some h366).1 hX hbl hbA hst (vp_in_iff.mpr (jm_ck_some h366).2) dL_law_834 ?_
        obtain ⟨a370, h371, hf⟩ := jm_rd_some hf
        obtain ⟨fsa370, hea370, hr372⟩ := jm_cl_some h371
        obtain ⟨x367, Mm368, h369, hf⟩ := jm_bd_some hf
        refine jw_V (As := [.int (xs (v3 + (1 : Int32)).toNatClampNeg), .int (xs (v3 + (2 : Int32)).toNatClampNeg)]) (rest := []) (C := RX0) (T := TX0) (N := 7) (rv := v1) (jt_X0_whole l g b N a370 (xs (v3 + (1 : Int32)).toNatClampNeg) (xs (v3 + (2 : Int32)).toNatClampNeg) Mm42 Mm368 x367 h369) C0 hK hst (jm_mono h369) (jm_le_tr (jm_mono hf) hle18) q782 q783 q784 q72 q785 hd_X0_whole ⟨Nat.le_of_ble_eq_true rfl, Nat.le_of_ble_eq_true rfl⟩ hea370 hr372 rfl rfl hl.1 rfl (by rw [cs_n]; exact Nat.le_of_ble_eq_true rfl) dL_law_835 (fun H locs cells slots hst => ?_)
        refine W.eq (g2 := F0 m 838 ls [.int x367]) rfl ?_
        refine jw_aload_n (r := v2) hx hb dL_law_838 rfl (lv_at hl 2 rfl) ?_
        refine jw_aload_n (r := v0) hx hb dL_law_839 rfl (lv_at hl 0 rfl) ?_
        refine lv_iload_n hx hb dL_law_840 rfl (lv_at hl 3 rfl) ?_
        refine lv_iconst (v := 1) hx hb dL_law_841 (by decide) ?_
        refine lv_iadd hx hb dL_law_842 ?_
        obtain ⟨_, h373, hf⟩ := jm_rd_some hf
        refine jw_sld hx hb (jm_ck_some h373).1 hX hbl hbA hst (vp_in_iff.mpr (jm_ck_some h373).2) dL_law_843 ?_
        refine jw_aload_n (r := v0) hx hb dL_law_844 rfl (lv_at hl 0 rfl) ?_
        refine lv_iload_n hx hb dL_law_845 rfl (lv_at hl 3 rfl) ?_
        refine lv_iconst (v := 2) hx hb dL_law_846 (by decide) ?_
        refine lv_iadd hx hb dL_law_847 ?_
        obtain ⟨_, h374, hf⟩ := jm_rd_some hf
        refine jw_sld hx hb (jm_ck_some h374).1 hX hbl hbA hst (vp_in_iff.mpr (jm_ck_some h374).2) dL_law_848 ?_
        obtain ⟨a378, h379, hf⟩ := jm_rd_some hf
        obtain ⟨fsa378, hea378, hr380⟩ := jm_cl_some h379
        obtain ⟨x375, Mm376, h377, hf⟩ := jm_bd_some hf
        refine jw_V (As := [.int (xs (v3 + (1 : Int32)).toNatClampNeg), .int (xs (v3 + (2 : Int32)).toNatClampNeg)]) (rest := [.int x367]) (C := RX1) (T := TX1) (N := 24) (rv := v2) (jt_X1_whole l g b N a378 (xs (v3 + (1 : Int32)).toNatClampNeg) (xs (v3 + (2 : Int32)).toNatClampNeg) Mm368 Mm376 x375 h377) C0 hK hst (jm_mono h377) (jm_le_tr (jm_mono hf) hle18) q1331 q1332 q1333 q73 q1334 hd_X1_whole ⟨Nat.le_of_ble_eq_true rfl, Nat.le_of_ble_eq_true rfl⟩ hea378 hr380 rfl rfl hl.1 rfl (by rw [cs_i, cs_n]; exact Nat.le_of_ble_eq_true rfl) dL_law_849 (fun H locs cells slots hst => ?_)
        refine W.eq (g2 := F0 m 852 ls [.int x375, .int x367]) rfl ?_
        refine lv_icmp_eq (tgt := 1115) hx hb dL_law_852 (by decide) (fun hc => ?_) (fun hc => ?_)
        · rw [if_pos hc] at hf
          exact J1115 v3 _ hf _ _ _ _ _ hst (lv_sub hl [0, 1, 2, 3] rfl)
        · rw [if_neg hc] at hf
          obtain ⟨rfl, rfl⟩ := jm_ret_some hf
          exact jm_or_l (jm_or_r (jm_or_r (jm_or_r (jm_or_r (jm_or_r (jm_or_r (jm_or_r (jm_or_r (jm_or_r (jm_or_r (jm_or_r (jm_or_r (jm_or_r (jm_or_r (jm_or_r (jm_or_r (jm_or_r (jm_or_r (jm_or_r (jm_or_r (jm_or_r hk18))))))))))))))))))))) _ _ _ _ _ hst (lv_sub hl [] rfl)
      rw [if_neg hn20] at hf
      by_cases hn21 : ((xs v3.toNatClampNeg) &&& (31 : Int32)) = (21 : Int32)
      · rw [if_pos hn21] at hf
        refine lv_tableIn (tgt := 857) hx hb dL_law_32 (by rw [hn21]; decide) (by rw [hn21]; decide) (off := 825) (by rw [hn21]; rfl) (by decide) ?_
        refine jw_aload_n (r := v1) hx hb dL_law_857 rfl (lv_at hl 1 rfl) ?_
        refine jw_aload_n (r := v0) hx hb dL_law_858 rfl (lv_at hl 0 rfl) ?_
        refine lv_iload_n hx hb dL_law_859 rfl (lv_at hl 3 rfl) ?_
        refine lv_iconst (v := 1) hx hb dL_law_860 (by decide) ?_
        refine lv_iadd hx hb dL_law_861 ?_
        obtain ⟨_, h381, hf⟩ := jm_rd_some hf
        refine jw_sld hx hb (jm_ck_some h381).1 hX hbl hbA hst (vp_in_iff.mpr (jm_ck_some h381).2) dL_law_862 ?_
        refine jw_aload_n (r := v0) hx hb dL_law_863 rfl (lv_at hl 0 rfl) ?_
        refine lv_iload_n hx hb dL_law_864 rfl (lv_at hl 3 rfl) ?_
        refine lv_iconst (v := 2) hx hb dL_law_865 (by decide) ?_
        refine lv_iadd hx hb dL_law_866 ?_
        obtain ⟨_, h382, hf⟩ := jm_rd_some hf
        refine jw_sld hx hb (jm_ck_some h382).1 hX hbl hbA hst (vp_in_iff.mpr (jm_ck_some h382).2) dL_law_867 ?_
        refine jw_aload_n (r := v0) hx hb dL_law_868 rfl (lv_at hl 0 rfl) ?_
        refine lv_iload_n hx hb dL_law_869 rfl (lv_at hl 3 rfl) ?_
        refine lv_iconst (v := 3) hx hb dL_law_870 (by decide) ?_
        refine lv_iadd hx hb dL_law_871 ?_
        obtain ⟨_, h383, hf⟩ := jm_rd_some hf
        refine jw_sld hx hb (jm_ck_some h383).1 hX hbl hbA hst (vp_in_iff.mpr (jm_ck_some h383).2) dL_law_872 ?_
        refine jw_aload_n (r := v0) hx hb dL_law_873 rfl (lv_at hl 0 rfl) ?_
        refine lv_iload_n hx hb dL_law_874 rfl (lv_at hl 3 rfl) ?_
        refine lv_iconst (v := 4) hx hb dL_law_875 (by decide) ?_
        refine lv_iadd hx hb dL_law_876 ?_
        obtain ⟨_, h384, hf⟩ := jm_rd_some hf
        refine jw_sld hx hb (jm_ck_some h384).1 hX hbl hbA hst (vp_in_iff.mpr (jm_ck_some h384).2) dL_law_877 ?_
        obtain ⟨a388, h389, hf⟩ := jm_rd_some hf
        obtain ⟨fsa388, hea388, hr390⟩ := jm_cl_some h389
        obtain ⟨x385, Mm386, h387, hf⟩ := jm_bd_some hf
        refine jw_V (As := [.int (xs (v3 + (1 : Int32)).toNatClampNeg), .int (xs (v3 + (2 : Int32)).toNatClampNeg), .int (xs (v3 + (3 : Int32)).toNatClampNeg), .int (xs (v3 + (4 : Int32)).toNatClampNeg)]) (rest := []) (C := RX0) (T := TX0) (N := 7) (rv := v1) (jt_X0_part l g b N a388 (xs (v3 + (1 : Int32)).toNatClampNeg) (xs (v3 + (2 : Int32)).toNatClampNeg) (xs (v3 + (3 : Int32)).toNatClampNeg) (xs (v3 + (4 : Int32)).toNatClampNeg) Mm42 Mm386 x385 h387) C0 hK hst (jm_mono h387) (jm_le_tr (jm_mono hf) hle18) q804 q805 q806 q72 q807 hd_X0_part ⟨Nat.le_of_ble_eq_true rfl, Nat.le_of_ble_eq_true rfl⟩ hea388 hr390 rfl rfl hl.1 rfl (by rw [cs_n]; exact Nat.le_of_ble_eq_true rfl) dL_law_878 (fun H locs cells slots hst => ?_)
        refine W.eq (g2 := F0 m 881 ls [.long x385]) rfl ?_
        refine jw_aload_n (r := v2) hx hb dL_law_881 rfl (lv_at hl 2 rfl) ?_
        refine jw_aload_n (r := v0) hx hb dL_law_882 rfl (lv_at hl 0 rfl) ?_
        refine lv_iload_n hx hb dL_law_883 rfl (lv_at hl 3 rfl) ?_
        refine lv_iconst (v := 1) hx hb dL_law_884 (by decide) ?_
        refine lv_iadd hx hb dL_law_885 ?_
        obtain ⟨_, h391, hf⟩ := jm_rd_some hf
        refine jw_sld hx hb (jm_ck_some h391).1 hX hbl hbA hst (vp_in_iff.mpr (jm_ck_some h391).2) dL_law_886 ?_
        refine jw_aload_n (r := v0) hx hb dL_law_887 rfl (lv_at hl 0 rfl) ?_
        refine lv_iload_n hx hb dL_law_888 rfl (lv_at hl 3 rfl) ?_
        refine lv_iconst (v := 2) hx hb dL_law_889 (by decide) ?_
        refine lv_iadd hx hb dL_law_890 ?_
        obtain ⟨_, h392, hf⟩ := jm_rd_some hf
        refine jw_sld hx hb (jm_ck_some h392).1 hX hbl hbA hst (vp_in_iff.mpr (jm_ck_some h392).2) dL_law_891 ?_
        refine jw_aload_n (r := v0) hx hb dL_law_892 rfl (lv_at hl 0 rfl) ?_
        refine lv_iload_n hx hb dL_law_893 rfl (lv_at hl 3 rfl) ?_
        refine lv_iconst (v := 3) hx hb dL_law_894 (by decide) ?_
        refine lv_iadd hx hb dL_law_895 ?_
        obtain ⟨_, h393, hf⟩ := jm_rd_some hf
        refine jw_sld hx hb (jm_ck_some h393).1 hX hbl hbA hst (vp_in_iff.mpr (jm_ck_some h393).2) dL_law_896 ?_
        refine jw_aload_n (r := v0) hx hb dL_law_897 rfl (lv_at hl 0 rfl) ?_
        refine lv_iload_n hx hb dL_law_898 rfl (lv_at hl 3 rfl) ?_
        refine lv_iconst (v := 4) hx hb dL_law_899 (by decide) ?_
        refine lv_iadd hx hb dL_law_900 ?_
        obtain ⟨_, h394, hf⟩ := jm_rd_some hf
        refine jw_sld hx hb (jm_ck_some h394).1 hX hbl hbA hst (vp_in_iff.mpr (jm_ck_some h394).2) dL_law_901 ?_
        obtain ⟨a398, h399, hf⟩ := jm_rd_some hf
        obtain ⟨fsa398, hea398, hr400⟩ := jm_cl_some h399
        obtain ⟨x395, Mm396, h397, hf⟩ := jm_bd_some hf
        refine jw_V (As := [.int (xs (v3 + (1 : Int32)).toNatClampNeg), .int (xs (v3 + (2 : Int32)).toNatClampNeg), .int (xs (v3 + (3 : Int32)).toNatClampNeg), .int (xs (v3 + (4 : Int32)).toNatClampNeg)]) (rest := [.long x385]) (C := RX1) (T := TX1) (N := 24) (rv := v2) (jt_X1_part l g b N a398 (xs (v3 + (1 : Int32)).toNatClampNeg) (xs (v3 + (2 : Int32)).toNatClampNeg) (xs (v3 + (3 : Int32)).toNatClampNeg) (xs (v3 + (4 : Int32)).toNatClampNeg) Mm386 Mm396 x395 h397) C0 hK hst (jm_mono h397) (jm_le_tr (jm_mono hf) hle18) q1343 q1344 q1345 q73 q1346 hd_X1_part ⟨Nat.le_of_ble_eq_true rfl, Nat.le_of_ble_eq_true rfl⟩ hea398 hr400 rfl rfl hl.1 rfl (by rw [cs_j, cs_n]; exact Nat.le_of_ble_eq_true rfl) dL_law_902 (fun H locs cells slots hst => ?_)
        refine W.eq (g2 := F0 m 905 ls [.long x395, .long x385]) rfl ?_
        refine W.lcmp hx hb dL_law_905 ?_
        refine lv_if_eq (tgt := 1115) hx hb dL_law_906 (by decide) (fun hc => ?_) (fun hc => ?_)
        · replace hc := (lg_cmp_eq _ _).mp hc
          rw [if_pos hc] at hf
          exact J1115 v3 _ hf _ _ _ _ _ hst (lv_sub hl [0, 1, 2, 3] rfl)
        · replace hc := fun q => hc ((lg_cmp_eq _ _).mpr q)
          rw [if_neg hc] at hf
          obtain ⟨rfl, rfl⟩ := jm_ret_some hf
          exact jm_or_l (jm_or_r (jm_or_r (jm_or_r (jm_or_r (jm_or_r (jm_or_r (jm_or_r (jm_or_r (jm_or_r (jm_or_r (jm_or_r (jm_or_r (jm_or_r (jm_or_r (jm_or_r (jm_or_r (jm_or_r (jm_or_r (jm_or_r (jm_or_r (jm_or_r (jm_or_r hk18)))))))))))))))))))))) _ _ _ _ _ hst (lv_sub hl [] rfl)
      rw [if_neg hn21] at hf
      by_cases hn22 : ((xs v3.toNatClampNeg) &&& (31 : Int32)) = (22 : Int32)
      · rw [if_pos hn22] at hf
        refine lv_tableIn (tgt := 911) hx hb dL_law_32 (by rw [hn22]; decide) (by rw [hn22]; decide) (off := 879) (by rw [hn22]; rfl) (by decide) ?_
        refine jw_aload_n (r := v1) hx hb dL_law_911 rfl (lv_at hl 1 rfl) ?_
        refine jw_aload_n (r := v0) hx hb dL_law_912 rfl (lv_at hl 0 rfl) ?_
        refine lv_iload_n hx hb dL_law_913 rfl (lv_at hl 3 rfl) ?_
        refine lv_iconst (v := 1) hx hb dL_law_914 (by decide) ?_
        refine lv_iadd hx hb dL_law_915 ?_
        obtain ⟨_, h401, hf⟩ := jm_rd_some hf
        refine jw_sld hx hb (jm_ck_some h401).1 hX hbl hbA hst (vp_in_iff.mpr (jm_ck_some h401).2) dL_law_916 ?_
        refine jw_aload_n (r := v0) hx hb dL_law_917 rfl (lv_at hl 0 rfl) ?_
        refine lv_iload_n hx hb dL_law_918 rfl (lv_at hl 3 rfl) ?_
        refine lv_iconst (v := 2) hx hb dL_law_919 (by decide) ?_
        refine lv_iadd hx hb dL_law_920 ?_
        obtain ⟨_, h402, hf⟩ := jm_rd_some hf
        refine jw_sld hx hb (jm_ck_some h402).1 hX hbl hbA hst (vp_in_iff.mpr (jm_ck_some h402).2) dL_law_921 ?_
        refine jw_aload_n (r := v0) hx hb dL_law_922 rfl (lv_at hl 0 rfl) ?_
        refine lv_iload_n hx hb dL_law_923 rfl (lv_at hl 3 rfl) ?_
        refine lv_iconst (v := 3) hx hb dL_law_924 (by decide) ?_
        refine lv_iadd hx hb dL_law_925 ?_
        obtain ⟨_, h403, hf⟩ := jm_rd_some hf
        refine jw_sld hx hb (jm_ck_some h403).1 hX hbl hbA hst (vp_in_iff.mpr (jm_ck_some h403).2) dL_law_926 ?_
        obtain ⟨a407, h408, hf⟩ := jm_rd_some hf
        obtain ⟨fsa407, hea407, hr409⟩ := jm_cl_some h408
        obtain ⟨x404, Mm405, h406, hf⟩ := jm_bd_some hf
        refine jw_V (As := [.int (xs (v3 + (1 : Int32)).toNatClampNeg), .int (xs (v3 + (2 : Int32)).toNatClampNeg), .int (xs (v3 + (3 : Int32)).toNatClampNeg)]) (rest := []) (C := RX0) (T := TX0) (N := 7) (rv := v1) (jt_X0_length l g b N a407 (xs (v3 + (1 : Int32)).toNatClampNeg) (xs (v3 + (2 : Int32)).toNatClampNeg) (xs (v3 + (3 : Int32)).toNatClampNeg) Mm42 Mm405 x404 h406) C0 hK hst (jm_mono h406) (jm_le_tr (jm_mono hf) hle18) q867 q868 q869 q72 q870 hd_X0_length ⟨Nat.le_of_ble_eq_true rfl, Nat.le_of_ble_eq_true rfl⟩ hea407 hr409 rfl rfl hl.1 rfl (by rw [cs_n]; exact Nat.le_of_ble_eq_true rfl) dL_law_927 (fun H locs cells slots hst => ?_)
        refine W.eq (g2 := F0 m 930 ls [.long x404]) rfl ?_
        refine jw_aload_n (r := v2) hx hb dL_law_930 rfl (lv_at hl 2 rfl) ?_
        refine jw_aload_n (r := v0) hx hb dL_law_931 rfl (lv_at hl 0 rfl) ?_
        refine lv_iload_n hx hb dL_law_932 rfl (lv_at hl 3 rfl) ?_
        refine lv_iconst (v := 1) hx hb dL_law_933 (by decide) ?_
        refine lv_iadd hx hb dL_law_934 ?_
        obtain ⟨_, h410, hf⟩ := jm_rd_some hf
        refine jw_sld hx hb (jm_ck_some h410).1 hX hbl hbA hst (vp_in_iff.mpr (jm_ck_some h410).2) dL_law_935 ?_
        refine jw_aload_n (r := v0) hx hb dL_law_936 rfl (lv_at hl 0 rfl) ?_
        refine lv_iload_n hx hb dL_law_937 rfl (lv_at hl 3 rfl) ?_
        refine lv_iconst (v := 2) hx hb dL_law_938 (by decide) ?_
        refine lv_iadd hx hb dL_law_939 ?_
        obtain ⟨_, h411, hf⟩ := jm_rd_some hf
        refine jw_sld hx hb (jm_ck_some h411).1 hX hbl hbA hst (vp_in_iff.mpr (jm_ck_some h411).2) dL_law_940 ?_
        refine jw_aload_n (r := v0) hx hb dL_law_941 rfl (lv_at hl 0 rfl) ?_
        refine lv_iload_n hx hb dL_law_942 rfl (lv_at hl 3 rfl) ?_
        refine lv_iconst (v := 3) hx hb dL_law_943 (by decide) ?_
        refine lv_iadd hx hb dL_law_944 ?_
        obtain ⟨_, h412, hf⟩ := jm_rd_some hf
        refine jw_sld hx hb (jm_ck_some h412).1 hX hbl hbA hst (vp_in_iff.mpr (jm_ck_some h412).2) dL_law_945 ?_
        obtain ⟨a416, h417, hf⟩ := jm_rd_some hf
        obtain ⟨fsa416, hea416, hr418⟩ := jm_cl_some h417
        obtain ⟨x413, Mm414, h415, hf⟩ := jm_bd_some hf
        refine jw_V (As := [.int (xs (v3 + (1 : Int32)).toNatClampNeg), .int (xs (v3 + (2 : Int32)).toNatClampNeg), .int (xs (v3 + (3 : Int32)).toNatClampNeg)]) (rest := [.long x404]) (C := RX1) (T := TX1) (N := 24) (rv := v2) (jt_X1_length l g b N a416 (xs (v3 + (1 : Int32)).toNatClampNeg) (xs (v3 + (2 : Int32)).toNatClampNeg) (xs (v3 + (3 : Int32)).toNatClampNeg) Mm405 Mm414 x413 h415) C0 hK hst (jm_mono h415) (jm_le_tr (jm_mono hf) hle18) q1384 q1385 q1386 q73 q1387 hd_X1_length ⟨Nat.le_of_ble_eq_true rfl, Nat.le_of_ble_eq_true rfl⟩ hea416 hr418 rfl rfl hl.1 rfl (by rw [cs_j, cs_n]; exact Nat.le_of_ble_eq_true rfl) dL_law_946 (fun H locs cells slots hst => ?_)
        refine W.eq (g2 := F0 m 949 ls [.long x413, .long x404]) rfl ?_
        refine W.lcmp hx hb dL_law_949 ?_
        refine lv_if_eq (tgt := 1115) hx hb dL_law_950 (by decide) (fun hc => ?_) (fun hc => ?_)
        · replace hc := (lg_cmp_eq _ _).mp hc
          rw [if_pos hc] at hf
          exact J1115 v3 _ hf _ _ _ _ _ hst (lv_sub hl [0, 1, 2, 3] rfl)
        · replace hc := fun q => hc ((lg_cmp_eq _ _).mpr q)
          rw [if_neg hc] at hf
          obtain ⟨rfl, rfl⟩ := jm_ret_some hf
          exact jm_or_l (jm_or_r (jm_or_r (jm_or_r (jm_or_r (jm_or_r (jm_or_r (jm_or_r (jm_or_r (jm_or_r (jm_or_r (jm_or_r (jm_or_r (jm_or_r (jm_or_r (jm_or_r (jm_or_r (jm_or_r (jm_or_r (jm_or_r (jm_or_r (jm_or_r (jm_or_r (jm_or_r hk18))))))))))))))))))))))) _ _ _ _ _ hst (lv_sub hl [] rfl)
      rw [if_neg hn22] at hf
      by_cases hn23 : ((xs v3.toNatClampNeg) &&& (31 : Int32)) = (23 : Int32)
      · rw [if_pos hn23] at hf
        refine lv_tableIn (tgt := 955) hx hb dL_law_32 (by rw [hn23]; decide) (by rw [hn23]; decide) (off := 923) (by rw [hn23]; rfl) (by decide) ?_
        refine jw_aload_n (r := v1) hx hb dL_law_955 rfl (lv_at hl 1 rfl) ?_
        refine jw_aload_n (r := v0) hx hb dL_law_956 rfl (lv_at hl 0 rfl) ?_
        refine lv_iload_n hx hb dL_law_957 rfl (lv_at hl 3 rfl) ?_
        refine lv_iconst (v := 1) hx hb dL_law_958 (by decide) ?_
        refine lv_iadd hx hb dL_law_959 ?_
        obtain ⟨_, h419, hf⟩ := jm_rd_some hf
        refine jw_sld hx hb (jm_ck_some h419).1 hX hbl hbA hst (vp_in_iff.mpr (jm_ck_some h419).2) dL_law_960 ?_
        refine jw_aload_n (r := v0) hx hb dL_law_961 rfl (lv_at hl 0 rfl) ?_
        refine lv_iload_n hx hb dL_law_962 rfl (lv_at hl 3 rfl) ?_
        refine lv_iconst (v := 2) hx hb dL_law_963 (by decide) ?_
        refine lv_iadd hx hb dL_law_964 ?_
        obtain ⟨_, h420, hf⟩ := jm_rd_some hf
        refine jw_sld hx hb (jm_ck_some h420).1 hX hbl hbA hst (vp_in_iff.mpr (jm_ck_some h420).2) dL_law_965 ?_
        obtain ⟨a424, h425, hf⟩ := jm_rd_some hf
        obtain ⟨fsa424, hea424, hr426⟩ := jm_cl_some h425
        obtain ⟨x421, Mm422, h423, hf⟩ := jm_bd_some hf
        refine jw_V (As := [.int (xs (v3 + (1 : Int32)).toNatClampNeg), .int (xs (v3 + (2 : Int32)).toNatClampNeg)]) (rest := []) (C := RX0) (T := TX0) (N := 7) (rv := v1) (jt_X0_share l g b N a424 (xs (v3 + (1 : Int32)).toNatClampNeg) (xs (v3 + (2 : Int32)).toNatClampNeg) Mm42 Mm422 x421 h423) C0 hK hst (jm_mono h423) (jm_le_tr (jm_mono hf) hle18) q877 q878 q879 q72 q880 hd_X0_share ⟨Nat.le_of_ble_eq_true rfl, Nat.le_of_ble_eq_true rfl⟩ hea424 hr426 rfl rfl hl.1 rfl (by rw [cs_n]; exact Nat.le_of_ble_eq_true rfl) dL_law_966 (fun H locs cells slots hst => ?_)
        refine W.eq (g2 := F0 m 969 ls [.int x421]) rfl ?_
        refine jw_aload_n (r := v2) hx hb dL_law_969 rfl (lv_at hl 2 rfl) ?_
        refine jw_aload_n (r := v0) hx hb dL_law_970 rfl (lv_at hl 0 rfl) ?_
        refine lv_iload_n hx hb dL_law_971 rfl (lv_at hl 3 rfl) ?_
        refine lv_iconst (v := 1) hx hb dL_law_972 (by decide) ?_
        refine lv_iadd hx hb dL_law_973 ?_
        obtain ⟨_, h427, hf⟩ := jm_rd_some hf
        refine jw_sld hx hb (jm_ck_some h427).1 hX hbl hbA hst (vp_in_iff.mpr (jm_ck_some h427).2) dL_law_974 ?_
        refine jw_aload_n (r := v0) hx hb dL_law_975 rfl (lv_at hl 0 rfl) ?_
        refine lv_iload_n hx hb dL_law_976 rfl (lv_at hl 3 rfl) ?_
        refine lv_iconst (v := 2) hx hb dL_law_977 (by decide) ?_
        refine lv_iadd hx hb dL_law_978 ?_
        obtain ⟨_, h428, hf⟩ := jm_rd_some hf
        refine jw_sld hx hb (jm_ck_some h428).1 hX hbl hbA hst (vp_in_iff.mpr (jm_ck_some h428).2) dL_law_979 ?_
        obtain ⟨a432, h433, hf⟩ := jm_rd_some hf
        obtain ⟨fsa432, hea432, hr434⟩ := jm_cl_some h433
        obtain ⟨x429, Mm430, h431, hf⟩ := jm_bd_some hf
        refine jw_V (As := [.int (xs (v3 + (1 : Int32)).toNatClampNeg), .int (xs (v3 + (2 : Int32)).toNatClampNeg)]) (rest := [.int x421]) (C := RX1) (T := TX1) (N := 24) (rv := v2) (jt_X1_share l g b N a432 (xs (v3 + (1 : Int32)).toNatClampNeg) (xs (v3 + (2 : Int32)).toNatClampNeg) Mm422 Mm430 x429 h431) C0 hK hst (jm_mono h431) (jm_le_tr (jm_mono hf) hle18) q1393 q1394 q1395 q73 q1396 hd_X1_share ⟨Nat.le_of_ble_eq_true rfl, Nat.le_of_ble_eq_true rfl⟩ hea432 hr434 rfl rfl hl.1 rfl (by rw [cs_i, cs_n]; exact Nat.le_of_ble_eq_true rfl) dL_law_980 (fun H locs cells slots hst => ?_)
        refine W.eq (g2 := F0 m 983 ls [.int x429, .int x421]) rfl ?_
        refine lv_icmp_eq (tgt := 1115) hx hb dL_law_983 (by decide) (fun hc => ?_) (fun hc => ?_)
        · rw [if_pos hc] at hf
          exact J1115 v3 _ hf _ _ _ _ _ hst (lv_sub hl [0, 1, 2, 3] rfl)
        · rw [if_neg hc] at hf
          obtain ⟨rfl, rfl⟩ := jm_ret_some hf
          exact jm_or_l (jm_or_r (jm_or_r (jm_or_r (jm_or_r (jm_or_r (jm_or_r (jm_or_r (jm_or_r (jm_or_r (jm_or_r (jm_or_r (jm_or_r (jm_or_r (jm_or_r (jm_or_r (jm_or_r (jm_or_r (jm_or_r (jm_or_r (jm_or_r (jm_or_r (jm_or_r (jm_or_r (jm_or_r hk18)))))))))))))))))))))))) _ _ _ _ _ hst (lv_sub hl [] rfl)
      rw [if_neg hn23] at hf
      by_cases hn24 : ((xs v3.toNatClampNeg) &&& (31 : Int32)) = (24 : Int32)
      · rw [if_pos hn24] at hf
        refine lv_tableIn (tgt := 988) hx hb dL_law_32 (by rw [hn24]; decide) (by rw [hn24]; decide) (off := 956) (by rw [hn24]; rfl) (by decide) ?_
        refine jw_aload_n (r := v1) hx hb dL_law_988 rfl (lv_at hl 1 rfl) ?_
        refine jw_aload_n (r := v0) hx hb dL_law_989 rfl (lv_at hl 0 rfl) ?_
        refine lv_iload_n hx hb dL_law_990 rfl (lv_at hl 3 rfl) ?_
        refine lv_iconst (v := 1) hx hb dL_law_991 (by decide) ?_
        refine lv_iadd hx hb dL_law_992 ?_
        obtain ⟨_, h435, hf⟩ := jm_rd_some hf
        refine jw_sld hx hb (jm_ck_some h435).1 hX hbl hbA hst (vp_in_iff.mpr (jm_ck_some h435).2) dL_law_993 ?_
        refine jw_aload_n (r := v0) hx hb dL_law_994 rfl (lv_at hl 0 rfl) ?_
        refine lv_iload_n hx hb dL_law_995 rfl (lv_at hl 3 rfl) ?_
        refine lv_iconst (v := 2) hx hb dL_law_996 (by decide) ?_
        refine lv_iadd hx hb dL_law_997 ?_
        obtain ⟨_, h436, hf⟩ := jm_rd_some hf
        refine jw_sld hx hb (jm_ck_some h436).1 hX hbl hbA hst (vp_in_iff.mpr (jm_ck_some h436).2) dL_law_998 ?_
        obtain ⟨a440, h441, hf⟩ := jm_rd_some hf
        obtain ⟨fsa440, hea440, hr442⟩ := jm_cl_some h441
        obtain ⟨x437, Mm438, h439, hf⟩ := jm_bd_some hf
        refine jw_V (As := [.int (xs (v3 + (1 : Int32)).toNatClampNeg), .int (xs (v3 + (2 : Int32)).toNatClampNeg)]) (rest := []) (C := RX0) (T := TX0) (N := 7) (rv := v1) (jt_X0_trees l g b N a440 (xs (v3 + (1 : Int32)).toNatClampNeg) (xs (v3 + (2 : Int32)).toNatClampNeg) Mm42 Mm438 x437 h439) C0 hK hst (jm_mono h439) (jm_le_tr (jm_mono hf) hle18) q890 q891 q892 q72 q893 hd_X0_trees ⟨Nat.le_of_ble_eq_true rfl, Nat.le_of_ble_eq_true rfl⟩ hea440 hr442 rfl rfl hl.1 rfl (by rw [cs_n]; exact Nat.le_of_ble_eq_true rfl) dL_law_999 (fun H locs cells slots hst => ?_)
        refine W.eq (g2 := F0 m 1002 ls [.long x437]) rfl ?_
        refine jw_aload_n (r := v2) hx hb dL_law_1002 rfl (lv_at hl 2 rfl) ?_
        refine jw_aload_n (r := v0) hx hb dL_law_1003 rfl (lv_at hl 0 rfl) ?_
        refine lv_iload_n hx hb dL_law_1004 rfl (lv_at hl 3 rfl) ?_
        refine lv_iconst (v := 1) hx hb dL_law_1005 (by decide) ?_
        refine lv_iadd hx hb dL_law_1006 ?_
        obtain ⟨_, h443, hf⟩ := jm_rd_some hf
        refine jw_sld hx hb (jm_ck_some h443).1 hX hbl hbA hst (vp_in_iff.mpr (jm_ck_some h443).2) dL_law_1007 ?_
        refine jw_aload_n (r := v0) hx hb dL_law_1008 rfl (lv_at hl 0 rfl) ?_
        refine lv_iload_n hx hb dL_law_1009 rfl (lv_at hl 3 rfl) ?_
        refine lv_iconst (v := 2) hx hb dL_law_1010 (by decide) ?_
        refine lv_iadd hx hb dL_law_1011 ?_
        obtain ⟨_, h444, hf⟩ := jm_rd_some hf
        refine jw_sld hx hb (jm_ck_some h444).1 hX hbl hbA hst (vp_in_iff.mpr (jm_ck_some h444).2) dL_law_1012 ?_
        obtain ⟨a448, h449, hf⟩ := jm_rd_some hf
        obtain ⟨fsa448, hea448, hr450⟩ := jm_cl_some h449
        obtain ⟨x445, Mm446, h447, hf⟩ := jm_bd_some hf
        refine jw_V (As := [.int (xs (v3 + (1 : Int32)).toNatClampNeg), .int (xs (v3 + (2 : Int32)).toNatClampNeg)]) (rest := [.long x437]) (C := RX1) (T := TX1) (N := 24) (rv := v2) (jt_X1_trees l g b N a448 (xs (v3 + (1 : Int32)).toNatClampNeg) (xs (v3 + (2 : Int32)).toNatClampNeg) Mm438 Mm446 x445 h447) C0 hK hst (jm_mono h447) (jm_le_tr (jm_mono hf) hle18) q1398 q1399 q1400 q73 q1401 hd_X1_trees ⟨Nat.le_of_ble_eq_true rfl, Nat.le_of_ble_eq_true rfl⟩ hea448 hr450 rfl rfl hl.1 rfl (by rw [cs_j, cs_n]; exact Nat.le_of_ble_eq_true rfl) dL_law_1013 (fun H locs cells slots hst => ?_)
        refine W.eq (g2 := F0 m 1016 ls [.long x445, .long x437]) rfl ?_
        refine W.lcmp hx hb dL_law_1016 ?_
        refine lv_if_eq (tgt := 1115) hx hb dL_law_1017 (by decide) (fun hc => ?_) (fun hc => ?_)
        · replace hc := (lg_cmp_eq _ _).mp hc
          rw [if_pos hc] at hf
          exact J1115 v3 _ hf _ _ _ _ _ hst (lv_sub hl [0, 1, 2, 3] rfl)
        · replace hc := fun q => hc ((lg_cmp_eq _ _).mpr q)
          rw [if_neg hc] at hf
          obtain ⟨rfl, rfl⟩ := jm_ret_some hf
          exact jm_or_l (jm_or_r (jm_or_r (jm_or_r (jm_or_r (jm_or_r (jm_or_r (jm_or_r (jm_or_r (jm_or_r (jm_or_r (jm_or_r (jm_or_r (jm_or_r (jm_or_r (jm_or_r (jm_or_r (jm_or_r (jm_or_r (jm_or_r (jm_or_r (jm_or_r (jm_or_r (jm_or_r (jm_or_r (jm_or_r hk18))))))))))))))))))))))))) _ _ _ _ _ hst (lv_sub hl [] rfl)
      rw [if_neg hn24] at hf
      by_cases hn25 : ((xs v3.toNatClampNeg) &&& (31 : Int32)) = (25 : Int32)
      · rw [if_pos hn25] at hf
        refine lv_tableIn (tgt := 1022) hx hb dL_law_32 (by rw [hn25]; decide) (by rw [hn25]; decide) (off := 990) (by rw [hn25]; rfl) (by decide) ?_
        refine jw_aload_n (r := v1) hx hb dL_law_1022 rfl (lv_at hl 1 rfl) ?_
        refine jw_aload_n (r := v0) hx hb dL_law_1023 rfl (lv_at hl 0 rfl) ?_
        refine lv_iload_n hx hb dL_law_1024 rfl (lv_at hl 3 rfl) ?_
        refine lv_iconst (v := 1) hx hb dL_law_1025 (by decide) ?_
        refine lv_iadd hx hb dL_law_1026 ?_
        obtain ⟨_, h451, hf⟩ := jm_rd_some hf
        refine jw_sld hx hb (jm_ck_some h451).1 hX hbl hbA hst (vp_in_iff.mpr (jm_ck_some h451).2) dL_law_1027 ?_
        obtain ⟨a455, h456, hf⟩ := jm_rd_some hf
        obtain ⟨fsa455, hea455, hr457⟩ := jm_cl_some h456
        obtain ⟨x452, Mm453, h454, hf⟩ := jm_bd_some hf
        refine jw_V (As := [.int (xs (v3 + (1 : Int32)).toNatClampNeg)]) (rest := []) (C := RX0) (T := TX0) (N := 7) (rv := v1) (jt_X0_minors l g b N a455 (xs (v3 + (1 : Int32)).toNatClampNeg) Mm42 Mm453 x452 h454) C0 hK hst (jm_mono h454) (jm_le_tr (jm_mono hf) hle18) q900 q901 q902 q72 q903 hd_X0_minors ⟨Nat.le_of_ble_eq_true rfl, Nat.le_of_ble_eq_true rfl⟩ hea455 hr457 rfl rfl hl.1 rfl (by rw [cs_n]; exact Nat.le_of_ble_eq_true rfl) dL_law_1028 (fun H locs cells slots hst => ?_)
        refine W.eq (g2 := F0 m 1031 ls [.long x452]) rfl ?_
        refine jw_aload_n (r := v2) hx hb dL_law_1031 rfl (lv_at hl 2 rfl) ?_
        refine jw_aload_n (r := v0) hx hb dL_law_1032 rfl (lv_at hl 0 rfl) ?_
        refine lv_iload_n hx hb dL_law_1033 rfl (lv_at hl 3 rfl) ?_
        refine lv_iconst (v := 1) hx hb dL_law_1034 (by decide) ?_
        refine lv_iadd hx hb dL_law_1035 ?_
        obtain ⟨_, h458, hf⟩ := jm_rd_some hf
        refine jw_sld hx hb (jm_ck_some h458).1 hX hbl hbA hst (vp_in_iff.mpr (jm_ck_some h458).2) dL_law_1036 ?_
        obtain ⟨a462, h463, hf⟩ := jm_rd_some hf
        obtain ⟨fsa462, hea462, hr464⟩ := jm_cl_some h463
        obtain ⟨x459, Mm460, h461, hf⟩ := jm_bd_some hf
        refine jw_V (As := [.int (xs (v3 + (1 : Int32)).toNatClampNeg)]) (rest := [.long x452]) (C := RX1) (T := TX1) (N := 24) (rv := v2) (jt_X1_minors l g b N a462 (xs (v3 + (1 : Int32)).toNatClampNeg) Mm453 Mm460 x459 h461) C0 hK hst (jm_mono h461) (jm_le_tr (jm_mono hf) hle18) q1406 q1407 q1408 q73 q1409 hd_X1_minors ⟨Nat.le_of_ble_eq_true rfl, Nat.le_of_ble_eq_true rfl⟩ hea462 hr464 rfl rfl hl.1 rfl (by rw [cs_j, cs_n]; exact Nat.le_of_ble_eq_true rfl) dL_law_1037 (fun H locs cells slots hst => ?_)
        refine W.eq (g2 := F0 m 1040 ls [.long x459, .long x452]) rfl ?_
        refine W.lcmp hx hb dL_law_1040 ?_
        refine lv_if_eq (tgt := 1115) hx hb dL_law_1041 (by decide) (fun hc => ?_) (fun hc => ?_)
        · replace hc := (lg_cmp_eq _ _).mp hc
          rw [if_pos hc] at hf
          exact J1115 v3 _ hf _ _ _ _ _ hst (lv_sub hl [0, 1, 2, 3] rfl)
        · replace hc := fun q => hc ((lg_cmp_eq _ _).mpr q)
          rw [if_neg hc] at hf
          obtain ⟨rfl, rfl⟩ := jm_ret_some hf
          exact jm_or_l (jm_or_r (jm_or_r (jm_or_r (jm_or_r (jm_or_r (jm_or_r (jm_or_r (jm_or_r (jm_or_r (jm_or_r (jm_or_r (jm_or_r (jm_or_r (jm_or_r (jm_or_r (jm_or_r (jm_or_r (jm_or_r (jm_or_r (jm_or_r (jm_or_r (jm_or_r (jm_or_r (jm_or_r (jm_or_r (jm_or_r hk18)))))))))))))))))))))))))) _ _ _ _ _ hst (lv_sub hl [] rfl)
      rw [if_neg hn25] at hf
      by_cases hn26 : ((xs v3.toNatClampNeg) &&& (31 : Int32)) = (26 : Int32)
      · rw [if_pos hn26] at hf
        refine lv_tableIn (tgt := 1046) hx hb dL_law_32 (by rw [hn26]; decide) (by rw [hn26]; decide) (off := 1014) (by rw [hn26]; rfl) (by decide) ?_
        refine jw_aload_n (r := v1) hx hb dL_law_1046 rfl (lv_at hl 1 rfl) ?_
        refine jw_aload_n (r := v0) hx hb dL_law_1047 rfl (lv_at hl 0 rfl) ?_
        refine lv_iload_n hx hb dL_law_1048 rfl (lv_at hl 3 rfl) ?_
        refine lv_iconst (v := 1) hx hb dL_law_1049 (by decide) ?_
        refine lv_iadd hx hb dL_law_1050 ?_
        obtain ⟨_, h465, hf⟩ := jm_rd_some hf
        refine jw_sld hx hb (jm_ck_some h465).1 hX hbl hbA hst (vp_in_iff.mpr (jm_ck_some h465).2) dL_law_1051 ?_
        obtain ⟨a469, h470, hf⟩ := jm_rd_some hf
        obtain ⟨fsa469, hea469, hr471⟩ := jm_cl_some h470
        obtain ⟨x466, Mm467, h468, hf⟩ := jm_bd_some hf
        refine jw_V (As := [.int (xs (v3 + (1 : Int32)).toNatClampNeg)]) (rest := []) (C := RX0) (T := TX0) (N := 7) (rv := v1) (jt_X0_image l g b N a469 (xs (v3 + (1 : Int32)).toNatClampNeg) Mm42 Mm467 x466 h468) C0 hK hst (jm_mono h468) (jm_le_tr (jm_mono hf) hle18) q915 q916 q917 q72 q918 hd_X0_image ⟨Nat.le_of_ble_eq_true rfl, Nat.le_of_ble_eq_true rfl⟩ hea469 hr471 rfl rfl hl.1 rfl (by rw [cs_n]; exact Nat.le_of_ble_eq_true rfl) dL_law_1052 (fun H locs cells slots hst => ?_)
        refine W.eq (g2 := F0 m 1055 ls [.int x466]) rfl ?_
        refine jw_aload_n (r := v2) hx hb dL_law_1055 rfl (lv_at hl 2 rfl) ?_
        refine jw_aload_n (r := v0) hx hb dL_law_1056 rfl (lv_at hl 0 rfl) ?_
        refine lv_iload_n hx hb dL_law_1057 rfl (lv_at hl 3 rfl) ?_
        refine lv_iconst (v := 1) hx hb dL_law_1058 (by decide) ?_
        refine lv_iadd hx hb dL_law_1059 ?_
        obtain ⟨_, h472, hf⟩ := jm_rd_some hf
        refine jw_sld hx hb (jm_ck_some h472).1 hX hbl hbA hst (vp_in_iff.mpr (jm_ck_some h472).2) dL_law_1060 ?_
        obtain ⟨a476, h477, hf⟩ := jm_rd_some hf
        obtain ⟨fsa476, hea476, hr478⟩ := jm_cl_some h477
        obtain ⟨x473, Mm474, h475, hf⟩ := jm_bd_some hf
        refine jw_V (As := [.int (xs (v3 + (1 : Int32)).toNatClampNeg)]) (rest := [.int x466]) (C := RX1) (T := TX1) (N := 24) (rv := v2) (jt_X1_image l g b N a476 (xs (v3 + (1 : Int32)).toNatClampNeg) Mm467 Mm474 x473 h475) C0 hK hst (jm_mono h475) (jm_le_tr (jm_mono hf) hle18) q1410 q1411 q1412 q73 q1413 hd_X1_image ⟨Nat.le_of_ble_eq_true rfl, Nat.le_of_ble_eq_true rfl⟩ hea476 hr478 rfl rfl hl.1 rfl (by rw [cs_i, cs_n]; exact Nat.le_of_ble_eq_true rfl) dL_law_1061 (fun H locs cells slots hst => ?_)
        refine W.eq (g2 := F0 m 1064 ls [.int x473, .int x466]) rfl ?_
        refine lv_icmp_eq (tgt := 1115) hx hb dL_law_1064 (by decide) (fun hc => ?_) (fun hc => ?_)
        · rw [if_pos hc] at hf
          exact J1115 v3 _ hf _ _ _ _ _ hst (lv_sub hl [0, 1, 2, 3] rfl)
        · rw [if_neg hc] at hf
          obtain ⟨rfl, rfl⟩ := jm_ret_some hf
          exact jm_or_l (jm_or_r (jm_or_r (jm_or_r (jm_or_r (jm_or_r (jm_or_r (jm_or_r (jm_or_r (jm_or_r (jm_or_r (jm_or_r (jm_or_r (jm_or_r (jm_or_r (jm_or_r (jm_or_r (jm_or_r (jm_or_r (jm_or_r (jm_or_r (jm_or_r (jm_or_r (jm_or_r (jm_or_r (jm_or_r (jm_or_r (jm_or_r hk18))))))))))))))))))))))))))) _ _ _ _ _ hst (lv_sub hl [] rfl)
      rw [if_neg hn26] at hf
      by_cases hn27 : ((xs v3.toNatClampNeg) &&& (31 : Int32)) = (27 : Int32)
      · rw [if_pos hn27] at hf
        refine lv_tableIn (tgt := 1069) hx hb dL_law_32 (by rw [hn27]; decide) (by rw [hn27]; decide) (off := 1037) (by rw [hn27]; rfl) (by decide) ?_
        refine jw_aload_n (r := v1) hx hb dL_law_1069 rfl (lv_at hl 1 rfl) ?_
        refine jw_aload_n (r := v0) hx hb dL_law_1070 rfl (lv_at hl 0 rfl) ?_
        refine lv_iload_n hx hb dL_law_1071 rfl (lv_at hl 3 rfl) ?_
        refine lv_iconst (v := 1) hx hb dL_law_1072 (by decide) ?_
        refine lv_iadd hx hb dL_law_1073 ?_
        obtain ⟨_, h479, hf⟩ := jm_rd_some hf
        refine jw_sld hx hb (jm_ck_some h479).1 hX hbl hbA hst (vp_in_iff.mpr (jm_ck_some h479).2) dL_law_1074 ?_
        obtain ⟨a483, h484, hf⟩ := jm_rd_some hf
        obtain ⟨fsa483, hea483, hr485⟩ := jm_cl_some h484
        obtain ⟨x480, Mm481, h482, hf⟩ := jm_bd_some hf
        refine jw_V (As := [.int (xs (v3 + (1 : Int32)).toNatClampNeg)]) (rest := []) (C := RX0) (T := TX0) (N := 7) (rv := v1) (jt_X0_restore l g b N a483 (xs (v3 + (1 : Int32)).toNatClampNeg) Mm42 Mm481 x480 h482) C0 hK hst (jm_mono h482) (jm_le_tr (jm_mono hf) hle18) q919 q920 q921 q72 q922 hd_X0_restore ⟨Nat.le_of_ble_eq_true rfl, Nat.le_of_ble_eq_true rfl⟩ hea483 hr485 rfl rfl hl.1 rfl (by rw [cs_n]; exact Nat.le_of_ble_eq_true rfl) dL_law_1075 (fun H locs cells slots hst => ?_)
        refine W.eq (g2 := F0 m 1078 ls [.int x480]) rfl ?_
        refine jw_aload_n (r := v2) hx hb dL_law_1078 rfl (lv_at hl 2 rfl) ?_
        refine jw_aload_n (r := v0) hx hb dL_law_1079 rfl (lv_at hl 0 rfl) ?_
        refine lv_iload_n hx hb dL_law_1080 rfl (lv_at hl 3 rfl) ?_
        refine lv_iconst (v := 1) hx hb dL_law_1081 (by decide) ?_
        refine lv_iadd hx hb dL_law_1082 ?_
        obtain ⟨_, h486, hf⟩ := jm_rd_some hf
        refine jw_sld hx hb (jm_ck_some h486).1 hX hbl hbA hst (vp_in_iff.mpr (jm_ck_some h486).2) dL_law_1083 ?_
        obtain ⟨a490, h491, hf⟩ := jm_rd_some hf
        obtain ⟨fsa490, hea490, hr492⟩ := jm_cl_some h491
        obtain ⟨x487, Mm488, h489, hf⟩ := jm_bd_some hf
        refine jw_V (As := [.int (xs (v3 + (1 : Int32)).toNatClampNeg)]) (rest := [.int x480]) (C := RX1) (T := TX1) (N := 24) (rv := v2) (jt_X1_restore l g b N a490 (xs (v3 + (1 : Int32)).toNatClampNeg) Mm481 Mm488 x487 h489) C0 hK hst (jm_mono h489) (jm_le_tr (jm_mono hf) hle18) q1414 q1415 q1416 q73 q1417 hd_X1_restore ⟨Nat.le_of_ble_eq_true rfl, Nat.le_of_ble_eq_true rfl⟩ hea490 hr492 rfl rfl hl.1 rfl (by rw [cs_i, cs_n]; exact Nat.le_of_ble_eq_true rfl) dL_law_1084 (fun H locs cells slots hst => ?_)
        refine W.eq (g2 := F0 m 1087 ls [.int x487, .int x480]) rfl ?_
        refine lv_icmp_eq (tgt := 1115) hx hb dL_law_1087 (by decide) (fun hc => ?_) (fun hc => ?_)
        · rw [if_pos hc] at hf
          exact J1115 v3 _ hf _ _ _ _ _ hst (lv_sub hl [0, 1, 2, 3] rfl)
        · rw [if_neg hc] at hf
          obtain ⟨rfl, rfl⟩ := jm_ret_some hf
          exact jm_or_l (jm_or_r (jm_or_r (jm_or_r (jm_or_r (jm_or_r (jm_or_r (jm_or_r (jm_or_r (jm_or_r (jm_or_r (jm_or_r (jm_or_r (jm_or_r (jm_or_r (jm_or_r (jm_or_r (jm_or_r (jm_or_r (jm_or_r (jm_or_r (jm_or_r (jm_or_r (jm_or_r (jm_or_r (jm_or_r (jm_or_r (jm_or_r (jm_or_r hk18)))))))))))))))))))))))))))) _ _ _ _ _ hst (lv_sub hl [] rfl)
      rw [if_neg hn27] at hf
      by_cases hn28 : ((xs v3.toNatClampNeg) &&& (31 : Int32)) = (28 : Int32)
      · rw [if_pos hn28] at hf
        refine lv_tableIn (tgt := 1092) hx hb dL_law_32 (by rw [hn28]; decide) (by rw [hn28]; decide) (off := 1060) (by rw [hn28]; rfl) (by decide) ?_
        refine jw_aload_n (r := v1) hx hb dL_law_1092 rfl (lv_at hl 1 rfl) ?_
        refine jw_aload_n (r := v0) hx hb dL_law_1093 rfl (lv_at hl 0 rfl) ?_
        refine lv_iload_n hx hb dL_law_1094 rfl (lv_at hl 3 rfl) ?_
        refine lv_iconst (v := 1) hx hb dL_law_1095 (by decide) ?_
        refine lv_iadd hx hb dL_law_1096 ?_
        obtain ⟨_, h493, hf⟩ := jm_rd_some hf
        refine jw_sld hx hb (jm_ck_some h493).1 hX hbl hbA hst (vp_in_iff.mpr (jm_ck_some h493).2) dL_law_1097 ?_
        obtain ⟨a497, h498, hf⟩ := jm_rd_some hf
        obtain ⟨fsa497, hea497, hr499⟩ := jm_cl_some h498
        obtain ⟨x494, Mm495, h496, hf⟩ := jm_bd_some hf
        refine jw_V (As := [.int (xs (v3 + (1 : Int32)).toNatClampNeg)]) (rest := []) (C := RX0) (T := TX0) (N := 7) (rv := v1) (jt_X0_count l g b N a497 (xs (v3 + (1 : Int32)).toNatClampNeg) Mm42 Mm495 x494 h496) C0 hK hst (jm_mono h496) (jm_le_tr (jm_mono hf) hle18) q923 q924 q925 q72 q926 hd_X0_count ⟨Nat.le_of_ble_eq_true rfl, Nat.le_of_ble_eq_true rfl⟩ hea497 hr499 rfl rfl hl.1 rfl (by rw [cs_n]; exact Nat.le_of_ble_eq_true rfl) dL_law_1098 (fun H locs cells slots hst => ?_)
        refine W.eq (g2 := F0 m 1101 ls [.int x494]) rfl ?_
        refine jw_aload_n (r := v2) hx hb dL_law_1101 rfl (lv_at hl 2 rfl) ?_
        refine jw_aload_n (r := v0) hx hb dL_law_1102 rfl (lv_at hl 0 rfl) ?_
        refine lv_iload_n hx hb dL_law_1103 rfl (lv_at hl 3 rfl) ?_
        refine lv_iconst (v := 1) hx hb dL_law_1104 (by decide) ?_
        refine lv_iadd hx hb dL_law_1105 ?_
        obtain ⟨_, h500, hf⟩ := jm_rd_some hf
        refine jw_sld hx hb (jm_ck_some h500).1 hX hbl hbA hst (vp_in_iff.mpr (jm_ck_some h500).2) dL_law_1106 ?_
        obtain ⟨a504, h505, hf⟩ := jm_rd_some hf
        obtain ⟨fsa504, hea504, hr506⟩ := jm_cl_some h505
        obtain ⟨x501, Mm502, h503, hf⟩ := jm_bd_some hf
        refine jw_V (As := [.int (xs (v3 + (1 : Int32)).toNatClampNeg)]) (rest := [.int x494]) (C := RX1) (T := TX1) (N := 24) (rv := v2) (jt_X1_count l g b N a504 (xs (v3 + (1 : Int32)).toNatClampNeg) Mm495 Mm502 x501 h503) C0 hK hst (jm_mono h503) (jm_le_tr (jm_mono hf) hle18) q1418 q1419 q1420 q73 q1421 hd_X1_count ⟨Nat.le_of_ble_eq_true rfl, Nat.le_of_ble_eq_true rfl⟩ hea504 hr506 rfl rfl hl.1 rfl (by rw [cs_i, cs_n]; exact Nat.le_of_ble_eq_true rfl) dL_law_1107 (fun H locs cells slots hst => ?_)
        refine W.eq (g2 := F0 m 1110 ls [.int x501, .int x494]) rfl ?_
        refine lv_icmp_eq (tgt := 1115) hx hb dL_law_1110 (by decide) (fun hc => ?_) (fun hc => ?_)
        · rw [if_pos hc] at hf
          exact J1115 v3 _ hf _ _ _ _ _ hst (lv_sub hl [0, 1, 2, 3] rfl)
        · rw [if_neg hc] at hf
          obtain ⟨rfl, rfl⟩ := jm_ret_some hf
          exact jm_or_l (jm_or_r (jm_or_r (jm_or_r (jm_or_r (jm_or_r (jm_or_r (jm_or_r (jm_or_r (jm_or_r (jm_or_r (jm_or_r (jm_or_r (jm_or_r (jm_or_r (jm_or_r (jm_or_r (jm_or_r (jm_or_r (jm_or_r (jm_or_r (jm_or_r (jm_or_r (jm_or_r (jm_or_r (jm_or_r (jm_or_r (jm_or_r (jm_or_r (jm_or_r hk18))))))))))))))))))))))))))))) _ _ _ _ _ hst (lv_sub hl [] rfl)
      rw [if_neg hn28] at hf
      have hz0 : ((xs v3.toNatClampNeg) &&& (31 : Int32)).toInt ≠ 0 := fun q => hn0 (Int32.toInt_inj.mp (q.trans (by decide)))
      have hz1 : ((xs v3.toNatClampNeg) &&& (31 : Int32)).toInt ≠ 1 := fun q => hn1 (Int32.toInt_inj.mp (q.trans (by decide)))
      have hz2 : ((xs v3.toNatClampNeg) &&& (31 : Int32)).toInt ≠ 2 := fun q => hn2 (Int32.toInt_inj.mp (q.trans (by decide)))
      have hz3 : ((xs v3.toNatClampNeg) &&& (31 : Int32)).toInt ≠ 3 := fun q => hn3 (Int32.toInt_inj.mp (q.trans (by decide)))
      have hz4 : ((xs v3.toNatClampNeg) &&& (31 : Int32)).toInt ≠ 4 := fun q => hn4 (Int32.toInt_inj.mp (q.trans (by decide)))
      have hz5 : ((xs v3.toNatClampNeg) &&& (31 : Int32)).toInt ≠ 5 := fun q => hn5 (Int32.toInt_inj.mp (q.trans (by decide)))
      have hz6 : ((xs v3.toNatClampNeg) &&& (31 : Int32)).toInt ≠ 6 := fun q => hn6 (Int32.toInt_inj.mp (q.trans (by decide)))
      have hz7 : ((xs v3.toNatClampNeg) &&& (31 : Int32)).toInt ≠ 7 := fun q => hn7 (Int32.toInt_inj.mp (q.trans (by decide)))
      have hz8 : ((xs v3.toNatClampNeg) &&& (31 : Int32)).toInt ≠ 8 := fun q => hn8 (Int32.toInt_inj.mp (q.trans (by decide)))
      have hz9 : ((xs v3.toNatClampNeg) &&& (31 : Int32)).toInt ≠ 9 := fun q => hn9 (Int32.toInt_inj.mp (q.trans (by decide)))
      have hz10 : ((xs v3.toNatClampNeg) &&& (31 : Int32)).toInt ≠ 10 := fun q => hn10 (Int32.toInt_inj.mp (q.trans (by decide)))
      have hz11 : ((xs v3.toNatClampNeg) &&& (31 : Int32)).toInt ≠ 11 := fun q => hn11 (Int32.toInt_inj.mp (q.trans (by decide)))
      have hz12 : ((xs v3.toNatClampNeg) &&& (31 : Int32)).toInt ≠ 12 := fun q => hn12 (Int32.toInt_inj.mp (q.trans (by decide)))
      have hz13 : ((xs v3.toNatClampNeg) &&& (31 : Int32)).toInt ≠ 13 := fun q => hn13 (Int32.toInt_inj.mp (q.trans (by decide)))
      have hz14 : ((xs v3.toNatClampNeg) &&& (31 : Int32)).toInt ≠ 14 := fun q => hn14 (Int32.toInt_inj.mp (q.trans (by decide)))
      have hz15 : ((xs v3.toNatClampNeg) &&& (31 : Int32)).toInt ≠ 15 := fun q => hn15 (Int32.toInt_inj.mp (q.trans (by decide)))
      have hz16 : ((xs v3.toNatClampNeg) &&& (31 : Int32)).toInt ≠ 16 := fun q => hn16 (Int32.toInt_inj.mp (q.trans (by decide)))
      have hz17 : ((xs v3.toNatClampNeg) &&& (31 : Int32)).toInt ≠ 17 := fun q => hn17 (Int32.toInt_inj.mp (q.trans (by decide)))
      have hz18 : ((xs v3.toNatClampNeg) &&& (31 : Int32)).toInt ≠ 18 := fun q => hn18 (Int32.toInt_inj.mp (q.trans (by decide)))
      have hz19 : ((xs v3.toNatClampNeg) &&& (31 : Int32)).toInt ≠ 19 := fun q => hn19 (Int32.toInt_inj.mp (q.trans (by decide)))
      have hz20 : ((xs v3.toNatClampNeg) &&& (31 : Int32)).toInt ≠ 20 := fun q => hn20 (Int32.toInt_inj.mp (q.trans (by decide)))
      have hz21 : ((xs v3.toNatClampNeg) &&& (31 : Int32)).toInt ≠ 21 := fun q => hn21 (Int32.toInt_inj.mp (q.trans (by decide)))
      have hz22 : ((xs v3.toNatClampNeg) &&& (31 : Int32)).toInt ≠ 22 := fun q => hn22 (Int32.toInt_inj.mp (q.trans (by decide)))
      have hz23 : ((xs v3.toNatClampNeg) &&& (31 : Int32)).toInt ≠ 23 := fun q => hn23 (Int32.toInt_inj.mp (q.trans (by decide)))
      have hz24 : ((xs v3.toNatClampNeg) &&& (31 : Int32)).toInt ≠ 24 := fun q => hn24 (Int32.toInt_inj.mp (q.trans (by decide)))
      have hz25 : ((xs v3.toNatClampNeg) &&& (31 : Int32)).toInt ≠ 25 := fun q => hn25 (Int32.toInt_inj.mp (q.trans (by decide)))
      have hz26 : ((xs v3.toNatClampNeg) &&& (31 : Int32)).toInt ≠ 26 := fun q => hn26 (Int32.toInt_inj.mp (q.trans (by decide)))
      have hz27 : ((xs v3.toNatClampNeg) &&& (31 : Int32)).toInt ≠ 27 := fun q => hn27 (Int32.toInt_inj.mp (q.trans (by decide)))
      have hz28 : ((xs v3.toNatClampNeg) &&& (31 : Int32)).toInt ≠ 28 := fun q => hn28 (Int32.toInt_inj.mp (q.trans (by decide)))
      refine lv_tableOut (tgt := 1115) hx hb dL_law_32 (by omega) (by decide) ?_
      exact J1115 v3 _ hf _ _ _ _ _ hst (lv_sub hl [0, 1, 2, 3] rfl)
  unfold jf_L_law at hf
  obtain ⟨q31, hq31, hf⟩ := jm_al_some hf
  refine jw_new (ci := 0) (C := RX0) (T := TX0) (N := 7) (fs := [.null, .null, .int 0, .int 0, .null, .int 0, .null]) hx hb hts in_X0 tyX0 tyX0_ok hown (hts _ q93) (hts _ q94) (hts _ q72) hK hst rfl (fun j hj => by match j, hj with | 0, _ => rfl | 1, _ => rfl | 2, _ => rfl | 3, _ => rfl | 4, _ => rfl | 5, _ => rfl | 6, _ => rfl | k + 7, hj => omega) rfl (jm_le_tr (jm_mono hf) jm_le_rf) hq31 dL_law_0 (fun H cells slots hst => ?_)
  generalize jm_new (.inr (0, [.null, .null, .int 0, .int 0, .null, .int 0, .null])) M = Mm32 at hf hst
  refine lv_dup hx hb dL_law_3 (va_rf_cat _) ?_
  obtain ⟨x33, Mm34, h35, hf⟩ := jm_bd_some hf
  refine jw_I (As := []) (rest := [va_rf (some q31)]) (rv := (some q31)) (jt_X0_init l g b N q31  Mm32 Mm34 x33 h35) C0 hK hst (jm_mono h35) (jm_le_tr (jm_mono hf) jm_le_rf) q95 q96 q72 q97 rfl hd_X0_init.2 ⟨Nat.le_of_ble_eq_true rfl, Nat.le_of_ble_eq_true rfl⟩ rfl rfl hl.1 rfl (by rw [cs_r, cs_n]; exact Nat.le_of_ble_eq_true rfl) dL_law_4 (fun H locs cells slots hst => ?_)
  refine W.eq (g2 := F0 m 7 ls [va_rf (some q31)]) rfl ?_
  refine jw_astore_n (i := 1) (r := (some q31)) (lv' := [(1, va_rf (some q31)), (0, va_rf (some sc))]) hx hb dL_law_7 rfl hl (by decide) (by simp [va_rf_cat, cat_i, cat_j, cat_f]) (fun ls hl => ?_)
  obtain ⟨q36, hq36, hf⟩ := jm_al_some hf
  refine jw_new (ci := 1) (C := RX1) (T := TX1) (N := 24) (fs := [.null, .null, .null, .int 0, .null, .null, .null, .int 0, .int 0, .int 0, .int 0, .int 0, .int 0, .int 0, .int 0, .null, .null, .long 0, .null, .null, .null, .null, .long 0, .long 0]) hx hb hts in_X1 tyX1 tyX1_ok hown (hts _ q927) (hts _ q928) (hts _ q73) hK hst rfl (fun j hj => by match j, hj with | 0, _ => rfl | 1, _ => rfl | 2, _ => rfl | 3, _ => rfl | 4, _ => rfl | 5, _ => rfl | 6, _ => rfl | 7, _ => rfl | 8, _ => rfl | 9, _ => rfl | 10, _ => rfl | 11, _ => rfl | 12, _ => rfl | 13, _ => rfl | 14, _ => rfl | 15, _ => rfl | 16, _ => rfl | 17, _ => rfl | 18, _ => rfl | 19, _ => rfl | 20, _ => rfl | 21, _ => rfl | 22, _ => rfl | 23, _ => rfl | k + 24, hj => omega) rfl (jm_le_tr (jm_mono hf) jm_le_rf) hq36 dL_law_8 (fun H cells slots hst => ?_)
  generalize jm_new (.inr (1, [.null, .null, .null, .int 0, .null, .null, .null, .int 0, .int 0, .int 0, .int 0, .int 0, .int 0, .int 0, .int 0, .null, .null, .long 0, .null, .null, .null, .null, .long 0, .long 0])) Mm34 = Mm37 at hf hst
  refine lv_dup hx hb dL_law_11 (va_rf_cat _) ?_
  obtain ⟨x38, Mm39, h40, hf⟩ := jm_bd_some hf
  refine jw_I (As := []) (rest := [va_rf (some q36)]) (rv := (some q36)) (jt_X1_init l g b N q36  Mm37 Mm39 x38 h40) C0 hK hst (jm_mono h40) (jm_le_tr (jm_mono hf) jm_le_rf) q929 q930 q73 q931 rfl hd_X1_init.2 ⟨Nat.le_of_ble_eq_true rfl, Nat.le_of_ble_eq_true rfl⟩ rfl rfl hl.1 rfl (by rw [cs_r, cs_n]; exact Nat.le_of_ble_eq_true rfl) dL_law_12 (fun H locs cells slots hst => ?_)
  refine W.eq (g2 := F0 m 15 ls [va_rf (some q36)]) rfl ?_
  refine jw_astore_n (i := 2) (r := (some q36)) (lv' := [(2, va_rf (some q36)), (1, va_rf (some q31)), (0, va_rf (some sc))]) hx hb dL_law_15 rfl hl (by decide) (by simp [va_rf_cat, cat_i, cat_j, cat_f]) (fun ls hl => ?_)
  refine lv_iconst (v := 0) hx hb dL_law_16 (by decide) ?_
  refine lv_istore_n (i := 3) (lv' := [(3, .int (0 : Int32)), (2, va_rf (some q36)), (1, va_rf (some q31)), (0, va_rf (some sc))]) hx hb dL_law_17 rfl hl (by decide) (by simp [va_rf_cat, cat_i, cat_j, cat_f]) (fun ls hl => ?_)
  obtain ⟨xl18, Ml18, hit18, hf⟩ := jm_bd_some hf
  have hlf18 : jm_le Ml18 M' := jm_le_tr (jm_mono hf) jm_le_rf
  have hwe18 : (fun (y : (Unit ⊕ (Unit ⊕ (Unit ⊕ (Unit ⊕ (Unit ⊕ (Unit ⊕ (Unit ⊕ (Unit ⊕ (Unit ⊕ (Unit ⊕ (Unit ⊕ (Unit ⊕ (Unit ⊕ (Unit ⊕ (Unit ⊕ (Unit ⊕ (Unit ⊕ (Unit ⊕ (Unit ⊕ (Unit ⊕ (Unit ⊕ (Unit ⊕ (Unit ⊕ (Unit ⊕ (Unit ⊕ (Unit ⊕ (Unit ⊕ (Unit ⊕ (Unit ⊕ Unit)))))))))))))))))))))))))))))) (Mz : Mem) => jm_or (fun (y : Unit) => ∀ (H : Heap) (locs : List Loc) (cells slots : Nat) (ls : Array Slot), jm_St g b M M' Mz s room_1 H locs cells slots → lv_has ls 4 [] → W p l e room_1 s m args below meth c H locs cells slots Q (F0 m 185 ls [])) (jm_or (fun (y : Unit) => ∀ (H : Heap) (locs : List Loc) (cells slots : Nat) (ls : Array Slot), jm_St g b M M' Mz s room_1 H locs cells slots → lv_has ls 4 [] → W p l e room_1 s m args below meth c H locs cells slots Q (F0 m 198 ls [])) (jm_or (fun (y : Unit) => ∀ (H : Heap) (locs : List Loc) (cells slots : Nat) (ls : Array Slot), jm_St g b M M' Mz s room_1 H locs cells slots → lv_has ls 4 [] → W p l e room_1 s m args below meth c H locs cells slots Q (F0 m 211 ls [])) (jm_or (fun (y : Unit) => ∀ (H : Heap) (locs : List Loc) (cells slots : Nat) (ls : Array Slot), jm_St g b M M' Mz s room_1 H locs cells slots → lv_has ls 4 [] → W p l e room_1 s m args below meth c H locs cells slots Q (F0 m 224 ls [])) (jm_or (fun (y : Unit) => ∀ (H : Heap) (locs : List Loc) (cells slots : Nat) (ls : Array Slot), jm_St g b M M' Mz s room_1 H locs cells slots → lv_has ls 4 [] → W p l e room_1 s m args below meth c H locs cells slots Q (F0 m 267 ls [])) (jm_or (fun (y : Unit) => ∀ (H : Heap) (locs : List Loc) (cells slots : Nat) (ls : Array Slot), jm_St g b M M' Mz s room_1 H locs cells slots → lv_has ls 4 [] → W p l e room_1 s m args below meth c H locs cells slots Q (F0 m 310 ls [])) (jm_or (fun (y : Unit) => ∀ (H : Heap) (locs : List Loc) (cells slots : Nat) (ls : Array Slot), jm_St g b M M' Mz s room_1 H locs cells slots → lv_has ls 4 [] → W p l e room_1 s m args below meth c H locs cells slots Q (F0 m 333 ls [])) (jm_or (fun (y : Unit) => ∀ (H : Heap) (locs : List Loc) (cells slots : Nat) (ls : Array Slot), jm_St g b M M' Mz s room_1 H locs cells slots → lv_has ls 4 [] → W p l e room_1 s m args below meth c H locs cells slots Q (F0 m 366 ls [])) (jm_or (fun (y : Unit) => ∀ (H : Heap) (locs : List Loc) (cells slots : Nat) (ls : Array Slot), jm_St g b M M' Mz s room_1 H locs cells slots → lv_has ls 4 [] → W p l e room_1 s m args below meth c H locs cells slots Q (F0 m 409 ls [])) (jm_or (fun (y : Unit) => ∀ (H : Heap) (locs : List Loc) (cells slots : Nat) (ls : Array Slot), jm_St g b M M' Mz s room_1 H locs cells slots → lv_has ls 4 [] → W p l e room_1 s m args below meth c H locs cells slots Q (F0 m 452 ls [])) (jm_or (fun (y : Unit) => ∀ (H : Heap) (locs : List Loc) (cells slots : Nat) (ls : Array Slot), jm_St g b M M' Mz s room_1 H locs cells slots → lv_has ls 4 [] → W p l e room_1 s m args below meth c H locs cells slots Q (F0 m 485 ls [])) (jm_or (fun (y : Unit) => ∀ (H : Heap) (locs : List Loc) (cells slots : Nat) (ls : Array Slot), jm_St g b M M' Mz s room_1 H locs cells slots → lv_has ls 4 [] → W p l e room_1 s m args below meth c H locs cells slots Q (F0 m 528 ls [])) (jm_or (fun (y : Unit) => ∀ (H : Heap) (locs : List Loc) (cells slots : Nat) (ls : Array Slot), jm_St g b M M' Mz s room_1 H locs cells slots → lv_has ls 4 [] → W p l e room_1 s m args below meth c H locs cells slots Q (F0 m 571 ls [])) (jm_or (fun (y : Unit) => ∀ (H : Heap) (locs : List Loc) (cells slots : Nat) (ls : Array Slot), jm_St g b M M' Mz s room_1 H locs cells slots → lv_has ls 4 [] → W p l e room_1 s m args below meth c H locs cells slots Q (F0 m 614 ls [])) (jm_or (fun (y : Unit) => ∀ (H : Heap) (locs : List Loc) (cells slots : Nat) (ls : Array Slot), jm_St g b M M' Mz s room_1 H locs cells slots → lv_has ls 4 [] → W p l e room_1 s m args below meth c H locs cells slots Q (F0 m 657 ls [])) (jm_or (fun (y : Unit) => ∀ (H : Heap) (locs : List Loc) (cells slots : Nat) (ls : Array Slot), jm_St g b M M' Mz s room_1 H locs cells slots → lv_has ls 4 [] → W p l e room_1 s m args below meth c H locs cells slots Q (F0 m 690 ls [])) (jm_or (fun (y : Unit) => ∀ (H : Heap) (locs : List Loc) (cells slots : Nat) (ls : Array Slot), jm_St g b M M' Mz s room_1 H locs cells slots → lv_has ls 4 [] → W p l e room_1 s m args below meth c H locs cells slots Q (F0 m 723 ls [])) (jm_or (fun (y : Unit) => ∀ (H : Heap) (locs : List Loc) (cells slots : Nat) (ls : Array Slot), jm_St g b M M' Mz s room_1 H locs cells slots → lv_has ls 4 [] → W p l e room_1 s m args below meth c H locs cells slots Q (F0 m 756 ls [])) (jm_or (fun (y : Unit) => ∀ (H : Heap) (locs : List Loc) (cells slots : Nat) (ls : Array Slot), jm_St g b M M' Mz s room_1 H locs cells slots → lv_has ls 4 [] → W p l e room_1 s m args below meth c H locs cells slots Q (F0 m 789 ls [])) (jm_or (fun (y : Unit) => ∀ (H : Heap) (locs : List Loc) (cells slots : Nat) (ls : Array Slot), jm_St g b M M' Mz s room_1 H locs cells slots → lv_has ls 4 [] → W p l e room_1 s m args below meth c H locs cells slots Q (F0 m 822 ls [])) (jm_or (fun (y : Unit) => ∀ (H : Heap) (locs : List Loc) (cells slots : Nat) (ls : Array Slot), jm_St g b M M' Mz s room_1 H locs cells slots → lv_has ls 4 [] → W p l e room_1 s m args below meth c H locs cells slots Q (F0 m 855 ls [])) (jm_or (fun (y : Unit) => ∀ (H : Heap) (locs : List Loc) (cells slots : Nat) (ls : Array Slot), jm_St g b M M' Mz s room_1 H locs cells slots → lv_has ls 4 [] → W p l e room_1 s m args below meth c H locs cells slots Q (F0 m 909 ls [])) (jm_or (fun (y : Unit) => ∀ (H : Heap) (locs : List Loc) (cells slots : Nat) (ls : Array Slot), jm_St g b M M' Mz s room_1 H locs cells slots → lv_has ls 4 [] → W p l e room_1 s m args below meth c H locs cells slots Q (F0 m 953 ls [])) (jm_or (fun (y : Unit) => ∀ (H : Heap) (locs : List Loc) (cells slots : Nat) (ls : Array Slot), jm_St g b M M' Mz s room_1 H locs cells slots → lv_has ls 4 [] → W p l e room_1 s m args below meth c H locs cells slots Q (F0 m 986 ls [])) (jm_or (fun (y : Unit) => ∀ (H : Heap) (locs : List Loc) (cells slots : Nat) (ls : Array Slot), jm_St g b M M' Mz s room_1 H locs cells slots → lv_has ls 4 [] → W p l e room_1 s m args below meth c H locs cells slots Q (F0 m 1020 ls [])) (jm_or (fun (y : Unit) => ∀ (H : Heap) (locs : List Loc) (cells slots : Nat) (ls : Array Slot), jm_St g b M M' Mz s room_1 H locs cells slots → lv_has ls 4 [] → W p l e room_1 s m args below meth c H locs cells slots Q (F0 m 1044 ls [])) (jm_or (fun (y : Unit) => ∀ (H : Heap) (locs : List Loc) (cells slots : Nat) (ls : Array Slot), jm_St g b M M' Mz s room_1 H locs cells slots → lv_has ls 4 [] → W p l e room_1 s m args below meth c H locs cells slots Q (F0 m 1067 ls [])) (jm_or (fun (y : Unit) => ∀ (H : Heap) (locs : List Loc) (cells slots : Nat) (ls : Array Slot), jm_St g b M M' Mz s room_1 H locs cells slots → lv_has ls 4 [] → W p l e room_1 s m args below meth c H locs cells slots Q (F0 m 1090 ls [])) (jm_or (fun (y : Unit) => ∀ (H : Heap) (locs : List Loc) (cells slots : Nat) (ls : Array Slot), jm_St g b M M' Mz s room_1 H locs cells slots → lv_has ls 4 [] → W p l e room_1 s m args below meth c H locs cells slots Q (F0 m 1113 ls [])) (fun (y : Unit) => ∀ (H : Heap) (locs : List Loc) (cells slots : Nat) (ls : Array Slot), jm_St g b M M' Mz s room_1 H locs cells slots → lv_has ls 4 [] → W p l e room_1 s m args below meth c H locs cells slots Q (F0 m 1121 ls [])))))))))))))))))))))))))))))) y) xl18 Ml18 := by
    cases xl18 with
    | inl y0 => exact fun H locs cells slots ls hst hl => K18_185  _ hf H locs cells slots ls hst hl
    | inr y0 =>
      cases y0 with
      | inl y1 => exact fun H locs cells slots ls hst hl => K18_198  _ hf H locs cells slots ls hst hl
      | inr y1 =>
        cases y1 with
        | inl y2 => exact fun H locs cells slots ls hst hl => K18_211  _ hf H locs cells slots ls hst hl
        | inr y2 =>
          cases y2 with
          | inl y3 => exact fun H locs cells slots ls hst hl => K18_224  _ hf H locs cells slots ls hst hl
          | inr y3 =>
            cases y3 with
            | inl y4 => exact fun H locs cells slots ls hst hl => K18_267  _ hf H locs cells slots ls hst hl
            | inr y4 =>
              cases y4 with
              | inl y5 => exact fun H locs cells slots ls hst hl => K18_310  _ hf H locs cells slots ls hst hl
              | inr y5 =>
                cases y5 with
                | inl y6 => exact fun H locs cells slots ls hst hl => K18_333  _ hf H locs cells slots ls hst hl
                | inr y6 =>
                  cases y6 with
                  | inl y7 => exact fun H locs cells slots ls hst hl => K18_366  _ hf H locs cells slots ls hst hl
                  | inr y7 =>
                    cases y7 with
                    | inl y8 => exact fun H locs cells slots ls hst hl => K18_409  _ hf H locs cells slots ls hst hl
                    | inr y8 =>
                      cases y8 with
                      | inl y9 => exact fun H locs cells slots ls hst hl => K18_452  _ hf H locs cells slots ls hst hl
                      | inr y9 =>
                        cases y9 with
                        | inl y10 => exact fun H locs cells slots ls hst hl => K18_485  _ hf H locs cells slots ls hst hl
                        | inr y10 =>
                          cases y10 with
                          | inl y11 => exact fun H locs cells slots ls hst hl => K18_528  _ hf H locs cells slots ls hst hl
                          | inr y11 =>
                            cases y11 with
                            | inl y12 => exact fun H locs cells slots ls hst hl => K18_571  _ hf H locs cells slots ls hst hl
                            | inr y12 =>
                              cases y12 with
                              | inl y13 => exact fun H locs cells slots ls hst hl => K18_614  _ hf H locs cells slots ls hst hl
                              | inr y13 =>
                                cases y13 with
                                | inl y14 => exact fun H locs cells slots ls hst hl => K18_657  _ hf H locs cells slots ls hst hl
                                | inr y14 =>
                                  cases y14 with
                                  | inl y15 => exact fun H locs cells slots ls hst hl => K18_690  _ hf H locs cells slots ls hst hl
                                  | inr y15 =>
                                    cases y15 with
                                    | inl y16 => exact fun H locs cells slots ls hst hl => K18_723  _ hf H locs cells slots ls hst hl
                                    | inr y16 =>
                                      cases y16 with
                                      | inl y17 => exact fun H locs cells slots ls hst hl => K18_756  _ hf H locs cells slots ls hst hl
                                      | inr y17 =>
                                        cases y17 with
                                        | inl y18 => exact fun H locs cells slots ls hst hl => K18_789  _ hf H locs cells slots ls hst hl
                                        | inr y18 =>
                                          cases y18 with
                                          | inl y19 => exact fun H locs cells slots ls hst hl => K18_822  _ hf H locs cells slots ls hst hl
                                          | inr y19 =>
                                            cases y19 with
                                            | inl y20 => exact fun H locs cells slots ls hst hl => K18_855  _ hf H locs cells slots ls hst hl
                                            | inr y20 =>
                                              cases y20 with
                                              | inl y21 => exact fun H locs cells slots ls hst hl => K18_909  _ hf H locs cells slots ls hst hl
                                              | inr y21 =>
                                                cases y21 with
                                                | inl y22 => exact fun H locs cells slots ls hst hl => K18_953  _ hf H locs cells slots ls hst hl
                                                | inr y22 =>
                                                  cases y22 with
                                                  | inl y23 => exact fun H locs cells slots ls hst hl => K18_986  _ hf H locs cells slots ls hst hl
                                                  | inr y23 =>
                                                    cases y23 with
                                                    | inl y24 => exact fun H locs cells slots ls hst hl => K18_1020  _ hf H locs cells slots ls hst hl
                                                    | inr y24 =>
                                                      cases y24 with
                                                      | inl y25 => exact fun H locs cells slots ls hst hl => K18_1044  _ hf H locs cells slots ls hst hl
                                                      | inr y25 =>
                                                        cases y25 with
                                                        | inl y26 => exact fun H locs cells slots ls hst hl => K18_1067  _ hf H locs cells slots ls hst hl
                                                        | inr y26 =>
                                                          cases y26 with
                                                          | inl y27 => exact fun H locs cells slots ls hst hl => K18_1090  _ hf H locs cells slots ls hst hl
                                                          | inr y27 =>
                                                            cases y27 with
                                                            | inl y28 => exact fun H locs cells slots ls hst hl => K18_1113  _ hf H locs cells slots ls hst hl
                                                            | inr y28 =>
                                                              exact fun H locs cells slots ls hst hl => K18_1121  _ hf H locs cells slots ls hst hl
  refine jm_it_walk (Mf := M') (Wh := fun (z : Int32) (Mz : Mem) => ∀ (H : Heap) (locs : List Loc) (cells slots : Nat) (ls : Array Slot), jm_St g b M M' Mz s room_1 H locs cells slots → lv_has ls 4 [(0, va_rf (some sc)), (1, va_rf (some q31)), (2, va_rf (some q36)), (3, .int z)] → W p l e room_1 s m args below meth c H locs cells slots Q (F0 m 18 ls [])) (We := fun (y : (Unit ⊕ (Unit ⊕ (Unit ⊕ (Unit ⊕ (Unit ⊕ (Unit ⊕ (Unit ⊕ (Unit ⊕ (Unit ⊕ (Unit ⊕ (Unit ⊕ (Unit ⊕ (Unit ⊕ (Unit ⊕ (Unit ⊕ (Unit ⊕ (Unit ⊕ (Unit ⊕ (Unit ⊕ (Unit ⊕ (Unit ⊕ (Unit ⊕ (Unit ⊕ (Unit ⊕ (Unit ⊕ (Unit ⊕ (Unit ⊕ (Unit ⊕ (Unit ⊕ Unit)))))))))))))))))))))))))))))) (Mz : Mem) => jm_or (fun (y : Unit) => ∀ (H : Heap) (locs : List Loc) (cells slots : Nat) (ls : Array Slot), jm_St g b M M' Mz s room_1 H locs cells slots → lv_has ls 4 [] → W p l e room_1 s m args below meth c H locs cells slots Q (F0 m 185 ls [])) (jm_or (fun (y : Unit) => ∀ (H : Heap) (locs : List Loc) (cells slots : Nat) (ls : Array Slot), jm_St g b M M' Mz s room_1 H locs cells slots → lv_has ls 4 [] → W p l e room_1 s m args below meth c H locs cells slots Q (F0 m 198 ls [])) (jm_or (fun (y : Unit) => ∀ (H : Heap) (locs : List Loc) (cells slots : Nat) (ls : Array Slot), jm_St g b M M' Mz s room_1 H locs cells slots → lv_has ls 4 [] → W p l e room_1 s m args below meth c H locs cells slots Q (F0 m 211 ls [])) (jm_or (fun (y : Unit) => ∀ (H : Heap) (locs : List Loc) (cells slots : Nat) (ls : Array Slot), jm_St g b M M' Mz s room_1 H locs cells slots → lv_has ls 4 [] → W p l e room_1 s m args below meth c H locs cells slots Q (F0 m 224 ls [])) (jm_or (fun (y : Unit) => ∀ (H : Heap) (locs : List Loc) (cells slots : Nat) (ls : Array Slot), jm_St g b M M' Mz s room_1 H locs cells slots → lv_has ls 4 [] → W p l e room_1 s m args below meth c H locs cells slots Q (F0 m 267 ls [])) (jm_or (fun (y : Unit) => ∀ (H : Heap) (locs : List Loc) (cells slots : Nat) (ls : Array Slot), jm_St g b M M' Mz s room_1 H locs cells slots → lv_has ls 4 [] → W p l e room_1 s m args below meth c H locs cells slots Q (F0 m 310 ls [])) (jm_or (fun (y : Unit) => ∀ (H : Heap) (locs : List Loc) (cells slots : Nat) (ls : Array Slot), jm_St g b M M' Mz s room_1 H locs cells slots → lv_has ls 4 [] → W p l e room_1 s m args below meth c H locs cells slots Q (F0 m 333 ls [])) (jm_or (fun (y : Unit) => ∀ (H : Heap) (locs : List Loc) (cells slots : Nat) (ls : Array Slot), jm_St g b M M' Mz s room_1 H locs cells slots → lv_has ls 4 [] → W p l e room_1 s m args below meth c H locs cells slots Q (F0 m 366 ls [])) (jm_or (fun (y : Unit) => ∀ (H : Heap) (locs : List Loc) (cells slots : Nat) (ls : Array Slot), jm_St g b M M' Mz s room_1 H locs cells slots → lv_has ls 4 [] → W p l e room_1 s m args below meth c H locs cells slots Q (F0 m 409 ls [])) (jm_or (fun (y : Unit) => ∀ (H : Heap) (locs : List Loc) (cells slots : Nat) (ls : Array Slot), jm_St g b M M' Mz s room_1 H locs cells slots → lv_has ls 4 [] → W p l e room_1 s m args below meth c H locs cells slots Q (F0 m 452 ls [])) (jm_or (fun (y : Unit) => ∀ (H : Heap) (locs : List Loc) (cells slots : Nat) (ls : Array Slot), jm_St g b M M' Mz s room_1 H locs cells slots → lv_has ls 4 [] → W p l e room_1 s m args below meth c H locs cells slots Q (F0 m 485 ls [])) (jm_or (fun (y : Unit) => ∀ (H : Heap) (locs : List Loc) (cells slots : Nat) (ls : Array Slot), jm_St g b M M' Mz s room_1 H locs cells slots → lv_has ls 4 [] → W p l e room_1 s m args below meth c H locs cells slots Q (F0 m 528 ls [])) (jm_or (fun (y : Unit) => ∀ (H : Heap) (locs : List Loc) (cells slots : Nat) (ls : Array Slot), jm_St g b M M' Mz s room_1 H locs cells slots → lv_has ls 4 [] → W p l e room_1 s m args below meth c H locs cells slots Q (F0 m 571 ls [])) (jm_or (fun (y : Unit) => ∀ (H : Heap) (locs : List Loc) (cells slots : Nat) (ls : Array Slot), jm_St g b M M' Mz s room_1 H locs cells slots → lv_has ls 4 [] → W p l e room_1 s m args below meth c H locs cells slots Q (F0 m 614 ls [])) (jm_or (fun (y : Unit) => ∀ (H : Heap) (locs : List Loc) (cells slots : Nat) (ls : Array Slot), jm_St g b M M' Mz s room_1 H locs cells slots → lv_has ls 4 [] → W p l e room_1 s m args below meth c H locs cells slots Q (F0 m 657 ls [])) (jm_or (fun (y : Unit) => ∀ (H : Heap) (locs : List Loc) (cells slots : Nat) (ls : Array Slot), jm_St g b M M' Mz s room_1 H locs cells slots → lv_has ls 4 [] → W p l e room_1 s m args below meth c H locs cells slots Q (F0 m 690 ls [])) (jm_or (fun (y : Unit) => ∀ (H : Heap) (locs : List Loc) (cells slots : Nat) (ls : Array Slot), jm_St g b M M' Mz s room_1 H locs cells slots → lv_has ls 4 [] → W p l e room_1 s m args below meth c H locs cells slots Q (F0 m 723 ls [])) (jm_or (fun (y : Unit) => ∀ (H : Heap) (locs : List Loc) (cells slots : Nat) (ls : Array Slot), jm_St g b M M' Mz s room_1 H locs cells slots → lv_has ls 4 [] → W p l e room_1 s m args below meth c H locs cells slots Q (F0 m 756 ls [])) (jm_or (fun (y : Unit) => ∀ (H : Heap) (locs : List Loc) (cells slots : Nat) (ls : Array Slot), jm_St g b M M' Mz s room_1 H locs cells slots → lv_has ls 4 [] → W p l e room_1 s m args below meth c H locs cells slots Q (F0 m 789 ls [])) (jm_or (fun (y : Unit) => ∀ (H : Heap) (locs : List Loc) (cells slots : Nat) (ls : Array Slot), jm_St g b M M' Mz s room_1 H locs cells slots → lv_has ls 4 [] → W p l e room_1 s m args below meth c H locs cells slots Q (F0 m 822 ls [])) (jm_or (fun (y : Unit) => ∀ (H : Heap) (locs : List Loc) (cells slots : Nat) (ls : Array Slot), jm_St g b M M' Mz s room_1 H locs cells slots → lv_has ls 4 [] → W p l e room_1 s m args below meth c H locs cells slots Q (F0 m 855 ls [])) (jm_or (fun (y : Unit) => ∀ (H : Heap) (locs : List Loc) (cells slots : Nat) (ls : Array Slot), jm_St g b M M' Mz s room_1 H locs cells slots → lv_has ls 4 [] → W p l e room_1 s m args below meth c H locs cells slots Q (F0 m 909 ls [])) (jm_or (fun (y : Unit) => ∀ (H : Heap) (locs : List Loc) (cells slots : Nat) (ls : Array Slot), jm_St g b M M' Mz s room_1 H locs cells slots → lv_has ls 4 [] → W p l e room_1 s m args below meth c H locs cells slots Q (F0 m 953 ls [])) (jm_or (fun (y : Unit) => ∀ (H : Heap) (locs : List Loc) (cells slots : Nat) (ls : Array Slot), jm_St g b M M' Mz s room_1 H locs cells slots → lv_has ls 4 [] → W p l e room_1 s m args below meth c H locs cells slots Q (F0 m 986 ls [])) (jm_or (fun (y : Unit) => ∀ (H : Heap) (locs : List Loc) (cells slots : Nat) (ls : Array Slot), jm_St g b M M' Mz s room_1 H locs cells slots → lv_has ls 4 [] → W p l e room_1 s m args below meth c H locs cells slots Q (F0 m 1020 ls [])) (jm_or (fun (y : Unit) => ∀ (H : Heap) (locs : List Loc) (cells slots : Nat) (ls : Array Slot), jm_St g b M M' Mz s room_1 H locs cells slots → lv_has ls 4 [] → W p l e room_1 s m args below meth c H locs cells slots Q (F0 m 1044 ls [])) (jm_or (fun (y : Unit) => ∀ (H : Heap) (locs : List Loc) (cells slots : Nat) (ls : Array Slot), jm_St g b M M' Mz s room_1 H locs cells slots → lv_has ls 4 [] → W p l e room_1 s m args below meth c H locs cells slots Q (F0 m 1067 ls [])) (jm_or (fun (y : Unit) => ∀ (H : Heap) (locs : List Loc) (cells slots : Nat) (ls : Array Slot), jm_St g b M M' Mz s room_1 H locs cells slots → lv_has ls 4 [] → W p l e room_1 s m args below meth c H locs cells slots Q (F0 m 1090 ls [])) (jm_or (fun (y : Unit) => ∀ (H : Heap) (locs : List Loc) (cells slots : Nat) (ls : Array Slot), jm_St g b M M' Mz s room_1 H locs cells slots → lv_has ls 4 [] → W p l e room_1 s m args below meth c H locs cells slots Q (F0 m 1113 ls [])) (fun (y : Unit) => ∀ (H : Heap) (locs : List Loc) (cells slots : Nat) (ls : Array Slot), jm_St g b M M' Mz s room_1 H locs cells slots → lv_has ls 4 [] → W p l e room_1 s m args below meth c H locs cells slots Q (F0 m 1121 ls [])))))))))))))))))))))))))))))) y) ?_ N (0 : Int32) Mm39 xl18 Ml18 hit18 hlf18 hwe18 _ _ _ _ _ hst (lv_sub hl [3, 2, 1, 0] rfl)
  intro v3 Mm507 xe18 Me18 hf hle18 hk18 H locs cells slots ls hst hl
  have hf : (jf_L_law_L18 N sc L xs (some sc) (some q31) (some q36) v3).1 Mm507 = some (xe18, Me18) := hf
  have hl : lv_has ls 4 [(0, va_rf (some sc)), (1, va_rf (some q31)), (2, va_rf (some q36)), (3, .int v3)] := hl
  exact B18 (some sc) (some q31) (some q36) v3 _ _ _ hf hle18 hk18 _ _ _ _ _ hst (lv_sub hl [0, 1, 2, 3] rfl)
end JLAW
