set_option maxRecDepth 100000
def f_X0_item (a0 : Nat) (i1 : Int32) (i2 : Int32) (i3 : Int32) (l4 : Int64) : hM (Int32) :=
  mb (f_X0_isSheet i1 i2) fun x1 => mi (¬ x1 = 0) (mb (gR a0 0 15) fun x3 => mb (aR 9 x3 i1) fun x4 => mbh (mat x4 10 (f_lay x4 i2 i3 l4)) (fun _ => mret (1 : Int32)) (fun e => match e with | 0 => mret (-11 : Int32) | 1 => mret (-12 : Int32) | _ => mret (-13 : Int32))) (mret (-1 : Int32))
theorem nd_X0_item : yX0_item.cls ≠ "java/lang/invoke/MethodHandle" ∧ yX0_item.cls ≠ "java/lang/invoke/VarHandle" ∧ (parseMethodDescriptor yX0_item.desc).map (fun d => d.parameters.length) = some 4 := by decide +kernel
set_option maxHeartbeats 4000000 in
theorem ct_X0_item (l : Launch) (a0 : Nat) (i1 : Int32) (i2 : Int32) (i3 : Int32) (l4 : Int64) : CTW l yX0_item cX0_item 7 (some .int) [((10 : Nat), (23 : Nat), (26 : Nat), (482 : Nat)), ((10 : Nat), (23 : Nat), (31 : Nat), (484 : Nat)), ((10 : Nat), (23 : Nat), (36 : Nat), (486 : Nat))] 9 10324 rvI [.ref a0, .int i1, .int i2, .int i3, .long l4] (f_X0_item a0 i1 i2 i3 l4) := by
  refine CTW_of (ls := [(0, .ref a0), (1, .int i1), (2, .int i2), (3, .int i3), (4, .long l4)]) (by decide) (Nat.le_of_ble_eq_true rfl) rfl ?_
  intro X h he z hX hf C htab E hnm hh
  have hl := hle.rf he
  subst hX
  unfold f_X0_item at hf
  refine v_iload_n C 1 dX0_item_0 rfl rfl ?_
  refine v_iload_n C 2 dX0_item_1 rfl rfl ?_
  refine v_callS (stk := fun b => .int b :: []) C (ct_X0_isSheet _ i1 i2) nd_X0_isSheet rfl (Nat.le_of_ble_eq_true rfl) (Nat.le_of_ble_eq_true rfl) [] (Nat.le_of_ble_eq_true rfl) (fun _ => rfl) rfl q1641 q1642 q96 q1643 hf hl dX0_item_2 (fun x1 h2 hf => ?_)
  refine v_if_ne C hf (tgt := 10) dX0_item_5 (by decide) (fun c5 hf => ?_) (fun c5 hf => ?_)
  · refine v_aload_n C 0 dX0_item_10 rfl rfl ?_
    refine v_gR (Cn := RX0) (T := TX0) (N := 16) C hf in_X0 rfl (by decide) q707 rfl dX0_item_11 (fun x3 hf => ?_)
    refine v_iload_n C 1 dX0_item_14 rfl rfl ?_
    refine v_aaload C hf (by decide) rfl dX0_item_15 (fun x4 hf => ?_)
    refine v_iload_n C 2 dX0_item_16 rfl rfl ?_
    refine v_iload_n C 3 dX0_item_17 rfl rfl ?_
    refine v_lload C 4 dX0_item_18 rfl ?_
    refine v_callVH (stk := fun _ => []) C (ct_layE _ x4 i2 i3 l4) rfl ⟨rfl, nd_X10_lay⟩ rfl (Nat.le_of_ble_eq_true rfl) (Nat.le_of_ble_eq_true rfl) [] (Nat.le_of_ble_eq_true rfl) (fun _ => rfl) rfl q1689 q1690 q1691 q118 q1692 (fun e => match e with | 0 => 26 | 1 => 31 | _ => 36) (fun e => ?_) hf hl dX0_item_20 (fun e q h9 hf => ?_) (fun _ h9 hf => ?_)
    · rcases e with _ | _ | e
      · exact (exC_0 C (x0 := ⟨10, 23, 26, 482⟩) htab (by decide) (by decide) q1711 q1727)
      · exact (exC_1 C (z0 := ⟨10, 23, 26, 482⟩) (x0 := ⟨10, 23, 31, 484⟩) htab (by decide) (by decide) q1730 q1742 (by decide) q1711 (by decide +kernel))
      · exact (exC_2 C (z0 := ⟨10, 23, 26, 482⟩) (z1 := ⟨10, 23, 31, 484⟩) (x0 := ⟨10, 23, 36, 486⟩) htab (by decide) (by decide) q1744 q1327 (by decide) q1711 (by decide +kernel) (by decide) q1730 (by decide +kernel))
    · rcases e with _ | _ | e
      · dsimp only at hf
        show V X h9 26 _ _
        refine v_astore (ls' := [(6, _), (0, _), (1, _), (2, _), (3, _), (4, _)]) C dX0_item_26 (by decide) rfl ?_
        refine v_bipush (x := (-11)) C dX0_item_28 (by decide) ?_
        exact v_iret C E hf dX0_item_30
      · dsimp only at hf
        show V X h9 31 _ _
        refine v_astore (ls' := [(6, _), (0, _), (1, _), (2, _), (3, _), (4, _)]) C dX0_item_31 (by decide) rfl ?_
        refine v_bipush (x := (-12)) C dX0_item_33 (by decide) ?_
        exact v_iret C E hf dX0_item_35
      · dsimp only at hf
        show V X h9 36 _ _
        refine v_astore (ls' := [(6, _), (0, _), (1, _), (2, _), (3, _), (4, _)]) C dX0_item_36 (by decide) rfl ?_
        refine v_bipush (x := (-13)) C dX0_item_38 (by decide) ?_
        exact v_iret C E hf dX0_item_40
    · refine v_goto (tgt := 41) C dX0_item_23 (by decide) ?_
      refine v_iconst (x := 1) C dX0_item_41 (by decide) ?_
      exact v_iret C E hf dX0_item_42
  · refine v_iconst (x := (-1)) C dX0_item_8 (by decide) ?_
    exact v_iret C E hf dX0_item_9
