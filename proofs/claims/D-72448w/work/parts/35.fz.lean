set_option maxRecDepth 100000
def f_X0_sheet (a0 : Nat) (i1 : Int32) (i2 : Int32) (i3 : Int32) : hM (Int32) :=
  mb (f_X0_isSheet i1 i2) fun x1 => mi (x1 = 0) (mret (-1 : Int32)) (mi (i3 ≤ (32 : Int32)) (mb (gR a0 0 15) fun x3 => mb (aR 9 x3 i1) fun x4 => mi (¬ i2 = 0) (mi (¬ i2 = (1 : Int32)) (mi (¬ i2 = (2 : Int32)) (mi (i3 < 0) (mb (mgr 3 54) fun _ => mret (-14 : Int32)) (mb (newA 5 i3) fun x6 => mb (pF x4 10 0 (.ref x6)) fun _ => mret i3)) (mi (i3 < 0) (mb (mgr 3 54) fun _ => mret (-14 : Int32)) (mb (newA 1 i3) fun x10 => mb (pF x4 10 0 (.ref x10)) fun _ => mret i3))) (mi (i3 < 0) (mb (mgr 3 54) fun _ => mret (-14 : Int32)) (mb (newA 4 i3) fun x14 => mb (pF x4 10 0 (.ref x14)) fun _ => mret i3))) (mi (i3 < 0) (mb (mgr 3 54) fun _ => mret (-14 : Int32)) (mb (newA 0 i3) fun x18 => mb (pF x4 10 0 (.ref x18)) fun _ => mret i3))) (mret (-1 : Int32)))
theorem nd_X0_sheet : yX0_sheet.cls ≠ "java/lang/invoke/MethodHandle" ∧ yX0_sheet.cls ≠ "java/lang/invoke/VarHandle" ∧ (parseMethodDescriptor yX0_sheet.desc).map (fun d => d.parameters.length) = some 3 := by decide +kernel
set_option maxHeartbeats 4000000 in
theorem ct_X0_sheet (l : Launch) (a0 : Nat) (i1 : Int32) (i2 : Int32) (i3 : Int32) : CTW l yX0_sheet cX0_sheet 5 (some .int) [((16 : Nat), (60 : Nat), (63 : Nat), (480 : Nat))] 7 10242 rvI [.ref a0, .int i1, .int i2, .int i3] (f_X0_sheet a0 i1 i2 i3) := by
  refine CTW_of (ls := [(0, .ref a0), (1, .int i1), (2, .int i2), (3, .int i3)]) (by decide) (Nat.le_of_ble_eq_true rfl) rfl ?_
  intro X h he z hX hf C htab E hnm hh
  have hl := hle.rf he
  subst hX
  unfold f_X0_sheet at hf
  refine v_iload_n C 1 dX0_sheet_0 rfl rfl ?_
  refine v_iload_n C 2 dX0_sheet_1 rfl rfl ?_
  refine v_callS (stk := fun b => .int b :: []) C (ct_X0_isSheet _ i1 i2) nd_X0_isSheet rfl (Nat.le_of_ble_eq_true rfl) (Nat.le_of_ble_eq_true rfl) [] (Nat.le_of_ble_eq_true rfl) (fun _ => rfl) rfl q1641 q1642 q96 q1643 hf hl dX0_sheet_2 (fun x1 h2 hf => ?_)
  refine v_if_eq C hf (tgt := 14) dX0_sheet_5 (by decide) (fun c5 hf => ?_) (fun c5 hf => ?_)
  · refine v_iconst (x := (-1)) C dX0_sheet_14 (by decide) ?_
    exact v_iret C E hf dX0_sheet_15
  · refine v_iload_n C 3 dX0_sheet_8 rfl rfl ?_
    refine v_bipush (x := 32) C dX0_sheet_9 (by decide) ?_
    refine v_icmp_le C hf (tgt := 16) dX0_sheet_11 (by decide) (fun c11 hf => ?_) (fun c11 hf => ?_)
    · refine v_aload_n C 0 dX0_sheet_16 rfl rfl ?_
      refine v_gR (Cn := RX0) (T := TX0) (N := 16) C hf in_X0 rfl (by decide) q707 rfl dX0_sheet_17 (fun x3 hf => ?_)
      refine v_iload_n C 1 dX0_sheet_20 rfl rfl ?_
      refine v_aaload C hf (by decide) rfl dX0_sheet_21 (fun x4 hf => ?_)
      refine v_iload_n C 2 dX0_sheet_22 rfl rfl ?_
      refine v_if_ne C hf (tgt := 32) dX0_sheet_23 (by decide) (fun c23 hf => ?_) (fun c23 hf => ?_)
      · refine v_iload_n C 2 dX0_sheet_32 rfl rfl ?_
        refine v_iconst (x := 1) C dX0_sheet_33 (by decide) ?_
        refine v_icmp_ne C hf (tgt := 43) dX0_sheet_34 (by decide) (fun c34 hf => ?_) (fun c34 hf => ?_)
        · refine v_iload_n C 2 dX0_sheet_43 rfl rfl ?_
          refine v_iconst (x := 2) C dX0_sheet_44 (by decide) ?_
          refine v_icmp_ne C hf (tgt := 54) dX0_sheet_45 (by decide) (fun c45 hf => ?_) (fun c45 hf => ?_)
          · refine v_iload_n C 3 dX0_sheet_54 rfl rfl ?_
            refine v_newZ C hf hl dX0_sheet_55 (exC_0 C (x0 := ⟨16, 60, 63, 480⟩) htab (by decide) (by decide) q1697 q296) (Nat.le_of_ble_eq_true rfl) (Nat.le_of_ble_eq_true rfl) (fun y5 hf => ?_) (fun hf => ?_)
            · refine v_astore (ls' := [(4, _), (0, _), (1, _), (2, _), (3, _)]) C dX0_sheet_63 (by decide) rfl ?_
              refine v_bipush (x := (-14)) C dX0_sheet_65 (by decide) ?_
              exact v_iret C E hf dX0_sheet_67
            · refine v_newarraylong C hf hl q1702 dX0_sheet_55 (fun x6 h7 hf => ?_)
              refine v_putvN (Cn := RX10) (T := TX10) (N := 1) (ty0 := tyX10) C hf in_X10 tyX10_ok nmX10 rfl (by decide) q509 rfl rfl rfl rfl dX0_sheet_57 (fun h8 hf => ?_)
              refine v_goto (tgt := 68) C dX0_sheet_60 (by decide) ?_
              refine v_iload_n C 3 dX0_sheet_68 rfl rfl ?_
              exact v_iret C E hf dX0_sheet_69
          · refine v_iload_n C 3 dX0_sheet_48 rfl rfl ?_
            refine v_newZ C hf hl dX0_sheet_49 (exC_0 C (x0 := ⟨16, 60, 63, 480⟩) htab (by decide) (by decide) q1697 q296) (Nat.le_of_ble_eq_true rfl) (Nat.le_of_ble_eq_true rfl) (fun y9 hf => ?_) (fun hf => ?_)
            · refine v_astore (ls' := [(4, _), (0, _), (1, _), (2, _), (3, _)]) C dX0_sheet_63 (by decide) rfl ?_
              refine v_bipush (x := (-14)) C dX0_sheet_65 (by decide) ?_
              exact v_iret C E hf dX0_sheet_67
            · refine v_newarrayint C hf hl q234 dX0_sheet_49 (fun x10 h11 hf => ?_)
              refine v_goto (tgt := 57) C dX0_sheet_51 (by decide) ?_
              refine v_putvN (Cn := RX10) (T := TX10) (N := 1) (ty0 := tyX10) C hf in_X10 tyX10_ok nmX10 rfl (by decide) q509 rfl rfl rfl rfl dX0_sheet_57 (fun h12 hf => ?_)
              refine v_goto (tgt := 68) C dX0_sheet_60 (by decide) ?_
              refine v_iload_n C 3 dX0_sheet_68 rfl rfl ?_
              exact v_iret C E hf dX0_sheet_69
        · refine v_iload_n C 3 dX0_sheet_37 rfl rfl ?_
          refine v_newZ C hf hl dX0_sheet_38 (exC_0 C (x0 := ⟨16, 60, 63, 480⟩) htab (by decide) (by decide) q1697 q296) (Nat.le_of_ble_eq_true rfl) (Nat.le_of_ble_eq_true rfl) (fun y13 hf => ?_) (fun hf => ?_)
          · refine v_astore (ls' := [(4, _), (0, _), (1, _), (2, _), (3, _)]) C dX0_sheet_63 (by decide) rfl ?_
            refine v_bipush (x := (-14)) C dX0_sheet_65 (by decide) ?_
            exact v_iret C E hf dX0_sheet_67
          · refine v_newarrayshort C hf hl q1701 dX0_sheet_38 (fun x14 h15 hf => ?_)
            refine v_goto (tgt := 57) C dX0_sheet_40 (by decide) ?_
            refine v_putvN (Cn := RX10) (T := TX10) (N := 1) (ty0 := tyX10) C hf in_X10 tyX10_ok nmX10 rfl (by decide) q509 rfl rfl rfl rfl dX0_sheet_57 (fun h16 hf => ?_)
            refine v_goto (tgt := 68) C dX0_sheet_60 (by decide) ?_
            refine v_iload_n C 3 dX0_sheet_68 rfl rfl ?_
            exact v_iret C E hf dX0_sheet_69
      · refine v_iload_n C 3 dX0_sheet_26 rfl rfl ?_
        refine v_newZ C hf hl dX0_sheet_27 (exC_0 C (x0 := ⟨16, 60, 63, 480⟩) htab (by decide) (by decide) q1697 q296) (Nat.le_of_ble_eq_true rfl) (Nat.le_of_ble_eq_true rfl) (fun y17 hf => ?_) (fun hf => ?_)
        · refine v_astore (ls' := [(4, _), (0, _), (1, _), (2, _), (3, _)]) C dX0_sheet_63 (by decide) rfl ?_
          refine v_bipush (x := (-14)) C dX0_sheet_65 (by decide) ?_
          exact v_iret C E hf dX0_sheet_67
        · refine v_newarraybyte C hf hl q256 dX0_sheet_27 (fun x18 h19 hf => ?_)
          refine v_goto (tgt := 57) C dX0_sheet_29 (by decide) ?_
          refine v_putvN (Cn := RX10) (T := TX10) (N := 1) (ty0 := tyX10) C hf in_X10 tyX10_ok nmX10 rfl (by decide) q509 rfl rfl rfl rfl dX0_sheet_57 (fun h20 hf => ?_)
          refine v_goto (tgt := 68) C dX0_sheet_60 (by decide) ?_
          refine v_iload_n C 3 dX0_sheet_68 rfl rfl ?_
          exact v_iret C E hf dX0_sheet_69
    · refine v_iconst (x := (-1)) C dX0_sheet_14 (by decide) ?_
      exact v_iret C E hf dX0_sheet_15
