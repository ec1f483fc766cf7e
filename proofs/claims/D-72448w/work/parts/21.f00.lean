set_option maxRecDepth 100000
def f_X0_has (i0 : Int32) (i1 : Int32) : hM Int32 :=
  mb (mi (¬ ((i0 >>> (i1 &&& 31)) &&& (1 : Int32)) = (1 : Int32)) (mret (0 : Int32)) (mret (1 : Int32))) fun x1 => mrt .boolean x1
theorem nd_X0_has : yX0_has.cls ≠ "java/lang/invoke/MethodHandle" ∧ yX0_has.cls ≠ "java/lang/invoke/VarHandle" ∧ (parseMethodDescriptor yX0_has.desc).map (fun d => d.parameters.length) = some 2 := by decide +kernel
set_option maxHeartbeats 4000000 in
theorem ct_X0_has (l : Launch) (i0 : Int32) (i1 : Int32) : CT l yX0_has cX0_has 2 (some .boolean) 0 0 rvI [.int i0, .int i1] (f_X0_has i0 i1) := by
  refine CT_of (ls := [(0, .int i0), (1, .int i1)]) (by decide) (Nat.le_of_ble_eq_true rfl) rfl ?_
  intro X h he z hX hf C E hnm hh
  have hl := hle.rf he
  subst hX
  unfold f_X0_has at hf
  refine v_iload_n C 0 dX0_has_0 rfl rfl ?_
  refine v_iload_n C 1 dX0_has_1 rfl rfl ?_
  refine v_ishr C dX0_has_2 ?_
  refine v_iconst (x := 1) C dX0_has_3 (by decide) ?_
  refine v_iand C dX0_has_4 ?_
  refine v_iconst (x := 1) C dX0_has_5 (by decide) ?_
  obtain ⟨x1, h2, hAh2, hf, hlh2⟩ := mb_inv hf hl
  refine v_cut (h1 := h2) (pc1 := 14) (ls1 := []) (st1 := [.int x1]) ?_ (fun Jh2 => ?_)
  · clear hAh2 hlh2
    exact v_zret C E hf dX0_has_14
  · clear hf
    have hf := hAh2
    have hl := hlh2
    refine v_icmp_ne C hf (tgt := 13) dX0_has_6 (by decide) (fun c6 hf => ?_) (fun c6 hf => ?_)
    · refine v_iconst (x := 0) C dX0_has_13 (by decide) ?_
      obtain ⟨e1, rfl⟩ := mret_inv hf
      subst e1
      exact v_sub (ls' := _) [] rfl Jh2
    · refine v_iconst (x := 1) C dX0_has_9 (by decide) ?_
      refine v_goto (tgt := 14) C dX0_has_10 (by decide) ?_
      obtain ⟨e1, rfl⟩ := mret_inv hf
      subst e1
      exact v_sub (ls' := _) [] rfl Jh2
def f_X0_isIn (l0 : Int64) (l2 : Int64) (l4 : Int64) : hM Int32 :=
  mb (mi ((lg_cmp l0 l2) < 0) (mret (0 : Int32)) (mi (0 < (lg_cmp l0 l4)) (mret (0 : Int32)) (mret (1 : Int32)))) fun x1 => mrt .boolean x1
theorem nd_X0_isIn : yX0_isIn.cls ≠ "java/lang/invoke/MethodHandle" ∧ yX0_isIn.cls ≠ "java/lang/invoke/VarHandle" ∧ (parseMethodDescriptor yX0_isIn.desc).map (fun d => d.parameters.length) = some 3 := by decide +kernel
set_option maxHeartbeats 4000000 in
theorem ct_X0_isIn (l : Launch) (l0 : Int64) (l2 : Int64) (l4 : Int64) : CT l yX0_isIn cX0_isIn 6 (some .boolean) 0 0 rvI [.long l0, .long l2, .long l4] (f_X0_isIn l0 l2 l4) := by
  refine CT_of (ls := [(0, .long l0), (2, .long l2), (4, .long l4)]) (by decide) (Nat.le_of_ble_eq_true rfl) rfl ?_
  intro X h he z hX hf C E hnm hh
  have hl := hle.rf he
  subst hX
  unfold f_X0_isIn at hf
  refine v_lload_n C 0 dX0_isIn_0 rfl rfl ?_
  refine v_lload_n C 1 dX0_isIn_1 rfl rfl ?_
  refine v_lcmp C dX0_isIn_2 ?_
  obtain ⟨x1, h2, hAh2, hf, hlh2⟩ := mb_inv hf hl
  refine v_cut (h1 := h2) (pc1 := 18) (ls1 := []) (st1 := [.int x1]) ?_ (fun Jh2 => ?_)
  · clear hAh2 hlh2
    exact v_zret C E hf dX0_isIn_18
  · clear hf
    have hf := hAh2
    have hl := hlh2
    refine v_if_lt C hf (tgt := 17) dX0_isIn_3 (by decide) (fun c3 hf => ?_) (fun c3 hf => ?_)
    · refine v_iconst (x := 0) C dX0_isIn_17 (by decide) ?_
      obtain ⟨e1, rfl⟩ := mret_inv hf
      subst e1
      exact v_sub (ls' := _) [] rfl Jh2
    · refine v_lload_n C 0 dX0_isIn_6 rfl rfl ?_
      refine v_lload C 2 dX0_isIn_7 rfl ?_
      refine v_lcmp C dX0_isIn_9 ?_
      refine v_if_gt C hf (tgt := 17) dX0_isIn_10 (by decide) (fun c10 hf => ?_) (fun c10 hf => ?_)
      · refine v_iconst (x := 0) C dX0_isIn_17 (by decide) ?_
        obtain ⟨e1, rfl⟩ := mret_inv hf
        subst e1
        exact v_sub (ls' := _) [] rfl Jh2
      · refine v_iconst (x := 1) C dX0_isIn_13 (by decide) ?_
        refine v_goto (tgt := 18) C dX0_isIn_14 (by decide) ?_
        obtain ⟨e1, rfl⟩ := mret_inv hf
        subst e1
        exact v_sub (ls' := _) [] rfl Jh2
def l_X0_octadsBy_19 (i1 : Int32) (i2 : Int32) (a4 : Nat) (i5 : Int32) : Nat → Int32 → Int32 → hM (Int32)
  | 0, _, _ => mfail
  | n + 1, i3, i6 => mi (i5 ≤ i6) (mret i3) (mb (aI 1 a4 i6) fun x4 => mb (mi (¬ i2 = (5 : Int32)) (mret (i1 &&& (x4 ^^^ (-1 : Int32)))) (mret (x4 &&& (i1 ^^^ (-1 : Int32))))) fun x5 => mb (mi (¬ x5 = 0) (mret (0 : Int32)) (mret (1 : Int32))) fun x7 => l_X0_octadsBy_19 i1 i2 a4 i5 n (i3 + x7) (i6 + (1 : Int32)))
def f_X0_octadsBy (a0 : Nat) (i1 : Int32) (i2 : Int32) : hM Int32 :=
  mb (gR a0 0 0) fun x1 => mb (gR x1 1 3) fun x2 => mb (alen 1 x2) fun x3 => mb (l_X0_octadsBy_19 i1 i2 x2 x3 FU (0 : Int32) (0 : Int32)) fun x9 => mret x9
theorem nd_X0_octadsBy : yX0_octadsBy.cls ≠ "java/lang/invoke/MethodHandle" ∧ yX0_octadsBy.cls ≠ "java/lang/invoke/VarHandle" ∧ (parseMethodDescriptor yX0_octadsBy.desc).map (fun d => d.parameters.length) = some 2 := by decide +kernel
set_option maxHeartbeats 4000000 in
theorem ct_X0_octadsBy (l : Launch) (a0 : Nat) (i1 : Int32) (i2 : Int32) : CT l yX0_octadsBy cX0_octadsBy 9 (some .int) 0 0 rvI [.ref a0, .int i1, .int i2] (f_X0_octadsBy a0 i1 i2) := by
  refine CT_of (ls := [(0, .ref a0), (1, .int i1), (2, .int i2)]) (by decide) (Nat.le_of_ble_eq_true rfl) rfl ?_
  intro X h he z hX hf C E hnm hh
  have hl := hle.rf he
  subst hX
  have L19 : ∀ (i1 : Int32) (i2 : Int32) (a4 : Nat) (i5 : Int32) (n : Nat) (i3 : Int32) (i6 : Int32) (h h1 : Hp) (o : Int32), (l_X0_octadsBy_19 i1 i2 a4 i5 n i3 i6).1 h = some (o, h1) → hle h1 he → V X h1 74 [(3, .int o)] [] → V X h 19 [(1, .int i1), (2, .int i2), (3, .int i3), (4, .ref a4), (5, .int i5), (6, .int i6)] [] := by
    intro i1 i2 a4 i5 n
    induction n with
    | zero => intro i3 i6 h h1 o hf; exact mfail_inv hf
    | succ n ih =>
      intro i3 i6 h h1 o hf hl J
      rw [l_X0_octadsBy_19] at hf
      refine v_iload C 5 dX0_octadsBy_19 rfl ?_
      refine v_iload C 4 dX0_octadsBy_21 rfl ?_
      refine v_icmp_ge C hf (tgt := 74) dX0_octadsBy_23 (by decide) (fun c23 hf => ?_) (fun c23 hf => ?_)
      · obtain ⟨e1, rfl⟩ := mret_inv hf
        subst e1
        exact v_sub (ls' := _) [2] rfl J
      · refine v_aload C 3 dX0_octadsBy_26 rfl ?_
        refine v_iload C 5 dX0_octadsBy_28 rfl ?_
        refine v_iaload C hf dX0_octadsBy_30 (fun x4 hf => ?_)
        refine v_istore (ls' := [(7, _), (1, _), (2, _), (3, _), (4, _), (5, _), (6, _)]) C dX0_octadsBy_31 (by decide) rfl ?_
        refine v_iload_n C 2 dX0_octadsBy_33 rfl rfl ?_
        refine v_iconst (x := 5) C dX0_octadsBy_34 (by decide) ?_
        obtain ⟨x5, h6, hAh6, hf, hlh6⟩ := mb_inv hf hl
        refine v_cut (h1 := h6) (pc1 := 53) (ls1 := [(1, .int i1), (2, .int i2), (3, .int i3), (4, .ref a4), (5, .int i5), (6, .int i6)]) (st1 := [.int x5]) ?_ (fun Jh6 => ?_)
        · clear hAh6 hlh6
          refine v_istore (ls' := [(8, _), (1, _), (2, _), (3, _), (4, _), (5, _), (6, _)]) C dX0_octadsBy_53 (by decide) rfl ?_
          refine v_iload_n C 3 dX0_octadsBy_55 rfl rfl ?_
          refine v_iload C 0 dX0_octadsBy_56 rfl ?_
          obtain ⟨x7, h8, hAh8, hf, hlh8⟩ := mb_inv hf hl
          refine v_cut (h1 := h8) (pc1 := 66) (ls1 := [(1, .int i1), (2, .int i2), (4, .ref a4), (5, .int i5), (6, .int i6)]) (st1 := [.int x7, .int i3]) ?_ (fun Jh8 => ?_)
          · clear hAh8 hlh8
            refine v_iadd C dX0_octadsBy_66 ?_
            refine v_istore_n (ls' := [(3, _), (1, _), (2, _), (4, _), (5, _), (6, _)]) C dX0_octadsBy_67 rfl (by decide) rfl ?_
            refine v_iinc (ls' := [(6, _), (3, _), (1, _), (2, _), (4, _), (5, _)]) (y := i6 + (1 : Int32)) C 5 dX0_octadsBy_68 rfl rfl (by decide) rfl ?_
            refine v_goto (tgt := 19) C dX0_octadsBy_71 (by decide) ?_
            refine v_sub (ls' := _) [2, 3, 1, 4, 5, 0] rfl (ih (i3 + x7) (i6 + (1 : Int32)) _ _ _ hf hl J)
          · clear hf
            have hf := hAh8
            have hl := hlh8
            refine v_if_ne C hf (tgt := 65) dX0_octadsBy_58 (by decide) (fun c58 hf => ?_) (fun c58 hf => ?_)
            · refine v_iconst (x := 0) C dX0_octadsBy_65 (by decide) ?_
              obtain ⟨e1, rfl⟩ := mret_inv hf
              subst e1
              exact v_sub (ls' := _) [1, 2, 4, 5, 6] rfl Jh8
            · refine v_iconst (x := 1) C dX0_octadsBy_61 (by decide) ?_
              refine v_goto (tgt := 66) C dX0_octadsBy_62 (by decide) ?_
              obtain ⟨e1, rfl⟩ := mret_inv hf
              subst e1
              exact v_sub (ls' := _) [1, 2, 4, 5, 6] rfl Jh8
        · clear hf
          have hf := hAh6
          have hl := hlh6
          refine v_icmp_ne C hf (tgt := 47) dX0_octadsBy_35 (by decide) (fun c35 hf => ?_) (fun c35 hf => ?_)
          · refine v_iload_n C 1 dX0_octadsBy_47 rfl rfl ?_
            refine v_iload C 0 dX0_octadsBy_48 rfl ?_
            refine v_iconst (x := (-1)) C dX0_octadsBy_50 (by decide) ?_
            refine v_ixor C dX0_octadsBy_51 ?_
            refine v_iand C dX0_octadsBy_52 ?_
            obtain ⟨e1, rfl⟩ := mret_inv hf
            subst e1
            exact v_sub (ls' := _) [1, 2, 3, 4, 5, 6] rfl Jh6
          · refine v_iload C 0 dX0_octadsBy_38 rfl ?_
            refine v_iload_n C 1 dX0_octadsBy_40 rfl rfl ?_
            refine v_iconst (x := (-1)) C dX0_octadsBy_41 (by decide) ?_
            refine v_ixor C dX0_octadsBy_42 ?_
            refine v_iand C dX0_octadsBy_43 ?_
            refine v_goto (tgt := 53) C dX0_octadsBy_44 (by decide) ?_
            obtain ⟨e1, rfl⟩ := mret_inv hf
            subst e1
            exact v_sub (ls' := _) [1, 2, 3, 4, 5, 6] rfl Jh6
  unfold f_X0_octadsBy at hf
  refine v_iconst (x := 0) C dX0_octadsBy_0 (by decide) ?_
  refine v_istore_n (ls' := [(3, _), (0, _), (1, _), (2, _)]) C dX0_octadsBy_1 rfl (by decide) rfl ?_
  refine v_aload_n C 1 dX0_octadsBy_2 rfl rfl ?_
  refine v_gR (Cn := RX0) (T := TX0) (N := 16) C hf in_X0 rfl (by decide) q692 rfl dX0_octadsBy_3 (fun x1 hf => ?_)
  refine v_gRN (Cn := RX1) (T := TX1) (N := 10) C hf in_X1 rfl (by decide) q202 rfl dX0_octadsBy_6 (fun x2 hf => ?_)
  refine v_astore (ls' := [(4, _), (3, _), (0, _), (1, _), (2, _)]) C dX0_octadsBy_9 (by decide) rfl ?_
  refine v_aload C 0 dX0_octadsBy_11 rfl ?_
  refine v_alen C hf (by decide) dX0_octadsBy_13 (fun x3 hf => ?_)
  refine v_istore (ls' := [(5, _), (4, _), (3, _), (0, _), (1, _), (2, _)]) C dX0_octadsBy_14 (by decide) rfl ?_
  refine v_iconst (x := 0) C dX0_octadsBy_16 (by decide) ?_
  refine v_istore (ls' := [(6, _), (5, _), (4, _), (3, _), (0, _), (1, _), (2, _)]) C dX0_octadsBy_17 (by decide) rfl ?_
  obtain ⟨x9, h10, eh10, hf, hlh10⟩ := mb_inv hf hl
  refine v_sub (ls' := _) [5, 6, 3, 2, 1, 0] rfl (L19 i1 i2 x2 x3 FU (0 : Int32) (0 : Int32) _ _ _ eh10 hlh10 ?_)
  refine v_iload_n C 0 dX0_octadsBy_74 rfl rfl ?_
  exact v_iret C E hf dX0_octadsBy_75
def f_X0_block (a0 : Nat) (i1 : Int32) (i2 : Int32) : hM Int32 :=
  mb (f_X0_isIn i1.toInt64 (0 : Int64) (2 : Int64)) fun x1 => mi (¬ x1 = 0) (mb (mi (¬ i1 = 0) (mi (¬ i1 = (1 : Int32)) (mb (gR a0 0 0) fun x11 => mb (gR x11 1 4) fun x12 => mret x12) (mb (gR a0 0 0) fun x13 => mb (gR x13 1 3) fun x14 => mret x14)) (mb (gR a0 0 0) fun x15 => mb (gR x15 1 1) fun x16 => mret x16)) fun x3 => mb (alen 1 x3) fun x5 => mb (f_X0_isIn i2.toInt64 (0 : Int64) ((x5 - (1 : Int32)).toInt64)) fun x6 => mb (mi (x6 = 0) (mret (-1 : Int32)) (mb (aI 1 x3 i2) fun x10 => mret x10)) fun x8 => mret x8) (mret (-1 : Int32))
theorem nd_X0_block : yX0_block.cls ≠ "java/lang/invoke/MethodHandle" ∧ yX0_block.cls ≠ "java/lang/invoke/VarHandle" ∧ (parseMethodDescriptor yX0_block.desc).map (fun d => d.parameters.length) = some 2 := by decide +kernel
set_option maxHeartbeats 4000000 in
theorem ct_X0_block (l : Launch) (a0 : Nat) (i1 : Int32) (i2 : Int32) : CT l yX0_block cX0_block 4 (some .int) 1 25 rvI [.ref a0, .int i1, .int i2] (f_X0_block a0 i1 i2) := by
  refine CT_of (ls := [(0, .ref a0), (1, .int i1), (2, .int i2)]) (by decide) (Nat.le_of_ble_eq_true rfl) rfl ?_
  intro X h he z hX hf C E hnm hh
  have hl := hle.rf he
  subst hX
  unfold f_X0_block at hf
  refine v_iload_n C 1 dX0_block_0 rfl rfl ?_
  refine v_i2l C dX0_block_1 ?_
  refine v_lconst (x := 0) C dX0_block_2 (by decide) ?_
  refine v_ldc2 (x := 2) C q781 dX0_block_3 ?_
  refine v_callS (stk := fun b => .int b :: []) C (ct_X0_isIn _ i1.toInt64 (0 : Int64) (2 : Int64)) nd_X0_isIn rfl (Nat.le_of_ble_eq_true rfl) (Nat.le_of_ble_eq_true rfl) [] (Nat.le_of_ble_eq_true rfl) (fun _ => rfl) rfl q749 q750 q96 q751 hf hl dX0_block_6 (fun x1 h2 hf => ?_)
  refine v_if_ne C hf (tgt := 14) dX0_block_9 (by decide) (fun c9 hf => ?_) (fun c9 hf => ?_)
  · refine v_iload_n C 1 dX0_block_14 rfl rfl ?_
    obtain ⟨x3, h4, hAh4, hf, hlh4⟩ := mb_inv hf hl
    refine v_cut (h1 := h4) (pc1 := 50) (ls1 := [(2, .int i2)]) (st1 := [.ref x3]) ?_ (fun Jh4 => ?_)
    · clear hAh4 hlh4
      refine v_astore_n (ls' := [(3, _), (2, _)]) C dX0_block_50 rfl (by decide) rfl ?_
      refine v_iload_n C 1 dX0_block_51 rfl rfl ?_
      refine v_i2l C dX0_block_52 ?_
      refine v_lconst (x := 0) C dX0_block_53 (by decide) ?_
      refine v_aload_n C 0 dX0_block_54 rfl rfl ?_
      refine v_alen C hf (by decide) dX0_block_55 (fun x5 hf => ?_)
      refine v_iconst (x := 1) C dX0_block_56 (by decide) ?_
      refine v_isub C dX0_block_57 ?_
      refine v_i2l C dX0_block_58 ?_
      refine v_callS (stk := fun b => .int b :: []) C (ct_X0_isIn _ i2.toInt64 (0 : Int64) ((x5 - (1 : Int32)).toInt64)) nd_X0_isIn rfl (Nat.le_of_ble_eq_true rfl) (Nat.le_of_ble_eq_true rfl) [] (Nat.le_of_ble_eq_true rfl) (fun _ => rfl) rfl q749 q750 q96 q751 hf hl dX0_block_59 (fun x6 h7 hf => ?_)
      obtain ⟨x8, h9, hAh9, hf, hlh9⟩ := mb_inv hf hl
      refine v_cut (h1 := h9) (pc1 := 72) (ls1 := []) (st1 := [.int x8]) ?_ (fun Jh9 => ?_)
      · clear hAh9 hlh9
        exact v_iret C E hf dX0_block_72
      · clear hf
        have hf := hAh9
        have hl := hlh9
        refine v_if_eq C hf (tgt := 71) dX0_block_62 (by decide) (fun c62 hf => ?_) (fun c62 hf => ?_)
        · refine v_iconst (x := (-1)) C dX0_block_71 (by decide) ?_
          obtain ⟨e1, rfl⟩ := mret_inv hf
          subst e1
          exact v_sub (ls' := _) [] rfl Jh9
        · refine v_aload_n C 0 dX0_block_65 rfl rfl ?_
          refine v_iload_n C 1 dX0_block_66 rfl rfl ?_
          refine v_iaload C hf dX0_block_67 (fun x10 hf => ?_)
          refine v_goto (tgt := 72) C dX0_block_68 (by decide) ?_
          obtain ⟨e1, rfl⟩ := mret_inv hf
          subst e1
          exact v_sub (ls' := _) [] rfl Jh9
    · clear hf
      have hf := hAh4
      have hl := hlh4
      refine v_if_ne C hf (tgt := 28) dX0_block_15 (by decide) (fun c15 hf => ?_) (fun c15 hf => ?_)
      · refine v_iload_n C 1 dX0_block_28 rfl rfl ?_
        refine v_iconst (x := 1) C dX0_block_29 (by decide) ?_
        refine v_icmp_ne C hf (tgt := 43) dX0_block_30 (by decide) (fun c30 hf => ?_) (fun c30 hf => ?_)
        · refine v_aload_n C 0 dX0_block_43 rfl rfl ?_
          refine v_gR (Cn := RX0) (T := TX0) (N := 16) C hf in_X0 rfl (by decide) q692 rfl dX0_block_44 (fun x11 hf => ?_)
          refine v_gRN (Cn := RX1) (T := TX1) (N := 10) C hf in_X1 rfl (by decide) q205 rfl dX0_block_47 (fun x12 hf => ?_)
          obtain ⟨e1, rfl⟩ := mret_inv hf
          subst e1
          exact v_sub (ls' := _) [2] rfl Jh4
        · refine v_aload_n C 0 dX0_block_33 rfl rfl ?_
          refine v_gR (Cn := RX0) (T := TX0) (N := 16) C hf in_X0 rfl (by decide) q692 rfl dX0_block_34 (fun x13 hf => ?_)
          refine v_gRN (Cn := RX1) (T := TX1) (N := 10) C hf in_X1 rfl (by decide) q202 rfl dX0_block_37 (fun x14 hf => ?_)
          refine v_goto (tgt := 50) C dX0_block_40 (by decide) ?_
          obtain ⟨e1, rfl⟩ := mret_inv hf
          subst e1
          exact v_sub (ls' := _) [2] rfl Jh4
      · refine v_aload_n C 0 dX0_block_18 rfl rfl ?_
        refine v_gR (Cn := RX0) (T := TX0) (N := 16) C hf in_X0 rfl (by decide) q692 rfl dX0_block_19 (fun x15 hf => ?_)
        refine v_gRN (Cn := RX1) (T := TX1) (N := 10) C hf in_X1 rfl (by decide) q197 rfl dX0_block_22 (fun x16 hf => ?_)
        refine v_goto (tgt := 50) C dX0_block_25 (by decide) ?_
        obtain ⟨e1, rfl⟩ := mret_inv hf
        subst e1
        exact v_sub (ls' := _) [2] rfl Jh4
  · refine v_iconst (x := (-1)) C dX0_block_12 (by decide) ?_
    exact v_iret C E hf dX0_block_13
def f_X0_isMove (i0 : Int32) : hM Int32 :=
  mb (f_X0_isIn i0.toInt64 (0 : Int64) (4 : Int64)) fun x1 => mrt .boolean x1
theorem nd_X0_isMove : yX0_isMove.cls ≠ "java/lang/invoke/MethodHandle" ∧ yX0_isMove.cls ≠ "java/lang/invoke/VarHandle" ∧ (parseMethodDescriptor yX0_isMove.desc).map (fun d => d.parameters.length) = some 1 := by decide +kernel
set_option maxHeartbeats 4000000 in
theorem ct_X0_isMove (l : Launch) (i0 : Int32) : CT l yX0_isMove cX0_isMove 1 (some .boolean) 1 25 rvI [.int i0] (f_X0_isMove i0) := by
  refine CT_of (ls := [(0, .int i0)]) (by decide) (Nat.le_of_ble_eq_true rfl) rfl ?_
  intro X h he z hX hf C E hnm hh
  have hl := hle.rf he
  subst hX
  unfold f_X0_isMove at hf
  refine v_iload_n C 0 dX0_isMove_0 rfl rfl ?_
  refine v_i2l C dX0_isMove_1 ?_
  refine v_lconst (x := 0) C dX0_isMove_2 (by decide) ?_
  refine v_ldc2 (x := 4) C q815 dX0_isMove_3 ?_
  refine v_callS (stk := fun b => .int b :: []) C (ct_X0_isIn _ i0.toInt64 (0 : Int64) (4 : Int64)) nd_X0_isIn rfl (Nat.le_of_ble_eq_true rfl) (Nat.le_of_ble_eq_true rfl) [] (Nat.le_of_ble_eq_true rfl) (fun _ => rfl) rfl q749 q750 q96 q751 hf hl dX0_isMove_6 (fun x1 h2 hf => ?_)
  exact v_zret C E hf dX0_isMove_9
def f_X0_isPlace (l0 : Int64) : hM Int32 :=
  mb (f_X0_isIn l0 (0 : Int64) (23 : Int64)) fun x1 => mrt .boolean x1
theorem nd_X0_isPlace : yX0_isPlace.cls ≠ "java/lang/invoke/MethodHandle" ∧ yX0_isPlace.cls ≠ "java/lang/invoke/VarHandle" ∧ (parseMethodDescriptor yX0_isPlace.desc).map (fun d => d.parameters.length) = some 1 := by decide +kernel
set_option maxHeartbeats 4000000 in
theorem ct_X0_isPlace (l : Launch) (l0 : Int64) : CT l yX0_isPlace cX0_isPlace 2 (some .boolean) 1 25 rvI [.long l0] (f_X0_isPlace l0) := by
  refine CT_of (ls := [(0, .long l0)]) (by decide) (Nat.le_of_ble_eq_true rfl) rfl ?_
  intro X h he z hX hf C E hnm hh
  have hl := hle.rf he
  subst hX
  unfold f_X0_isPlace at hf
  refine v_lload_n C 0 dX0_isPlace_0 rfl rfl ?_
  refine v_lconst (x := 0) C dX0_isPlace_1 (by decide) ?_
  refine v_ldc2 (x := 23) C q819 dX0_isPlace_2 ?_
  refine v_callS (stk := fun b => .int b :: []) C (ct_X0_isIn _ l0 (0 : Int64) (23 : Int64)) nd_X0_isIn rfl (Nat.le_of_ble_eq_true rfl) (Nat.le_of_ble_eq_true rfl) [] (Nat.le_of_ble_eq_true rfl) (fun _ => rfl) rfl q749 q750 q96 q751 hf hl dX0_isPlace_5 (fun x1 h2 hf => ?_)
  exact v_zret C E hf dX0_isPlace_8
def f_X0_faultAt (a0 : Nat) (i1 : Int32) : hM Nat :=
  mb (gR a0 0 5) fun x1 => mb (pF x1 5 6 (.int i1)) fun _ => mb (gR a0 0 5) fun x3 => mret x3
theorem nd_X0_faultAt : yX0_faultAt.cls ≠ "java/lang/invoke/MethodHandle" ∧ yX0_faultAt.cls ≠ "java/lang/invoke/VarHandle" ∧ (parseMethodDescriptor yX0_faultAt.desc).map (fun d => d.parameters.length) = some 1 := by decide +kernel
set_option maxHeartbeats 4000000 in
theorem ct_X0_faultAt (l : Launch) (a0 : Nat) (i1 : Int32) : CT l yX0_faultAt cX0_faultAt 2 (some (.object "EightBlocks$Fault")) 0 0 rvR [.ref a0, .int i1] (f_X0_faultAt a0 i1) := by
  refine CT_of (ls := [(0, .ref a0), (1, .int i1)]) (by decide) (Nat.le_of_ble_eq_true rfl) rfl ?_
  intro X h he z hX hf C E hnm hh
  have hl := hle.rf he
  subst hX
  unfold f_X0_faultAt at hf
  refine v_aload_n C 0 dX0_faultAt_0 rfl rfl ?_
  refine v_gR (Cn := RX0) (T := TX0) (N := 16) C hf in_X0 rfl (by decide) q697 rfl dX0_faultAt_1 (fun x1 hf => ?_)
  refine v_iload_n C 1 dX0_faultAt_4 rfl rfl ?_
  refine v_putvN (Cn := RX5) (T := TX5) (N := 7) (ty0 := tyX5) C hf in_X5 tyX5_ok nmX5 rfl (by decide) q417 rfl rfl rfl rfl dX0_faultAt_5 (fun h2 hf => ?_)
  refine v_aload_n C 0 dX0_faultAt_8 rfl rfl ?_
  refine v_gR (Cn := RX0) (T := TX0) (N := 16) C hf in_X0 rfl (by decide) q697 rfl dX0_faultAt_9 (fun x3 hf => ?_)
  exact v_aret C E hf (Or.inl ⟨_, rfl⟩) dX0_faultAt_12
def f_X0_isMoves (i0 : Int32) : hM Int32 :=
  mb (f_X0_isIn i0.toInt64 (0 : Int64) (15 : Int64)) fun x1 => mrt .boolean x1
theorem nd_X0_isMoves : yX0_isMoves.cls ≠ "java/lang/invoke/MethodHandle" ∧ yX0_isMoves.cls ≠ "java/lang/invoke/VarHandle" ∧ (parseMethodDescriptor yX0_isMoves.desc).map (fun d => d.parameters.length) = some 1 := by decide +kernel
set_option maxHeartbeats 4000000 in
theorem ct_X0_isMoves (l : Launch) (i0 : Int32) : CT l yX0_isMoves cX0_isMoves 1 (some .boolean) 1 25 rvI [.int i0] (f_X0_isMoves i0) := by
  refine CT_of (ls := [(0, .int i0)]) (by decide) (Nat.le_of_ble_eq_true rfl) rfl ?_
  intro X h he z hX hf C E hnm hh
  have hl := hle.rf he
  subst hX
  unfold f_X0_isMoves at hf
  refine v_iload_n C 0 dX0_isMoves_0 rfl rfl ?_
  refine v_i2l C dX0_isMoves_1 ?_
  refine v_lconst (x := 0) C dX0_isMoves_2 (by decide) ?_
  refine v_ldc2 (x := 15) C q1373 dX0_isMoves_3 ?_
  refine v_callS (stk := fun b => .int b :: []) C (ct_X0_isIn _ i0.toInt64 (0 : Int64) (15 : Int64)) nd_X0_isIn rfl (Nat.le_of_ble_eq_true rfl) (Nat.le_of_ble_eq_true rfl) [] (Nat.le_of_ble_eq_true rfl) (fun _ => rfl) rfl q749 q750 q96 q751 hf hl dX0_isMoves_6 (fun x1 h2 hf => ?_)
  exact v_zret C E hf dX0_isMoves_9
def l_X0_turn_101 (a0 : Nat) (i3 : Int32) (i4 : Int32) (a6 : Nat) (i7 : Int32) : Nat → Int32 → Int32 → hM (Int32)
  | 0, _, _ => mfail
  | n + 1, i5, i8 => mi (i7 ≤ i8) (mret i5) (mb (aI 1 a6 i8) fun x20 => mb (gR a0 0 3) fun x21 => mb (gI x21 2 1) fun x22 => mb (mi (¬ (x20 &&& (x22 ^^^ (-1 : Int32))) = i3) (mret i5) (mi ((x20 &&& i4) = 0) (mret i5) (mb (gR a0 0 3) fun x25 => mb (gI x25 2 1) fun x26 => mret (x20 &&& x26)))) fun x23 => l_X0_turn_101 a0 i3 i4 a6 i7 n x23 (i8 + (1 : Int32)))
def f_X0_turn (a0 : Nat) (i1 : Int32) (i2 : Int32) : hM Int32 :=
  mb (f_X0_isPlace i1.toInt64) fun x1 => mi (x1 = 0) (mret (-1 : Int32)) (mb (f_X0_isPlace i2.toInt64) fun x3 => mi (¬ x3 = 0) (mi (i1 = i2) (mret (-2 : Int32)) (mb (gR a0 0 3) fun x5 => mb (gI x5 2 1) fun x6 => mb (f_X0_has x6 i1) fun x7 => mi (¬ x7 = 0) (mret (-2 : Int32)) (mb (gR a0 0 3) fun x9 => mb (gI x9 2 1) fun x10 => mb (f_X0_has x10 i2) fun x11 => mi (x11 = 0) (mb (gR a0 0 3) fun x13 => mb (gI x13 2 1) fun x14 => mb (gR a0 0 3) fun x15 => mb (gI x15 2 1) fun x16 => mb (gR a0 0 0) fun x17 => mb (gR x17 1 3) fun x18 => mb (alen 1 x18) fun x19 => mb (l_X0_turn_101 a0 (((1 : Int32) <<< (i1 &&& 31)) ||| ((1 : Int32) <<< (i2 &&& 31))) (x14 &&& (-x16)) x18 x19 FU (-4 : Int32) (0 : Int32)) fun x27 => mret x27) (mret (-2 : Int32))))) (mret (-1 : Int32)))
theorem nd_X0_turn : yX0_turn.cls ≠ "java/lang/invoke/MethodHandle" ∧ yX0_turn.cls ≠ "java/lang/invoke/VarHandle" ∧ (parseMethodDescriptor yX0_turn.desc).map (fun d => d.parameters.length) = some 2 := by decide +kernel
set_option maxHeartbeats 4000000 in
theorem ct_X0_turn (l : Launch) (a0 : Nat) (i1 : Int32) (i2 : Int32) : CT l yX0_turn cX0_turn 10 (some .int) 2 46 rvI [.ref a0, .int i1, .int i2] (f_X0_turn a0 i1 i2) := by
  refine CT_of (ls := [(0, .ref a0), (1, .int i1), (2, .int i2)]) (by decide) (Nat.le_of_ble_eq_true rfl) rfl ?_
  intro X h he z hX hf C E hnm hh
  have hl := hle.rf he
  subst hX
  have L101 : ∀ (a0 : Nat) (i3 : Int32) (i4 : Int32) (a6 : Nat) (i7 : Int32) (n : Nat) (i5 : Int32) (i8 : Int32) (h h1 : Hp) (o : Int32), (l_X0_turn_101 a0 i3 i4 a6 i7 n i5 i8).1 h = some (o, h1) → hle h1 he → V X h1 162 [(5, .int o)] [] → V X h 101 [(0, .ref a0), (3, .int i3), (4, .int i4), (5, .int i5), (6, .ref a6), (7, .int i7), (8, .int i8)] [] := by
    intro a0 i3 i4 a6 i7 n
    induction n with
    | zero => intro i5 i8 h h1 o hf; exact mfail_inv hf
    | succ n ih =>
      intro i5 i8 h h1 o hf hl J
      rw [l_X0_turn_101] at hf
      refine v_iload C 6 dX0_turn_101 rfl ?_
      refine v_iload C 5 dX0_turn_103 rfl ?_
      refine v_icmp_ge C hf (tgt := 162) dX0_turn_105 (by decide) (fun c105 hf => ?_) (fun c105 hf => ?_)
      · obtain ⟨e1, rfl⟩ := mret_inv hf
        subst e1
        exact v_sub (ls' := _) [3] rfl J
      · refine v_aload C 4 dX0_turn_108 rfl ?_
        refine v_iload C 6 dX0_turn_110 rfl ?_
        refine v_iaload C hf dX0_turn_112 (fun x20 hf => ?_)
        refine v_istore (ls' := [(9, _), (0, _), (3, _), (4, _), (5, _), (6, _), (7, _), (8, _)]) C dX0_turn_113 (by decide) rfl ?_
        refine v_iload C 0 dX0_turn_115 rfl ?_
        refine v_aload_n C 1 dX0_turn_117 rfl rfl ?_
        refine v_gR (Cn := RX0) (T := TX0) (N := 16) C hf in_X0 rfl (by decide) q695 rfl dX0_turn_118 (fun x21 hf => ?_)
        refine v_gIN (Cn := RX2) (T := TX2) (N := 3) C hf in_X2 rfl (by decide) q261 rfl dX0_turn_121 (fun x22 hf => ?_)
        refine v_iconst (x := (-1)) C dX0_turn_124 (by decide) ?_
        refine v_ixor C dX0_turn_125 ?_
        refine v_iand C dX0_turn_126 ?_
        refine v_iload_n C 2 dX0_turn_127 rfl rfl ?_
        obtain ⟨x23, h24, hAh24, hf, hlh24⟩ := mb_inv hf hl
        refine v_cut (h1 := h24) (pc1 := 154) (ls1 := [(0, .ref a0), (3, .int i3), (4, .int i4), (6, .ref a6), (7, .int i7), (8, .int i8)]) (st1 := [.int x23]) ?_ (fun Jh24 => ?_)
        · clear hAh24 hlh24
          refine v_istore (ls' := [(5, _), (0, _), (3, _), (4, _), (6, _), (7, _), (8, _)]) C dX0_turn_154 (by decide) rfl ?_
          refine v_iinc (ls' := [(8, _), (5, _), (0, _), (3, _), (4, _), (6, _), (7, _)]) (y := i8 + (1 : Int32)) C 6 dX0_turn_156 rfl rfl (by decide) rfl ?_
          refine v_goto (tgt := 101) C dX0_turn_159 (by decide) ?_
          refine v_sub (ls' := _) [2, 3, 4, 1, 5, 6, 0] rfl (ih x23 (i8 + (1 : Int32)) _ _ _ hf hl J)
        · clear hf
          have hf := hAh24
          have hl := hlh24
          refine v_icmp_ne C hf (tgt := 152) dX0_turn_128 (by decide) (fun c128 hf => ?_) (fun c128 hf => ?_)
          · refine v_iload C 4 dX0_turn_152 rfl ?_
            obtain ⟨e1, rfl⟩ := mret_inv hf
            subst e1
            exact v_sub (ls' := _) [1, 2, 3, 5, 6, 7] rfl Jh24
          · refine v_iload C 0 dX0_turn_131 rfl ?_
            refine v_iload C 3 dX0_turn_133 rfl ?_
            refine v_iand C dX0_turn_135 ?_
            refine v_if_eq C hf (tgt := 152) dX0_turn_136 (by decide) (fun c136 hf => ?_) (fun c136 hf => ?_)
            · refine v_iload C 4 dX0_turn_152 rfl ?_
              obtain ⟨e1, rfl⟩ := mret_inv hf
              subst e1
              exact v_sub (ls' := _) [1, 2, 3, 5, 6, 7] rfl Jh24
            · refine v_iload C 0 dX0_turn_139 rfl ?_
              refine v_aload_n C 1 dX0_turn_141 rfl rfl ?_
              refine v_gR (Cn := RX0) (T := TX0) (N := 16) C hf in_X0 rfl (by decide) q695 rfl dX0_turn_142 (fun x25 hf => ?_)
              refine v_gIN (Cn := RX2) (T := TX2) (N := 3) C hf in_X2 rfl (by decide) q261 rfl dX0_turn_145 (fun x26 hf => ?_)
              refine v_iand C dX0_turn_148 ?_
              refine v_goto (tgt := 154) C dX0_turn_149 (by decide) ?_
              obtain ⟨e1, rfl⟩ := mret_inv hf
              subst e1
              exact v_sub (ls' := _) [1, 2, 3, 5, 6, 7] rfl Jh24
  unfold f_X0_turn at hf
  refine v_iload_n C 1 dX0_turn_0 rfl rfl ?_
  refine v_i2l C dX0_turn_1 ?_
  refine v_callS (stk := fun b => .int b :: []) C (ct_X0_isPlace _ i1.toInt64) nd_X0_isPlace rfl (Nat.le_of_ble_eq_true rfl) (Nat.le_of_ble_eq_true rfl) [] (Nat.le_of_ble_eq_true rfl) (fun _ => rfl) rfl q816 q817 q96 q818 hf hl dX0_turn_2 (fun x1 h2 hf => ?_)
  refine v_if_eq C hf (tgt := 16) dX0_turn_5 (by decide) (fun c5 hf => ?_) (fun c5 hf => ?_)
  · refine v_iconst (x := (-1)) C dX0_turn_16 (by decide) ?_
    exact v_iret C E hf dX0_turn_17
  · refine v_iload_n C 2 dX0_turn_8 rfl rfl ?_
    refine v_i2l C dX0_turn_9 ?_
    refine v_callS (stk := fun b => .int b :: []) C (ct_X0_isPlace _ i2.toInt64) nd_X0_isPlace rfl (Nat.le_of_ble_eq_true rfl) (Nat.le_of_ble_eq_true rfl) [] (Nat.le_of_ble_eq_true rfl) (fun _ => rfl) rfl q816 q817 q96 q818 hf hl dX0_turn_10 (fun x3 h4 hf => ?_)
    refine v_if_ne C hf (tgt := 18) dX0_turn_13 (by decide) (fun c13 hf => ?_) (fun c13 hf => ?_)
    · refine v_iload_n C 1 dX0_turn_18 rfl rfl ?_
      refine v_iload_n C 2 dX0_turn_19 rfl rfl ?_
      refine v_icmp_eq C hf (tgt := 51) dX0_turn_20 (by decide) (fun c20 hf => ?_) (fun c20 hf => ?_)
      · refine v_bipush (x := (-2)) C dX0_turn_51 (by decide) ?_
        exact v_iret C E hf dX0_turn_53
      · refine v_aload_n C 0 dX0_turn_23 rfl rfl ?_
        refine v_gR (Cn := RX0) (T := TX0) (N := 16) C hf in_X0 rfl (by decide) q695 rfl dX0_turn_24 (fun x5 hf => ?_)
        refine v_gIN (Cn := RX2) (T := TX2) (N := 3) C hf in_X2 rfl (by decide) q261 rfl dX0_turn_27 (fun x6 hf => ?_)
        refine v_iload_n C 1 dX0_turn_30 rfl rfl ?_
        refine v_callS (stk := fun b => .int b :: []) C (ct_X0_has _ x6 i1) nd_X0_has rfl (Nat.le_of_ble_eq_true rfl) (Nat.le_of_ble_eq_true rfl) [] (Nat.le_of_ble_eq_true rfl) (fun _ => rfl) rfl q1259 q164 q96 q165 hf hl dX0_turn_31 (fun x7 h8 hf => ?_)
        refine v_if_ne C hf (tgt := 51) dX0_turn_34 (by decide) (fun c34 hf => ?_) (fun c34 hf => ?_)
        · refine v_bipush (x := (-2)) C dX0_turn_51 (by decide) ?_
          exact v_iret C E hf dX0_turn_53
        · refine v_aload_n C 0 dX0_turn_37 rfl rfl ?_
          refine v_gR (Cn := RX0) (T := TX0) (N := 16) C hf in_X0 rfl (by decide) q695 rfl dX0_turn_38 (fun x9 hf => ?_)
          refine v_gIN (Cn := RX2) (T := TX2) (N := 3) C hf in_X2 rfl (by decide) q261 rfl dX0_turn_41 (fun x10 hf => ?_)
          refine v_iload_n C 2 dX0_turn_44 rfl rfl ?_
          refine v_callS (stk := fun b => .int b :: []) C (ct_X0_has _ x10 i2) nd_X0_has rfl (Nat.le_of_ble_eq_true rfl) (Nat.le_of_ble_eq_true rfl) [] (Nat.le_of_ble_eq_true rfl) (fun _ => rfl) rfl q1259 q164 q96 q165 hf hl dX0_turn_45 (fun x11 h12 hf => ?_)
          refine v_if_eq C hf (tgt := 54) dX0_turn_48 (by decide) (fun c48 hf => ?_) (fun c48 hf => ?_)
          · refine v_iconst (x := 1) C dX0_turn_54 (by decide) ?_
            refine v_iload_n C 1 dX0_turn_55 rfl rfl ?_
            refine v_ishl C dX0_turn_56 ?_
            refine v_iconst (x := 1) C dX0_turn_57 (by decide) ?_
            refine v_iload_n C 2 dX0_turn_58 rfl rfl ?_
            refine v_ishl C dX0_turn_59 ?_
            refine v_ior C dX0_turn_60 ?_
            refine v_istore_n (ls' := [(3, _), (0, _), (1, _), (2, _)]) C dX0_turn_61 rfl (by decide) rfl ?_
            refine v_aload_n C 1 dX0_turn_62 rfl rfl ?_
            refine v_gR (Cn := RX0) (T := TX0) (N := 16) C hf in_X0 rfl (by decide) q695 rfl dX0_turn_63 (fun x13 hf => ?_)
            refine v_gIN (Cn := RX2) (T := TX2) (N := 3) C hf in_X2 rfl (by decide) q261 rfl dX0_turn_66 (fun x14 hf => ?_)
            refine v_aload_n C 1 dX0_turn_69 rfl rfl ?_
            refine v_gR (Cn := RX0) (T := TX0) (N := 16) C hf in_X0 rfl (by decide) q695 rfl dX0_turn_70 (fun x15 hf => ?_)
            refine v_gIN (Cn := RX2) (T := TX2) (N := 3) C hf in_X2 rfl (by decide) q261 rfl dX0_turn_73 (fun x16 hf => ?_)
            refine v_ineg C dX0_turn_76 ?_
            refine v_iand C dX0_turn_77 ?_
            refine v_istore (ls' := [(4, _), (3, _), (0, _), (1, _), (2, _)]) C dX0_turn_78 (by decide) rfl ?_
            refine v_bipush (x := (-4)) C dX0_turn_80 (by decide) ?_
            refine v_istore (ls' := [(5, _), (4, _), (3, _), (0, _), (1, _), (2, _)]) C dX0_turn_82 (by decide) rfl ?_
            refine v_aload_n C 3 dX0_turn_84 rfl rfl ?_
            refine v_gR (Cn := RX0) (T := TX0) (N := 16) C hf in_X0 rfl (by decide) q692 rfl dX0_turn_85 (fun x17 hf => ?_)
            refine v_gRN (Cn := RX1) (T := TX1) (N := 10) C hf in_X1 rfl (by decide) q202 rfl dX0_turn_88 (fun x18 hf => ?_)
            refine v_astore (ls' := [(6, _), (5, _), (4, _), (3, _), (0, _), (1, _), (2, _)]) C dX0_turn_91 (by decide) rfl ?_
            refine v_aload C 0 dX0_turn_93 rfl ?_
            refine v_alen C hf (by decide) dX0_turn_95 (fun x19 hf => ?_)
            refine v_istore (ls' := [(7, _), (6, _), (5, _), (4, _), (3, _), (0, _), (1, _), (2, _)]) C dX0_turn_96 (by decide) rfl ?_
            refine v_iconst (x := 0) C dX0_turn_98 (by decide) ?_
            refine v_istore (ls' := [(8, _), (7, _), (6, _), (5, _), (4, _), (3, _), (0, _), (1, _), (2, _)]) C dX0_turn_99 (by decide) rfl ?_
            obtain ⟨x27, h28, eh28, hf, hlh28⟩ := mb_inv hf hl
            refine v_sub (ls' := _) [6, 5, 4, 3, 2, 1, 0] rfl (L101 a0 (((1 : Int32) <<< (i1 &&& 31)) ||| ((1 : Int32) <<< (i2 &&& 31))) (x14 &&& (-x16)) x18 x19 FU (-4 : Int32) (0 : Int32) _ _ _ eh28 hlh28 ?_)
            refine v_iload C 0 dX0_turn_162 rfl ?_
            exact v_iret C E hf dX0_turn_164
          · refine v_bipush (x := (-2)) C dX0_turn_51 (by decide) ?_
            exact v_iret C E hf dX0_turn_53
    · refine v_iconst (x := (-1)) C dX0_turn_16 (by decide) ?_
      exact v_iret C E hf dX0_turn_17
def f_X0_seed (a0 : Nat) (i1 : Int32) : hM Int32 :=
  mi (0 ≤ i1) (mb (gR a0 0 3) fun x1 => mb (gI x1 2 2) fun x2 => mb (gR a0 0 3) fun x3 => mb (pF x3 2 2 (.int i1)) fun _ => mret x2) (mret (-1 : Int32))
theorem nd_X0_seed : yX0_seed.cls ≠ "java/lang/invoke/MethodHandle" ∧ yX0_seed.cls ≠ "java/lang/invoke/VarHandle" ∧ (parseMethodDescriptor yX0_seed.desc).map (fun d => d.parameters.length) = some 1 := by decide +kernel
set_option maxHeartbeats 4000000 in
theorem ct_X0_seed (l : Launch) (a0 : Nat) (i1 : Int32) : CT l yX0_seed cX0_seed 3 (some .int) 0 0 rvI [.ref a0, .int i1] (f_X0_seed a0 i1) := by
  refine CT_of (ls := [(0, .ref a0), (1, .int i1)]) (by decide) (Nat.le_of_ble_eq_true rfl) rfl ?_
  intro X h he z hX hf C E hnm hh
  have hl := hle.rf he
  subst hX
  unfold f_X0_seed at hf
  refine v_iload_n C 1 dX0_seed_0 rfl rfl ?_
  refine v_if_ge C hf (tgt := 6) dX0_seed_1 (by decide) (fun c1 hf => ?_) (fun c1 hf => ?_)
  · refine v_aload_n C 0 dX0_seed_6 rfl rfl ?_
    refine v_gR (Cn := RX0) (T := TX0) (N := 16) C hf in_X0 rfl (by decide) q695 rfl dX0_seed_7 (fun x1 hf => ?_)
    refine v_gIN (Cn := RX2) (T := TX2) (N := 3) C hf in_X2 rfl (by decide) q263 rfl dX0_seed_10 (fun x2 hf => ?_)
    refine v_istore_n (ls' := [(2, _), (0, _), (1, _)]) C dX0_seed_13 rfl (by decide) rfl ?_
    refine v_aload_n C 1 dX0_seed_14 rfl rfl ?_
    refine v_gR (Cn := RX0) (T := TX0) (N := 16) C hf in_X0 rfl (by decide) q695 rfl dX0_seed_15 (fun x3 hf => ?_)
    refine v_iload_n C 2 dX0_seed_18 rfl rfl ?_
    refine v_putvN (Cn := RX2) (T := TX2) (N := 3) (ty0 := tyX2) C hf in_X2 tyX2_ok nmX2 rfl (by decide) q263 rfl rfl rfl rfl dX0_seed_19 (fun h4 hf => ?_)
    refine v_iload_n C 0 dX0_seed_22 rfl rfl ?_
    exact v_iret C E hf dX0_seed_23
  · refine v_iconst (x := (-1)) C dX0_seed_4 (by decide) ?_
    exact v_iret C E hf dX0_seed_5
def f_X0_isSheet (i0 : Int32) (i1 : Int32) : hM Int32 :=
  mb (f_X0_isIn i0.toInt64 (0 : Int64) (3 : Int64)) fun x1 => mb (mi (x1 = 0) (mret (0 : Int32)) (mb (f_X0_isIn i1.toInt64 (0 : Int64) (3 : Int64)) fun x5 => mi (x5 = 0) (mret (0 : Int32)) (mret (1 : Int32)))) fun x3 => mrt .boolean x3
theorem nd_X0_isSheet : yX0_isSheet.cls ≠ "java/lang/invoke/MethodHandle" ∧ yX0_isSheet.cls ≠ "java/lang/invoke/VarHandle" ∧ (parseMethodDescriptor yX0_isSheet.desc).map (fun d => d.parameters.length) = some 2 := by decide +kernel
set_option maxHeartbeats 4000000 in
theorem ct_X0_isSheet (l : Launch) (i0 : Int32) (i1 : Int32) : CT l yX0_isSheet cX0_isSheet 2 (some .boolean) 1 25 rvI [.int i0, .int i1] (f_X0_isSheet i0 i1) := by
  refine CT_of (ls := [(0, .int i0), (1, .int i1)]) (by decide) (Nat.le_of_ble_eq_true rfl) rfl ?_
  intro X h he z hX hf C E hnm hh
  have hl := hle.rf he
  subst hX
  unfold f_X0_isSheet at hf
  refine v_iload_n C 0 dX0_isSheet_0 rfl rfl ?_
  refine v_i2l C dX0_isSheet_1 ?_
  refine v_lconst (x := 0) C dX0_isSheet_2 (by decide) ?_
  refine v_ldc2 (x := 3) C q1149 dX0_isSheet_3 ?_
  refine v_callS (stk := fun b => .int b :: []) C (ct_X0_isIn _ i0.toInt64 (0 : Int64) (3 : Int64)) nd_X0_isIn rfl (Nat.le_of_ble_eq_true rfl) (Nat.le_of_ble_eq_true rfl) [] (Nat.le_of_ble_eq_true rfl) (fun _ => rfl) rfl q749 q750 q96 q751 hf hl dX0_isSheet_6 (fun x1 h2 hf => ?_)
  obtain ⟨x3, h4, hAh4, hf, hlh4⟩ := mb_inv hf hl
  refine v_cut (h1 := h4) (pc1 := 29) (ls1 := []) (st1 := [.int x3]) ?_ (fun Jh4 => ?_)
  · clear hAh4 hlh4
    exact v_zret C E hf dX0_isSheet_29
  · clear hf
    have hf := hAh4
    have hl := hlh4
    refine v_if_eq C hf (tgt := 28) dX0_isSheet_9 (by decide) (fun c9 hf => ?_) (fun c9 hf => ?_)
    · refine v_iconst (x := 0) C dX0_isSheet_28 (by decide) ?_
      obtain ⟨e1, rfl⟩ := mret_inv hf
      subst e1
      exact v_sub (ls' := _) [] rfl Jh4
    · refine v_iload_n C 1 dX0_isSheet_12 rfl rfl ?_
      refine v_i2l C dX0_isSheet_13 ?_
      refine v_lconst (x := 0) C dX0_isSheet_14 (by decide) ?_
      refine v_ldc2 (x := 3) C q1149 dX0_isSheet_15 ?_
      refine v_callS (stk := fun b => .int b :: []) C (ct_X0_isIn _ i1.toInt64 (0 : Int64) (3 : Int64)) nd_X0_isIn rfl (Nat.le_of_ble_eq_true rfl) (Nat.le_of_ble_eq_true rfl) [] (Nat.le_of_ble_eq_true rfl) (fun _ => rfl) rfl q749 q750 q96 q751 hf hl dX0_isSheet_18 (fun x5 h6 hf => ?_)
      refine v_if_eq C hf (tgt := 28) dX0_isSheet_21 (by decide) (fun c21 hf => ?_) (fun c21 hf => ?_)
      · refine v_iconst (x := 0) C dX0_isSheet_28 (by decide) ?_
        obtain ⟨e1, rfl⟩ := mret_inv hf
        subst e1
        exact v_sub (ls' := _) [] rfl Jh4
      · refine v_iconst (x := 1) C dX0_isSheet_24 (by decide) ?_
        refine v_goto (tgt := 29) C dX0_isSheet_25 (by decide) ?_
        obtain ⟨e1, rfl⟩ := mret_inv hf
        subst e1
        exact v_sub (ls' := _) [] rfl Jh4
def l_X1_lead_43 (a0 : Nat) (i2 : Int32) (i3 : Int32) (i4 : Int32) (i5 : Int32) : Nat → Int32 → hM (Unit)
  | 0, _ => mfail
  | n + 1, i6 => mi ((12 : Int32) ≤ i6) (mret ()) (mb (gR a0 1 7) fun x13 => mb (aI 1 x13 i6) fun x14 => mb (f_X0_has x14 i3) fun x15 => mb (mi (x15 = 0) (mret ()) (mb (gR a0 1 7) fun x18 => mb (aI 1 x18 i6) fun x19 => mb (sI 1 x18 i6 (x19 ^^^ i4)) fun _ => mb (gR a0 1 9) fun x21 => mb (aI 1 x21 i6) fun x22 => mb (sI 1 x21 i6 (x22 ^^^ i5)) fun _ => mret ())) fun _ => l_X1_lead_43 a0 i2 i3 i4 i5 n (i6 + (1 : Int32)))
def f_X1_lead (a0 : Nat) (i1 : Int32) (i2 : Int32) (i3 : Int32) : hM Unit :=
  mb (gR a0 1 7) fun x1 => mb (aI 1 x1 i1) fun x2 => mb (gR a0 1 9) fun x3 => mb (aI 1 x3 i1) fun x4 => mb (gR a0 1 7) fun x5 => mb (gR a0 1 7) fun x6 => mb (aI 1 x6 i2) fun x7 => mb (sI 1 x5 i1 x7) fun _ => mb (gR a0 1 9) fun x9 => mb (gR a0 1 9) fun x10 => mb (aI 1 x10 i2) fun x11 => mb (sI 1 x9 i1 x11) fun _ => mb (l_X1_lead_43 a0 i2 i3 x2 x4 FU (0 : Int32)) fun x24 => mb (gR a0 1 7) fun x26 => mb (sI 1 x26 i2 x2) fun _ => mb (gR a0 1 9) fun x28 => mb (sI 1 x28 i2 x4) fun _ => mb (gR a0 1 8) fun x30 => mb (sI 1 x30 i2 i3) fun _ => mret ()
theorem nd_X1_lead : yX1_lead.cls ≠ "java/lang/invoke/MethodHandle" ∧ yX1_lead.cls ≠ "java/lang/invoke/VarHandle" ∧ (parseMethodDescriptor yX1_lead.desc).map (fun d => d.parameters.length) = some 3 := by decide +kernel
set_option maxHeartbeats 4000000 in
theorem ct_X1_lead (l : Launch) (a0 : Nat) (i1 : Int32) (i2 : Int32) (i3 : Int32) : CT l yX1_lead cX1_lead 7 none 1 21 rv0 [.ref a0, .int i1, .int i2, .int i3] (f_X1_lead a0 i1 i2 i3) := by
  refine CT_of (ls := [(0, .ref a0), (1, .int i1), (2, .int i2), (3, .int i3)]) (by decide) (Nat.le_of_ble_eq_true rfl) rfl ?_
  intro X h he z hX hf C E hnm hh
  have hl := hle.rf he
  subst hX
  have L43 : ∀ (a0 : Nat) (i2 : Int32) (i3 : Int32) (i4 : Int32) (i5 : Int32) (n : Nat) (i6 : Int32) (h h1 : Hp) (o : Unit), (l_X1_lead_43 a0 i2 i3 i4 i5 n i6).1 h = some (o, h1) → hle h1 he → V X h1 94 [(0, .ref a0), (2, .int i2), (3, .int i3), (4, .int i4), (5, .int i5)] [] → V X h 43 [(0, .ref a0), (2, .int i2), (3, .int i3), (4, .int i4), (5, .int i5), (6, .int i6)] [] := by
    intro a0 i2 i3 i4 i5 n
    induction n with
    | zero => intro i6 h h1 o hf; exact mfail_inv hf
    | succ n ih =>
      intro i6 h h1 o hf hl J
      rw [l_X1_lead_43] at hf
      refine v_iload C 5 dX1_lead_43 rfl ?_
      refine v_bipush (x := 12) C dX1_lead_45 (by decide) ?_
      refine v_icmp_ge C hf (tgt := 94) dX1_lead_47 (by decide) (fun c47 hf => ?_) (fun c47 hf => ?_)
      · obtain ⟨e1, rfl⟩ := mret_inv hf
        subst e1
        exact v_sub (ls' := _) [0, 1, 2, 3, 4] rfl J
      · refine v_aload_n C 0 dX1_lead_50 rfl rfl ?_
        refine v_gR (Cn := RX1) (T := TX1) (N := 10) C hf in_X1 rfl (by decide) q210 rfl dX1_lead_51 (fun x13 hf => ?_)
        refine v_iload C 5 dX1_lead_54 rfl ?_
        refine v_iaload C hf dX1_lead_56 (fun x14 hf => ?_)
        refine v_iload_n C 2 dX1_lead_57 rfl rfl ?_
        refine v_callSN (stk := fun b => .int b :: []) C (ct_X0_has _ x14 i3) nd_X0_has rfl (Nat.le_of_ble_eq_true rfl) (Nat.le_of_ble_eq_true rfl) [] (Nat.le_of_ble_eq_true rfl) (fun _ => rfl) rfl q163 q164 q96 q165 hf hl dX1_lead_58 (fun x15 h16 hf => ?_)
        obtain ⟨_u, h17, hAh17, hf, hlh17⟩ := mb_inv hf hl
        refine v_cut (h1 := h17) (pc1 := 88) (ls1 := [(0, .ref a0), (2, .int i2), (3, .int i3), (4, .int i4), (5, .int i5), (6, .int i6)]) (st1 := []) ?_ (fun Jh17 => ?_)
        · clear hAh17 hlh17
          refine v_iinc (ls' := [(6, _), (0, _), (2, _), (3, _), (4, _), (5, _)]) (y := i6 + (1 : Int32)) C 5 dX1_lead_88 rfl rfl (by decide) rfl ?_
          refine v_goto (tgt := 43) C dX1_lead_91 (by decide) ?_
          refine v_sub (ls' := _) [1, 2, 3, 4, 5, 0] rfl (ih (i6 + (1 : Int32)) _ _ _ hf hl J)
        · clear hf
          have hf := hAh17
          have hl := hlh17
          refine v_if_eq C hf (tgt := 88) dX1_lead_61 (by decide) (fun c61 hf => ?_) (fun c61 hf => ?_)
          · obtain ⟨e1, rfl⟩ := mret_inv hf
            exact v_sub (ls' := _) [0, 1, 2, 3, 4, 5] rfl Jh17
          · refine v_aload_n C 0 dX1_lead_64 rfl rfl ?_
            refine v_gR (Cn := RX1) (T := TX1) (N := 10) C hf in_X1 rfl (by decide) q210 rfl dX1_lead_65 (fun x18 hf => ?_)
            refine v_iload C 5 dX1_lead_68 rfl ?_
            refine v_dup2 C dX1_lead_70 rfl rfl ?_
            refine v_iaload C hf dX1_lead_71 (fun x19 hf => ?_)
            refine v_iload C 3 dX1_lead_72 rfl ?_
            refine v_ixor C dX1_lead_74 ?_
            refine v_iastore C hf dX1_lead_75 (fun h20 hf => ?_)
            refine v_aload_n C 0 dX1_lead_76 rfl rfl ?_
            refine v_gR (Cn := RX1) (T := TX1) (N := 10) C hf in_X1 rfl (by decide) q212 rfl dX1_lead_77 (fun x21 hf => ?_)
            refine v_iload C 5 dX1_lead_80 rfl ?_
            refine v_dup2 C dX1_lead_82 rfl rfl ?_
            refine v_iaload C hf dX1_lead_83 (fun x22 hf => ?_)
            refine v_iload C 4 dX1_lead_84 rfl ?_
            refine v_ixor C dX1_lead_86 ?_
            refine v_iastore C hf dX1_lead_87 (fun h23 hf => ?_)
            obtain ⟨e1, rfl⟩ := mret_inv hf
            exact v_sub (ls' := _) [0, 1, 2, 3, 4, 5] rfl Jh17
  unfold f_X1_lead at hf
  refine v_aload_n C 0 dX1_lead_0 rfl rfl ?_
  refine v_gR (Cn := RX1) (T := TX1) (N := 10) C hf in_X1 rfl (by decide) q210 rfl dX1_lead_1 (fun x1 hf => ?_)
  refine v_iload_n C 1 dX1_lead_4 rfl rfl ?_
  refine v_iaload C hf dX1_lead_5 (fun x2 hf => ?_)
  refine v_istore (ls' := [(4, _), (0, _), (1, _), (2, _), (3, _)]) C dX1_lead_6 (by decide) rfl ?_
  refine v_aload_n C 1 dX1_lead_8 rfl rfl ?_
  refine v_gR (Cn := RX1) (T := TX1) (N := 10) C hf in_X1 rfl (by decide) q212 rfl dX1_lead_9 (fun x3 hf => ?_)
  refine v_iload_n C 2 dX1_lead_12 rfl rfl ?_
  refine v_iaload C hf dX1_lead_13 (fun x4 hf => ?_)
  refine v_istore (ls' := [(5, _), (4, _), (0, _), (1, _), (2, _), (3, _)]) C dX1_lead_14 (by decide) rfl ?_
  refine v_aload_n C 2 dX1_lead_16 rfl rfl ?_
  refine v_gR (Cn := RX1) (T := TX1) (N := 10) C hf in_X1 rfl (by decide) q210 rfl dX1_lead_17 (fun x5 hf => ?_)
  refine v_iload_n C 3 dX1_lead_20 rfl rfl ?_
  refine v_aload_n C 2 dX1_lead_21 rfl rfl ?_
  refine v_gR (Cn := RX1) (T := TX1) (N := 10) C hf in_X1 rfl (by decide) q210 rfl dX1_lead_22 (fun x6 hf => ?_)
  refine v_iload_n C 4 dX1_lead_25 rfl rfl ?_
  refine v_iaload C hf dX1_lead_26 (fun x7 hf => ?_)
  refine v_iastore C hf dX1_lead_27 (fun h8 hf => ?_)
  refine v_aload_n C 2 dX1_lead_28 rfl rfl ?_
  refine v_gR (Cn := RX1) (T := TX1) (N := 10) C hf in_X1 rfl (by decide) q212 rfl dX1_lead_29 (fun x9 hf => ?_)
  refine v_iload_n C 3 dX1_lead_32 rfl rfl ?_
  refine v_aload_n C 2 dX1_lead_33 rfl rfl ?_
  refine v_gR (Cn := RX1) (T := TX1) (N := 10) C hf in_X1 rfl (by decide) q212 rfl dX1_lead_34 (fun x10 hf => ?_)
  refine v_iload_n C 4 dX1_lead_37 rfl rfl ?_
  refine v_iaload C hf dX1_lead_38 (fun x11 hf => ?_)
  refine v_iastore C hf dX1_lead_39 (fun h12 hf => ?_)
  refine v_iconst (x := 0) C dX1_lead_40 (by decide) ?_
  refine v_istore (ls' := [(6, _), (5, _), (4, _), (0, _), (1, _), (2, _), (3, _)]) C dX1_lead_41 (by decide) rfl ?_
  obtain ⟨x24, h25, eh25, hf, hlh25⟩ := mb_inv hf hl
  refine v_sub (ls' := _) [3, 5, 6, 2, 1, 0] rfl (L43 a0 i2 i3 x2 x4 FU (0 : Int32) _ _ _ eh25 hlh25 ?_)
  refine v_aload_n C 0 dX1_lead_94 rfl rfl ?_
  refine v_gR (Cn := RX1) (T := TX1) (N := 10) C hf in_X1 rfl (by decide) q210 rfl dX1_lead_95 (fun x26 hf => ?_)
  refine v_iload_n C 1 dX1_lead_98 rfl rfl ?_
  refine v_iload C 3 dX1_lead_99 rfl ?_
  refine v_iastore C hf dX1_lead_101 (fun h27 hf => ?_)
  refine v_aload_n C 0 dX1_lead_102 rfl rfl ?_
  refine v_gR (Cn := RX1) (T := TX1) (N := 10) C hf in_X1 rfl (by decide) q212 rfl dX1_lead_103 (fun x28 hf => ?_)
  refine v_iload_n C 1 dX1_lead_106 rfl rfl ?_
  refine v_iload C 4 dX1_lead_107 rfl ?_
  refine v_iastore C hf dX1_lead_109 (fun h29 hf => ?_)
  refine v_aload_n C 0 dX1_lead_110 rfl rfl ?_
  refine v_gR (Cn := RX1) (T := TX1) (N := 10) C hf in_X1 rfl (by decide) q211 rfl dX1_lead_111 (fun x30 hf => ?_)
  refine v_iload_n C 1 dX1_lead_114 rfl rfl ?_
  refine v_iload_n C 2 dX1_lead_115 rfl rfl ?_
  refine v_iastore C hf dX1_lead_116 (fun h31 hf => ?_)
  exact v_vret C E hf dX1_lead_117
def l_X1_remainder_4 (a0 : Nat) (i1 : Int32) : Nat → Int32 → Int32 → hM (Int32)
  | 0, _, _ => mfail
  | n + 1, i2, i3 => mi ((24 : Int32) ≤ i3) (mret i2) (mb (f_X0_has i1 i3) fun x1 => mb (mi (x1 = 0) (mret (0 : Int32)) (mb (gR a0 1 5) fun x5 => mb (aI 1 x5 i3) fun x6 => mret x6)) fun x3 => l_X1_remainder_4 a0 i1 n (i2 ^^^ x3) (i3 + (1 : Int32)))
def f_X1_remainder (a0 : Nat) (i1 : Int32) : hM Int32 :=
  mb (l_X1_remainder_4 a0 i1 FU (0 : Int32) (0 : Int32)) fun x7 => mret x7
theorem nd_X1_remainder : yX1_remainder.cls ≠ "java/lang/invoke/MethodHandle" ∧ yX1_remainder.cls ≠ "java/lang/invoke/VarHandle" ∧ (parseMethodDescriptor yX1_remainder.desc).map (fun d => d.parameters.length) = some 1 := by decide +kernel
set_option maxHeartbeats 4000000 in
theorem ct_X1_remainder (l : Launch) (a0 : Nat) (i1 : Int32) : CT l yX1_remainder cX1_remainder 4 (some .int) 1 21 rvI [.ref a0, .int i1] (f_X1_remainder a0 i1) := by
  refine CT_of (ls := [(0, .ref a0), (1, .int i1)]) (by decide) (Nat.le_of_ble_eq_true rfl) rfl ?_
  intro X h he z hX hf C E hnm hh
  have hl := hle.rf he
  subst hX
  have L4 : ∀ (a0 : Nat) (i1 : Int32) (n : Nat) (i2 : Int32) (i3 : Int32) (h h1 : Hp) (o : Int32), (l_X1_remainder_4 a0 i1 n i2 i3).1 h = some (o, h1) → hle h1 he → V X h1 37 [(2, .int o)] [] → V X h 4 [(0, .ref a0), (1, .int i1), (2, .int i2), (3, .int i3)] [] := by
    intro a0 i1 n
    induction n with
    | zero => intro i2 i3 h h1 o hf; exact mfail_inv hf
    | succ n ih =>
      intro i2 i3 h h1 o hf hl J
      rw [l_X1_remainder_4] at hf
      refine v_iload_n C 3 dX1_remainder_4 rfl rfl ?_
      refine v_bipush (x := 24) C dX1_remainder_5 (by decide) ?_
      refine v_icmp_ge C hf (tgt := 37) dX1_remainder_7 (by decide) (fun c7 hf => ?_) (fun c7 hf => ?_)
      · obtain ⟨e1, rfl⟩ := mret_inv hf
        subst e1
        exact v_sub (ls' := _) [2] rfl J
      · refine v_iload_n C 2 dX1_remainder_10 rfl rfl ?_
        refine v_iload_n C 1 dX1_remainder_11 rfl rfl ?_
        refine v_iload_n C 3 dX1_remainder_12 rfl rfl ?_
        refine v_callSN (stk := fun b => .int b :: [.int i2]) C (ct_X0_has _ i1 i3) nd_X0_has rfl (Nat.le_of_ble_eq_true rfl) (Nat.le_of_ble_eq_true rfl) [.int i2] (Nat.le_of_ble_eq_true rfl) (fun _ => rfl) rfl q163 q164 q96 q165 hf hl dX1_remainder_13 (fun x1 h2 hf => ?_)
        obtain ⟨x3, h4, hAh4, hf, hlh4⟩ := mb_inv hf hl
        refine v_cut (h1 := h4) (pc1 := 29) (ls1 := [(0, .ref a0), (1, .int i1), (3, .int i3)]) (st1 := [.int x3, .int i2]) ?_ (fun Jh4 => ?_)
        · clear hAh4 hlh4
          refine v_ixor C dX1_remainder_29 ?_
          refine v_istore_n (ls' := [(2, _), (0, _), (1, _), (3, _)]) C dX1_remainder_30 rfl (by decide) rfl ?_
          refine v_iinc (ls' := [(3, _), (2, _), (0, _), (1, _)]) (y := i3 + (1 : Int32)) C 3 dX1_remainder_31 rfl rfl (by decide) rfl ?_
          refine v_goto (tgt := 4) C dX1_remainder_34 (by decide) ?_
          refine v_sub (ls' := _) [2, 3, 1, 0] rfl (ih (i2 ^^^ x3) (i3 + (1 : Int32)) _ _ _ hf hl J)
        · clear hf
          have hf := hAh4
          have hl := hlh4
          refine v_if_eq C hf (tgt := 28) dX1_remainder_16 (by decide) (fun c16 hf => ?_) (fun c16 hf => ?_)
          · refine v_iconst (x := 0) C dX1_remainder_28 (by decide) ?_
            obtain ⟨e1, rfl⟩ := mret_inv hf
            subst e1
            exact v_sub (ls' := _) [0, 1, 3] rfl Jh4
          · refine v_aload_n C 0 dX1_remainder_19 rfl rfl ?_
            refine v_gR (Cn := RX1) (T := TX1) (N := 10) C hf in_X1 rfl (by decide) q206 rfl dX1_remainder_20 (fun x5 hf => ?_)
            refine v_iload_n C 3 dX1_remainder_23 rfl rfl ?_
            refine v_iaload C hf dX1_remainder_24 (fun x6 hf => ?_)
            refine v_goto (tgt := 29) C dX1_remainder_25 (by decide) ?_
            obtain ⟨e1, rfl⟩ := mret_inv hf
            subst e1
            exact v_sub (ls' := _) [0, 1, 3] rfl Jh4
  unfold f_X1_remainder at hf
  refine v_iconst (x := 0) C dX1_remainder_0 (by decide) ?_
  refine v_istore_n (ls' := [(2, _), (0, _), (1, _)]) C dX1_remainder_1 rfl (by decide) rfl ?_
  refine v_iconst (x := 0) C dX1_remainder_2 (by decide) ?_
  refine v_istore_n (ls' := [(3, _), (2, _), (0, _), (1, _)]) C dX1_remainder_3 rfl (by decide) rfl ?_
  obtain ⟨x7, h8, eh8, hf, hlh8⟩ := mb_inv hf hl
  refine v_sub (ls' := _) [2, 3, 1, 0] rfl (L4 a0 i1 FU (0 : Int32) (0 : Int32) _ _ _ eh8 hlh8 ?_)
  refine v_iload_n C 0 dX1_remainder_37 rfl rfl ?_
  exact v_iret C E hf dX1_remainder_38
def l_X1_number_7 (a0 : Nat) : Nat → Int32 → Int32 → Int32 → hM (Int32 × Int32)
  | 0, _, _, _ => mfail
  | n + 1, i2, i3, i4 => mi ((12 : Int32) ≤ i4) (mret (i2, i3)) (mb (gR a0 1 8) fun x1 => mb (aI 1 x1 i4) fun x2 => mb (f_X0_has i2 x2) fun x3 => mb (mi (x3 = 0) (mret (i2, i3)) (mb (gR a0 1 7) fun x8 => mb (aI 1 x8 i4) fun x9 => mb (gR a0 1 9) fun x10 => mb (aI 1 x10 i4) fun x11 => mret (i2 ^^^ x9, i3 ^^^ x11))) fun ⟨x5, x6⟩ => l_X1_number_7 a0 n x5 x6 (i4 + (1 : Int32)))
def f_X1_number (a0 : Nat) (i1 : Int32) : hM Int32 :=
  mb (l_X1_number_7 a0 FU i1 (0 : Int32) (0 : Int32)) fun x12 => mb (mi (¬ x12.1 = 0) (mret (-4 : Int32)) (mret x12.2)) fun x14 => mret x14
theorem nd_X1_number : yX1_number.cls ≠ "java/lang/invoke/MethodHandle" ∧ yX1_number.cls ≠ "java/lang/invoke/VarHandle" ∧ (parseMethodDescriptor yX1_number.desc).map (fun d => d.parameters.length) = some 1 := by decide +kernel
set_option maxHeartbeats 4000000 in
theorem ct_X1_number (l : Launch) (a0 : Nat) (i1 : Int32) : CT l yX1_number cX1_number 5 (some .int) 1 21 rvI [.ref a0, .int i1] (f_X1_number a0 i1) := by
  refine CT_of (ls := [(0, .ref a0), (1, .int i1)]) (by decide) (Nat.le_of_ble_eq_true rfl) rfl ?_
  intro X h he z hX hf C E hnm hh
  have hl := hle.rf he
  subst hX
  have L7 : ∀ (a0 : Nat) (n : Nat) (i2 : Int32) (i3 : Int32) (i4 : Int32) (h h1 : Hp) (o : Int32 × Int32), (l_X1_number_7 a0 n i2 i3 i4).1 h = some (o, h1) → hle h1 he → V X h1 54 [(2, .int o.1), (3, .int o.2)] [] → V X h 7 [(0, .ref a0), (2, .int i2), (3, .int i3), (4, .int i4)] [] := by
    intro a0 n
    induction n with
    | zero => intro i2 i3 i4 h h1 o hf; exact mfail_inv hf
    | succ n ih =>
      intro i2 i3 i4 h h1 o hf hl J
      rw [l_X1_number_7] at hf
      refine v_iload C 3 dX1_number_7 rfl ?_
      refine v_bipush (x := 12) C dX1_number_9 (by decide) ?_
      refine v_icmp_ge C hf (tgt := 54) dX1_number_11 (by decide) (fun c11 hf => ?_) (fun c11 hf => ?_)
      · obtain ⟨e1, rfl⟩ := mret_inv hf
        subst e1
        exact v_sub (ls' := _) [1, 2] rfl J
      · refine v_iload_n C 1 dX1_number_14 rfl rfl ?_
        refine v_aload_n C 0 dX1_number_15 rfl rfl ?_
        refine v_gR (Cn := RX1) (T := TX1) (N := 10) C hf in_X1 rfl (by decide) q211 rfl dX1_number_16 (fun x1 hf => ?_)
        refine v_iload C 3 dX1_number_19 rfl ?_
        refine v_iaload C hf dX1_number_21 (fun x2 hf => ?_)
        refine v_callSN (stk := fun b => .int b :: []) C (ct_X0_has _ i2 x2) nd_X0_has rfl (Nat.le_of_ble_eq_true rfl) (Nat.le_of_ble_eq_true rfl) [] (Nat.le_of_ble_eq_true rfl) (fun _ => rfl) rfl q163 q164 q96 q165 hf hl dX1_number_22 (fun x3 h4 hf => ?_)
        obtain ⟨⟨x5, x6⟩, h7, hAh7, hf, hlh7⟩ := mb_inv hf hl
        refine v_cut (h1 := h7) (pc1 := 48) (ls1 := [(0, .ref a0), (2, .int x5), (3, .int x6), (4, .int i4)]) (st1 := []) ?_ (fun Jh7 => ?_)
        · clear hAh7 hlh7
          refine v_iinc (ls' := [(4, _), (0, _), (2, _), (3, _)]) (y := i4 + (1 : Int32)) C 3 dX1_number_48 rfl rfl (by decide) rfl ?_
          refine v_goto (tgt := 7) C dX1_number_51 (by decide) ?_
          refine v_sub (ls' := _) [1, 2, 3, 0] rfl (ih x5 x6 (i4 + (1 : Int32)) _ _ _ hf hl J)
        · clear hf
          have hf := hAh7
          have hl := hlh7
          refine v_if_eq C hf (tgt := 48) dX1_number_25 (by decide) (fun c25 hf => ?_) (fun c25 hf => ?_)
          · obtain ⟨e1, rfl⟩ := mret_inv hf
            simp only [Prod.mk.injEq] at e1
            obtain ⟨rfl, rfl⟩ := e1
            exact v_sub (ls' := _) [0, 1, 2, 3] rfl Jh7
          · refine v_iload_n C 1 dX1_number_28 rfl rfl ?_
            refine v_aload_n C 0 dX1_number_29 rfl rfl ?_
            refine v_gR (Cn := RX1) (T := TX1) (N := 10) C hf in_X1 rfl (by decide) q210 rfl dX1_number_30 (fun x8 hf => ?_)
            refine v_iload C 3 dX1_number_33 rfl ?_
            refine v_iaload C hf dX1_number_35 (fun x9 hf => ?_)
            refine v_ixor C dX1_number_36 ?_
            refine v_istore_n (ls' := [(2, _), (0, _), (3, _), (4, _)]) C dX1_number_37 rfl (by decide) rfl ?_
            refine v_iload_n C 2 dX1_number_38 rfl rfl ?_
            refine v_aload_n C 1 dX1_number_39 rfl rfl ?_
            refine v_gR (Cn := RX1) (T := TX1) (N := 10) C hf in_X1 rfl (by decide) q212 rfl dX1_number_40 (fun x10 hf => ?_)
            refine v_iload C 3 dX1_number_43 rfl ?_
            refine v_iaload C hf dX1_number_45 (fun x11 hf => ?_)
            refine v_ixor C dX1_number_46 ?_
            refine v_istore_n (ls' := [(3, _), (2, _), (0, _), (4, _)]) C dX1_number_47 rfl (by decide) rfl ?_
            obtain ⟨e1, rfl⟩ := mret_inv hf
            simp only [Prod.mk.injEq] at e1
            obtain ⟨rfl, rfl⟩ := e1
            exact v_sub (ls' := _) [2, 1, 0, 3] rfl Jh7
  unfold f_X1_number at hf
  refine v_iload_n C 1 dX1_number_0 rfl rfl ?_
  refine v_istore_n (ls' := [(2, _), (0, _), (1, _)]) C dX1_number_1 rfl (by decide) rfl ?_
  refine v_iconst (x := 0) C dX1_number_2 (by decide) ?_
  refine v_istore_n (ls' := [(3, _), (2, _), (0, _), (1, _)]) C dX1_number_3 rfl (by decide) rfl ?_
  refine v_iconst (x := 0) C dX1_number_4 (by decide) ?_
  refine v_istore (ls' := [(4, _), (3, _), (2, _), (0, _), (1, _)]) C dX1_number_5 (by decide) rfl ?_
  obtain ⟨x12, h13, eh13, hf, hlh13⟩ := mb_inv hf hl
  refine v_sub (ls' := _) [3, 2, 1, 0] rfl (L7 a0 FU i1 (0 : Int32) (0 : Int32) _ _ _ eh13 hlh13 ?_)
  refine v_iload_n C 0 dX1_number_54 rfl rfl ?_
  obtain ⟨x14, h15, hAh15, hf, hlh15⟩ := mb_inv hf hl
  refine v_cut (h1 := h15) (pc1 := 64) (ls1 := []) (st1 := [.int x14]) ?_ (fun Jh15 => ?_)
  · clear hAh15 hlh15
    exact v_iret C E hf dX1_number_64
  · clear hf
    have hf := hAh15
    have hl := hlh15
    refine v_if_ne C hf (tgt := 62) dX1_number_55 (by decide) (fun c55 hf => ?_) (fun c55 hf => ?_)
    · refine v_bipush (x := (-4)) C dX1_number_62 (by decide) ?_
      obtain ⟨e1, rfl⟩ := mret_inv hf
      subst e1
      exact v_sub (ls' := _) [] rfl Jh15
    · refine v_iload_n C 1 dX1_number_58 rfl rfl ?_
      refine v_goto (tgt := 64) C dX1_number_59 (by decide) ?_
      obtain ⟨e1, rfl⟩ := mret_inv hf
      subst e1
      exact v_sub (ls' := _) [] rfl Jh15
def f_X1_complete (a0 : Nat) (i1 : Int32) : hM Int32 :=
  mb (gR a0 1 6) fun x1 => mb (mat a0 1 (f_X1_remainder a0 i1)) fun x2 => mb (aI 1 x1 x2) fun x4 => mret (i1 ||| x4)
theorem nd_X1_complete : yX1_complete.cls ≠ "java/lang/invoke/MethodHandle" ∧ yX1_complete.cls ≠ "java/lang/invoke/VarHandle" ∧ (parseMethodDescriptor yX1_complete.desc).map (fun d => d.parameters.length) = some 1 := by decide +kernel
set_option maxHeartbeats 4000000 in
theorem ct_X1_complete (l : Launch) (a0 : Nat) (i1 : Int32) : CT l yX1_complete cX1_complete 2 (some .int) 2 44 rvI [.ref a0, .int i1] (f_X1_complete a0 i1) := by
  refine CT_of (ls := [(0, .ref a0), (1, .int i1)]) (by decide) (Nat.le_of_ble_eq_true rfl) rfl ?_
  intro X h he z hX hf C E hnm hh
  have hl := hle.rf he
  subst hX
  unfold f_X1_complete at hf
  refine v_iload_n C 1 dX1_complete_0 rfl rfl ?_
  refine v_aload_n C 0 dX1_complete_1 rfl rfl ?_
  refine v_gR (Cn := RX1) (T := TX1) (N := 10) C hf in_X1 rfl (by decide) q207 rfl dX1_complete_2 (fun x1 hf => ?_)
  refine v_aload_n C 0 dX1_complete_5 rfl rfl ?_
  refine v_iload_n C 1 dX1_complete_6 rfl rfl ?_
  refine v_callV (stk := fun b => .int b :: [.ref x1, .int i1]) C (ct_X1_remainder _ a0 i1) rfl ⟨rfl, nd_X1_remainder⟩ rfl (Nat.le_of_ble_eq_true rfl) (Nat.le_of_ble_eq_true rfl) [.ref x1, .int i1] (Nat.le_of_ble_eq_true rfl) (fun _ => rfl) rfl q790 q753 q754 q97 q755 hf hl dX1_complete_7 (fun x2 h3 hf => ?_)
  refine v_iaload C hf dX1_complete_10 (fun x4 hf => ?_)
  refine v_ior C dX1_complete_11 ?_
  exact v_iret C E hf dX1_complete_12
def f_X10_init (a0 : Nat) : hM Unit :=
  mret ()
theorem nd_X10_init : yX10_init.cls ≠ "java/lang/invoke/MethodHandle" ∧ yX10_init.cls ≠ "java/lang/invoke/VarHandle" ∧ (parseMethodDescriptor yX10_init.desc).map (fun d => d.parameters.length) = some 0 := by decide +kernel
set_option maxHeartbeats 4000000 in
theorem ct_X10_init (l : Launch) (a0 : Nat) : CT l yX10_init cX10_init 1 none 1 12 rv0 [.ref a0] (f_X10_init a0) := by
  refine CT_of (ls := [(0, .ref a0)]) (by decide) (Nat.le_of_ble_eq_true rfl) rfl ?_
  intro X h he z hX hf C E hnm hh
  have hl := hle.rf he
  subst hX
  unfold f_X10_init at hf
  refine v_aload_n C 0 dX10_init_0 rfl rfl ?_
  refine v_objInit C q507 q147 q148 (Nat.le_of_ble_eq_true rfl) (Nat.le_of_ble_eq_true rfl) dX10_init_1 ?_
  exact v_vret C E hf dX10_init_4
def f_X10_lane (a0 : Nat) : hM Int32 :=
  mb (gR a0 10 0) fun x1 => mb (mia 0 x1) fun x2 => mb (mi (x2 = 0) (mb (gR a0 10 0) fun x5 => mb (mia 4 x5) fun x6 => mi (x6 = 0) (mb (gR a0 10 0) fun x7 => mb (mia 1 x7) fun x8 => mi (x8 = 0) (mret (3 : Int32)) (mret (2 : Int32))) (mret (1 : Int32))) (mret (0 : Int32))) fun x3 => mret x3
theorem nd_X10_lane : yX10_lane.cls ≠ "java/lang/invoke/MethodHandle" ∧ yX10_lane.cls ≠ "java/lang/invoke/VarHandle" ∧ (parseMethodDescriptor yX10_lane.desc).map (fun d => d.parameters.length) = some 0 := by decide +kernel
set_option maxHeartbeats 4000000 in
theorem ct_X10_lane (l : Launch) (a0 : Nat) : CT l yX10_lane cX10_lane 1 (some .int) 0 0 rvI [.ref a0] (f_X10_lane a0) := by
  refine CT_of (ls := [(0, .ref a0)]) (by decide) (Nat.le_of_ble_eq_true rfl) rfl ?_
  intro X h he z hX hf C E hnm hh
  have hl := hle.rf he
  subst hX
  unfold f_X10_lane at hf
  refine v_aload_n C 0 dX10_lane_0 rfl rfl ?_
  refine v_gR (Cn := RX10) (T := TX10) (N := 1) C hf in_X10 rfl (by decide) q508 rfl dX10_lane_1 (fun x1 hf => ?_)
  refine v_insta (kd := 0) C hf (by simp [kd4]) q1652 dX10_lane_4 (fun x2 hf => ?_)
  obtain ⟨x3, h4, hAh4, hf, hlh4⟩ := mb_inv hf hl
  refine v_cut (h1 := h4) (pc1 := 43) (ls1 := []) (st1 := [.int x3]) ?_ (fun Jh4 => ?_)
  · clear hAh4 hlh4
    exact v_iret C E hf dX10_lane_43
  · clear hf
    have hf := hAh4
    have hl := hlh4
    refine v_if_eq C hf (tgt := 14) dX10_lane_7 (by decide) (fun c7 hf => ?_) (fun c7 hf => ?_)
    · refine v_aload_n C 0 dX10_lane_14 rfl rfl ?_
      refine v_gR (Cn := RX10) (T := TX10) (N := 1) C hf in_X10 rfl (by decide) q508 rfl dX10_lane_15 (fun x5 hf => ?_)
      refine v_insta (kd := 4) C hf (by simp [kd4]) q1653 dX10_lane_18 (fun x6 hf => ?_)
      refine v_if_eq C hf (tgt := 28) dX10_lane_21 (by decide) (fun c21 hf => ?_) (fun c21 hf => ?_)
      · refine v_aload_n C 0 dX10_lane_28 rfl rfl ?_
        refine v_gR (Cn := RX10) (T := TX10) (N := 1) C hf in_X10 rfl (by decide) q508 rfl dX10_lane_29 (fun x7 hf => ?_)
        refine v_insta (kd := 1) C hf (by simp [kd4]) q1654 dX10_lane_32 (fun x8 hf => ?_)
        refine v_if_eq C hf (tgt := 42) dX10_lane_35 (by decide) (fun c35 hf => ?_) (fun c35 hf => ?_)
        · refine v_iconst (x := 3) C dX10_lane_42 (by decide) ?_
          obtain ⟨e1, rfl⟩ := mret_inv hf
          subst e1
          exact v_sub (ls' := _) [] rfl Jh4
        · refine v_iconst (x := 2) C dX10_lane_38 (by decide) ?_
          refine v_goto (tgt := 43) C dX10_lane_39 (by decide) ?_
          obtain ⟨e1, rfl⟩ := mret_inv hf
          subst e1
          exact v_sub (ls' := _) [] rfl Jh4
      · refine v_iconst (x := 1) C dX10_lane_24 (by decide) ?_
        refine v_goto (tgt := 43) C dX10_lane_25 (by decide) ?_
        obtain ⟨e1, rfl⟩ := mret_inv hf
        subst e1
        exact v_sub (ls' := _) [] rfl Jh4
    · refine v_iconst (x := 0) C dX10_lane_10 (by decide) ?_
      refine v_goto (tgt := 43) C dX10_lane_11 (by decide) ?_
      obtain ⟨e1, rfl⟩ := mret_inv hf
      subst e1
      exact v_sub (ls' := _) [] rfl Jh4
def f_X10_size (a0 : Nat) : hM Int32 :=
  mb (gR a0 10 0) fun x1 => mb (mia 0 x1) fun x2 => mi (x2 = 0) (mb (gR a0 10 0) fun x3 => mb (mia 4 x3) fun x4 => mi (x4 = 0) (mb (gR a0 10 0) fun x5 => mb (mia 1 x5) fun x6 => mb (mi (x6 = 0) (mb (gR a0 10 0) fun x9 => mb (mca 5 x9) fun _ => mb (alen 5 x9) fun x10 => mret x10) (mb (mca 1 x5) fun _ => mb (alen 1 x5) fun x11 => mret x11)) fun x7 => mret x7) (mb (mca 4 x3) fun _ => mb (alen 4 x3) fun x12 => mret x12)) (mb (mca 0 x1) fun _ => mb (alen 0 x1) fun x13 => mret x13)
theorem nd_X10_size : yX10_size.cls ≠ "java/lang/invoke/MethodHandle" ∧ yX10_size.cls ≠ "java/lang/invoke/VarHandle" ∧ (parseMethodDescriptor yX10_size.desc).map (fun d => d.parameters.length) = some 0 := by decide +kernel
set_option maxHeartbeats 4000000 in
theorem ct_X10_size (l : Launch) (a0 : Nat) : CT l yX10_size cX10_size 3 (some .int) 0 0 rvI [.ref a0] (f_X10_size a0) := by
  refine CT_of (ls := [(0, .ref a0)]) (by decide) (Nat.le_of_ble_eq_true rfl) rfl ?_
  intro X h he z hX hf C E hnm hh
  have hl := hle.rf he
  subst hX
  unfold f_X10_size at hf
  refine v_aload_n C 0 dX10_size_0 rfl rfl ?_
  refine v_gR (Cn := RX10) (T := TX10) (N := 1) C hf in_X10 rfl (by decide) q508 rfl dX10_size_1 (fun x1 hf => ?_)
  refine v_astore_n (ls' := [(2, _), (0, _)]) C dX10_size_4 rfl (by decide) rfl ?_
  refine v_aload_n C 0 dX10_size_5 rfl rfl ?_
  refine v_insta (kd := 0) C hf (by simp [kd4]) q1652 dX10_size_6 (fun x2 hf => ?_)
  refine v_if_eq C hf (tgt := 20) dX10_size_9 (by decide) (fun c9 hf => ?_) (fun c9 hf => ?_)
  · refine v_aload_n C 1 dX10_size_20 rfl rfl ?_
    refine v_gR (Cn := RX10) (T := TX10) (N := 1) C hf in_X10 rfl (by decide) q508 rfl dX10_size_21 (fun x3 hf => ?_)
    refine v_astore_n (ls' := [(2, _), (0, _)]) C dX10_size_24 rfl (by decide) rfl ?_
    refine v_aload_n C 0 dX10_size_25 rfl rfl ?_
    refine v_insta (kd := 4) C hf (by simp [kd4]) q1653 dX10_size_26 (fun x4 hf => ?_)
    refine v_if_eq C hf (tgt := 40) dX10_size_29 (by decide) (fun c29 hf => ?_) (fun c29 hf => ?_)
    · refine v_aload_n C 1 dX10_size_40 rfl rfl ?_
      refine v_gR (Cn := RX10) (T := TX10) (N := 1) C hf in_X10 rfl (by decide) q508 rfl dX10_size_41 (fun x5 hf => ?_)
      refine v_astore_n (ls' := [(2, _), (0, _)]) C dX10_size_44 rfl (by decide) rfl ?_
      refine v_aload_n C 0 dX10_size_45 rfl rfl ?_
      refine v_insta (kd := 1) C hf (by simp [kd4]) q1654 dX10_size_46 (fun x6 hf => ?_)
      obtain ⟨x7, h8, hAh8, hf, hlh8⟩ := mb_inv hf hl
      refine v_cut (h1 := h8) (pc1 := 70) (ls1 := []) (st1 := [.int x7]) ?_ (fun Jh8 => ?_)
      · clear hAh8 hlh8
        exact v_iret C E hf dX10_size_70
      · clear hf
        have hf := hAh8
        have hl := hlh8
        refine v_if_eq C hf (tgt := 62) dX10_size_49 (by decide) (fun c49 hf => ?_) (fun c49 hf => ?_)
        · refine v_aload_n C 1 dX10_size_62 rfl rfl ?_
          refine v_gR (Cn := RX10) (T := TX10) (N := 1) C hf in_X10 rfl (by decide) q508 rfl dX10_size_63 (fun x9 hf => ?_)
          refine v_casta (kd := 5) C hf (by simp [kd4]) q1659 dX10_size_66 (fun hf => ?_)
          refine v_alen C hf (by decide) dX10_size_69 (fun x10 hf => ?_)
          obtain ⟨e1, rfl⟩ := mret_inv hf
          subst e1
          exact v_sub (ls' := _) [] rfl Jh8
        · refine v_aload_n C 0 dX10_size_52 rfl rfl ?_
          refine v_casta (kd := 1) C hf (by simp [kd4]) q1654 dX10_size_53 (fun hf => ?_)
          refine v_astore_n (ls' := [(1, _), (2, _), (0, _)]) C dX10_size_56 rfl (by decide) rfl ?_
          refine v_aload_n C 0 dX10_size_57 rfl rfl ?_
          refine v_alen C hf (by decide) dX10_size_58 (fun x11 hf => ?_)
          refine v_goto (tgt := 70) C dX10_size_59 (by decide) ?_
          obtain ⟨e1, rfl⟩ := mret_inv hf
          subst e1
          exact v_sub (ls' := _) [] rfl Jh8
    · refine v_aload_n C 0 dX10_size_32 rfl rfl ?_
      refine v_casta (kd := 4) C hf (by simp [kd4]) q1653 dX10_size_33 (fun hf => ?_)
      refine v_astore_n (ls' := [(1, _), (2, _), (0, _)]) C dX10_size_36 rfl (by decide) rfl ?_
      refine v_aload_n C 0 dX10_size_37 rfl rfl ?_
      refine v_alen C hf (by decide) dX10_size_38 (fun x12 hf => ?_)
      exact v_iret C E hf dX10_size_39
  · refine v_aload_n C 0 dX10_size_12 rfl rfl ?_
    refine v_casta (kd := 0) C hf (by simp [kd4]) q1652 dX10_size_13 (fun hf => ?_)
    refine v_astore_n (ls' := [(1, _), (2, _), (0, _)]) C dX10_size_16 rfl (by decide) rfl ?_
    refine v_aload_n C 0 dX10_size_17 rfl rfl ?_
    refine v_alen C hf (by decide) dX10_size_18 (fun x13 hf => ?_)
    exact v_iret C E hf dX10_size_19
def f_X10_get (a0 : Nat) (i1 : Int32) : hM Int64 :=
  mb (gR a0 10 0) fun x1 => mb (mia 0 x1) fun x2 => mi (x2 = 0) (mb (gR a0 10 0) fun x3 => mb (mia 4 x3) fun x4 => mi (x4 = 0) (mb (gR a0 10 0) fun x5 => mb (mia 1 x5) fun x6 => mb (mi (x6 = 0) (mb (gR a0 10 0) fun x9 => mb (mca 5 x9) fun _ => mb (aL 5 x9 i1) fun x10 => mret x10) (mb (mca 1 x5) fun _ => mb (aI 1 x5 i1) fun x11 => mret x11.toInt64)) fun x7 => mret x7) (mb (mca 4 x3) fun _ => mb (aI 4 x3 i1) fun x12 => mret x12.toInt64)) (mb (mca 0 x1) fun _ => mb (aI 0 x1 i1) fun x13 => mret x13.toInt64)
theorem nd_X10_get : yX10_get.cls ≠ "java/lang/invoke/MethodHandle" ∧ yX10_get.cls ≠ "java/lang/invoke/VarHandle" ∧ (parseMethodDescriptor yX10_get.desc).map (fun d => d.parameters.length) = some 1 := by decide +kernel
set_option maxHeartbeats 4000000 in
theorem ct_X10_get (l : Launch) (a0 : Nat) (i1 : Int32) : CT l yX10_get cX10_get 4 (some .long) 0 0 rvL [.ref a0, .int i1] (f_X10_get a0 i1) := by
  refine CT_of (ls := [(0, .ref a0), (1, .int i1)]) (by decide) (Nat.le_of_ble_eq_true rfl) rfl ?_
  intro X h he z hX hf C E hnm hh
  have hl := hle.rf he
  subst hX
  unfold f_X10_get at hf
  refine v_aload_n C 0 dX10_get_0 rfl rfl ?_
  refine v_gR (Cn := RX10) (T := TX10) (N := 1) C hf in_X10 rfl (by decide) q508 rfl dX10_get_1 (fun x1 hf => ?_)
  refine v_astore_n (ls' := [(3, _), (0, _), (1, _)]) C dX10_get_4 rfl (by decide) rfl ?_
  refine v_aload_n C 0 dX10_get_5 rfl rfl ?_
  refine v_insta (kd := 0) C hf (by simp [kd4]) q1652 dX10_get_6 (fun x2 hf => ?_)
  refine v_if_eq C hf (tgt := 22) dX10_get_9 (by decide) (fun c9 hf => ?_) (fun c9 hf => ?_)
  · refine v_aload_n C 1 dX10_get_22 rfl rfl ?_
    refine v_gR (Cn := RX10) (T := TX10) (N := 1) C hf in_X10 rfl (by decide) q508 rfl dX10_get_23 (fun x3 hf => ?_)
    refine v_astore_n (ls' := [(3, _), (0, _), (1, _)]) C dX10_get_26 rfl (by decide) rfl ?_
    refine v_aload_n C 0 dX10_get_27 rfl rfl ?_
    refine v_insta (kd := 4) C hf (by simp [kd4]) q1653 dX10_get_28 (fun x4 hf => ?_)
    refine v_if_eq C hf (tgt := 44) dX10_get_31 (by decide) (fun c31 hf => ?_) (fun c31 hf => ?_)
    · refine v_aload_n C 1 dX10_get_44 rfl rfl ?_
      refine v_gR (Cn := RX10) (T := TX10) (N := 1) C hf in_X10 rfl (by decide) q508 rfl dX10_get_45 (fun x5 hf => ?_)
      refine v_astore_n (ls' := [(3, _), (0, _), (1, _)]) C dX10_get_48 rfl (by decide) rfl ?_
      refine v_aload_n C 0 dX10_get_49 rfl rfl ?_
      refine v_insta (kd := 1) C hf (by simp [kd4]) q1654 dX10_get_50 (fun x6 hf => ?_)
      obtain ⟨x7, h8, hAh8, hf, hlh8⟩ := mb_inv hf hl
      refine v_cut (h1 := h8) (pc1 := 77) (ls1 := []) (st1 := [.long x7]) ?_ (fun Jh8 => ?_)
      · clear hAh8 hlh8
        exact v_lret C E hf dX10_get_77
      · clear hf
        have hf := hAh8
        have hl := hlh8
        refine v_if_eq C hf (tgt := 68) dX10_get_53 (by decide) (fun c53 hf => ?_) (fun c53 hf => ?_)
        · refine v_aload_n C 1 dX10_get_68 rfl rfl ?_
          refine v_gR (Cn := RX10) (T := TX10) (N := 1) C hf in_X10 rfl (by decide) q508 rfl dX10_get_69 (fun x9 hf => ?_)
          refine v_casta (kd := 5) C hf (by simp [kd4]) q1659 dX10_get_72 (fun hf => ?_)
          refine v_iload_n C 2 dX10_get_75 rfl rfl ?_
          refine v_laload C hf dX10_get_76 (fun x10 hf => ?_)
          obtain ⟨e1, rfl⟩ := mret_inv hf
          subst e1
          exact v_sub (ls' := _) [] rfl Jh8
        · refine v_aload_n C 0 dX10_get_56 rfl rfl ?_
          refine v_casta (kd := 1) C hf (by simp [kd4]) q1654 dX10_get_57 (fun hf => ?_)
          refine v_astore_n (ls' := [(2, _), (3, _), (0, _), (1, _)]) C dX10_get_60 rfl (by decide) rfl ?_
          refine v_aload_n C 0 dX10_get_61 rfl rfl ?_
          refine v_iload_n C 3 dX10_get_62 rfl rfl ?_
          refine v_iaload C hf dX10_get_63 (fun x11 hf => ?_)
          refine v_i2l C dX10_get_64 ?_
          refine v_goto (tgt := 77) C dX10_get_65 (by decide) ?_
          obtain ⟨e1, rfl⟩ := mret_inv hf
          subst e1
          exact v_sub (ls' := _) [] rfl Jh8
    · refine v_aload_n C 0 dX10_get_34 rfl rfl ?_
      refine v_casta (kd := 4) C hf (by simp [kd4]) q1653 dX10_get_35 (fun hf => ?_)
      refine v_astore_n (ls' := [(2, _), (3, _), (0, _), (1, _)]) C dX10_get_38 rfl (by decide) rfl ?_
      refine v_aload_n C 0 dX10_get_39 rfl rfl ?_
      refine v_iload_n C 3 dX10_get_40 rfl rfl ?_
      refine v_saload C hf dX10_get_41 (fun x12 hf => ?_)
      refine v_i2l C dX10_get_42 ?_
      exact v_lret C E hf dX10_get_43
  · refine v_aload_n C 0 dX10_get_12 rfl rfl ?_
    refine v_casta (kd := 0) C hf (by simp [kd4]) q1652 dX10_get_13 (fun hf => ?_)
    refine v_astore_n (ls' := [(2, _), (3, _), (0, _), (1, _)]) C dX10_get_16 rfl (by decide) rfl ?_
    refine v_aload_n C 0 dX10_get_17 rfl rfl ?_
    refine v_iload_n C 3 dX10_get_18 rfl rfl ?_
    refine v_baload C hf dX10_get_19 (fun x13 hf => ?_)
    refine v_i2l C dX10_get_20 ?_
    exact v_lret C E hf dX10_get_21
def f_X10_lay (a0 : Nat) (i1 : Int32) (i2 : Int32) (l3 : Int64) : hM Unit :=
  mb (mi (i1 = 0) (mb (gR a0 10 0) fun x2 => mb (mca 0 x2) fun _ => mb (sI 0 x2 i2 l3.toInt32.toInt8.toInt32) fun _ => mret ()) (mi (i1 = 1) (mb (gR a0 10 0) fun x4 => mb (mca 4 x4) fun _ => mb (sI 4 x4 i2 l3.toInt32.toInt16.toInt32) fun _ => mret ()) (mi (i1 = 2) (mb (gR a0 10 0) fun x6 => mb (mca 1 x6) fun _ => mb (sI 1 x6 i2 l3.toInt32) fun _ => mret ()) (mb (gR a0 10 0) fun x8 => mb (mca 5 x8) fun _ => mb (sL 5 x8 i2 l3) fun _ => mret ())))) fun _ => mret ()
theorem nd_X10_lay : yX10_lay.cls ≠ "java/lang/invoke/MethodHandle" ∧ yX10_lay.cls ≠ "java/lang/invoke/VarHandle" ∧ (parseMethodDescriptor yX10_lay.desc).map (fun d => d.parameters.length) = some 3 := by decide +kernel
set_option maxHeartbeats 4000000 in
theorem ct_X10_lay (l : Launch) (a0 : Nat) (i1 : Int32) (i2 : Int32) (l3 : Int64) : CT l yX10_lay cX10_lay 5 none 0 0 rv0 [.ref a0, .int i1, .int i2, .long l3] (f_X10_lay a0 i1 i2 l3) := by
  refine CT_of (ls := [(0, .ref a0), (1, .int i1), (2, .int i2), (3, .long l3)]) (by decide) (Nat.le_of_ble_eq_true rfl) rfl ?_
  intro X h he z hX hf C E hnm hh
  have hl := hle.rf he
  subst hX
  unfold f_X10_lay at hf
  refine v_iload_n C 1 dX10_lay_0 rfl rfl ?_
  obtain ⟨_u, h1, hAh1, hf, hlh1⟩ := mb_inv hf hl
  refine v_cut (h1 := h1) (pc1 := 82) (ls1 := []) (st1 := []) ?_ (fun Jh1 => ?_)
  · clear hAh1 hlh1
    exact v_vret C E hf dX10_lay_82
  · clear hf
    have hf := hAh1
    have hl := hlh1
    by_cases e1_0 : i1 = 0
    · have hf := mi_pos e1_0 hf
      refine v_tswI C (k := 0) e1_0 dX10_lay_1 (by decide) (by decide) rfl (tgt := 28) (by decide) ?_
      refine v_aload_n C 0 dX10_lay_28 rfl rfl ?_
      refine v_gR (Cn := RX10) (T := TX10) (N := 1) C hf in_X10 rfl (by decide) q508 rfl dX10_lay_29 (fun x2 hf => ?_)
      refine v_casta (kd := 0) C hf (by simp [kd4]) q1652 dX10_lay_32 (fun hf => ?_)
      refine v_iload_n C 2 dX10_lay_35 rfl rfl ?_
      refine v_lload_n C 3 dX10_lay_36 rfl rfl ?_
      refine v_l2i C dX10_lay_37 ?_
      refine v_i2b C dX10_lay_38 ?_
      refine v_bastore C hf dX10_lay_39 (fun h3 hf => ?_)
      refine v_goto (tgt := 82) C dX10_lay_40 (by decide) ?_
      obtain ⟨e1, rfl⟩ := mret_inv hf
      exact v_sub (ls' := _) [] rfl Jh1
    have hf := mi_neg e1_0 hf
    by_cases e1_1 : i1 = 1
    · have hf := mi_pos e1_1 hf
      refine v_tswI C (k := 1) e1_1 dX10_lay_1 (by decide) (by decide) rfl (tgt := 43) (by decide) ?_
      refine v_aload_n C 0 dX10_lay_43 rfl rfl ?_
      refine v_gR (Cn := RX10) (T := TX10) (N := 1) C hf in_X10 rfl (by decide) q508 rfl dX10_lay_44 (fun x4 hf => ?_)
      refine v_casta (kd := 4) C hf (by simp [kd4]) q1653 dX10_lay_47 (fun hf => ?_)
      refine v_iload_n C 2 dX10_lay_50 rfl rfl ?_
      refine v_lload_n C 3 dX10_lay_51 rfl rfl ?_
      refine v_l2i C dX10_lay_52 ?_
      refine v_i2s C dX10_lay_53 ?_
      refine v_sastore C hf dX10_lay_54 (fun h5 hf => ?_)
      refine v_goto (tgt := 82) C dX10_lay_55 (by decide) ?_
      obtain ⟨e1, rfl⟩ := mret_inv hf
      exact v_sub (ls' := _) [] rfl Jh1
    have hf := mi_neg e1_1 hf
    by_cases e1_2 : i1 = 2
    · have hf := mi_pos e1_2 hf
      refine v_tswI C (k := 2) e1_2 dX10_lay_1 (by decide) (by decide) rfl (tgt := 58) (by decide) ?_
      refine v_aload_n C 0 dX10_lay_58 rfl rfl ?_
      refine v_gR (Cn := RX10) (T := TX10) (N := 1) C hf in_X10 rfl (by decide) q508 rfl dX10_lay_59 (fun x6 hf => ?_)
      refine v_casta (kd := 1) C hf (by simp [kd4]) q1654 dX10_lay_62 (fun hf => ?_)
      refine v_iload_n C 2 dX10_lay_65 rfl rfl ?_
      refine v_lload_n C 3 dX10_lay_66 rfl rfl ?_
      refine v_l2i C dX10_lay_67 ?_
      refine v_iastore C hf dX10_lay_68 (fun h7 hf => ?_)
      refine v_goto (tgt := 82) C dX10_lay_69 (by decide) ?_
      obtain ⟨e1, rfl⟩ := mret_inv hf
      exact v_sub (ls' := _) [] rfl Jh1
    have hf := mi_neg e1_2 hf
    refine v_tswO C (n := 3) (lo := 0) (x := i1) (fun j hj => ?_) dX10_lay_1 rfl rfl (tgt := 72) (by decide) ?_
    · rcases (show j = 0 ∨ j = 1 ∨ j = 2 by omega) with rfl | rfl | rfl
      · exact e1_0
      · exact e1_1
      · exact e1_2
    refine v_aload_n C 0 dX10_lay_72 rfl rfl ?_
    refine v_gR (Cn := RX10) (T := TX10) (N := 1) C hf in_X10 rfl (by decide) q508 rfl dX10_lay_73 (fun x8 hf => ?_)
    refine v_casta (kd := 5) C hf (by simp [kd4]) q1659 dX10_lay_76 (fun hf => ?_)
    refine v_iload_n C 2 dX10_lay_79 rfl rfl ?_
    refine v_lload_n C 3 dX10_lay_80 rfl rfl ?_
    refine v_lastore C hf dX10_lay_81 (fun h9 hf => ?_)
    obtain ⟨e1, rfl⟩ := mret_inv hf
    exact v_sub (ls' := _) [] rfl Jh1
def f_X12_init (a0 : Nat) : hM Unit :=
  mret ()
theorem nd_X12_init : yX12_init.cls ≠ "java/lang/invoke/MethodHandle" ∧ yX12_init.cls ≠ "java/lang/invoke/VarHandle" ∧ (parseMethodDescriptor yX12_init.desc).map (fun d => d.parameters.length) = some 0 := by decide +kernel
set_option maxHeartbeats 4000000 in
theorem ct_X12_init (l : Launch) (a0 : Nat) : CT l yX12_init cX12_init 1 none 1 12 rv0 [.ref a0] (f_X12_init a0) := by
  refine CT_of (ls := [(0, .ref a0)]) (by decide) (Nat.le_of_ble_eq_true rfl) rfl ?_
  intro X h he z hX hf C E hnm hh
  have hl := hle.rf he
  subst hX
  unfold f_X12_init at hf
  refine v_aload_n C 0 dX12_init_0 rfl rfl ?_
  refine v_objInit C q610 q147 q148 (Nat.le_of_ble_eq_true rfl) (Nat.le_of_ble_eq_true rfl) dX12_init_1 ?_
  exact v_vret C E hf dX12_init_4
def f_X13_init (a0 : Nat) : hM Unit :=
  mb (f_X12_init a0) fun _ => mret ()
theorem nd_X13_init : yX13_init.cls ≠ "java/lang/invoke/MethodHandle" ∧ yX13_init.cls ≠ "java/lang/invoke/VarHandle" ∧ (parseMethodDescriptor yX13_init.desc).map (fun d => d.parameters.length) = some 0 := by decide +kernel
set_option maxHeartbeats 4000000 in
theorem ct_X13_init (l : Launch) (a0 : Nat) : CT l yX13_init cX13_init 1 none 2 32 rv0 [.ref a0] (f_X13_init a0) := by
  refine CT_of (ls := [(0, .ref a0)]) (by decide) (Nat.le_of_ble_eq_true rfl) rfl ?_
  intro X h he z hX hf C E hnm hh
  have hl := hle.rf he
  subst hX
  unfold f_X13_init at hf
  refine v_aload_n C 0 dX13_init_0 rfl rfl ?_
  refine v_callIN (stk := fun _ => []) C (ct_X12_init _ a0) nd_X12_init rfl (Nat.le_of_ble_eq_true rfl) (Nat.le_of_ble_eq_true rfl) [] (Nat.le_of_ble_eq_true rfl) (fun _ => rfl) rfl rfl q607 q608 q122 q609 hf hl dX13_init_1 (fun x1 h2 hf => ?_)
  exact v_vret C E hf dX13_init_4
def f_X13_on (a0 : Nat) (i1 : Int32) : hM Int32 :=
  mret (i1 + (1 : Int32))
theorem nd_X13_on : yX13_on.cls ≠ "java/lang/invoke/MethodHandle" ∧ yX13_on.cls ≠ "java/lang/invoke/VarHandle" ∧ (parseMethodDescriptor yX13_on.desc).map (fun d => d.parameters.length) = some 1 := by decide +kernel
set_option maxHeartbeats 4000000 in
theorem ct_X13_on (l : Launch) (a0 : Nat) (i1 : Int32) : CT l yX13_on cX13_on 2 (some .int) 0 0 rvI [.ref a0, .int i1] (f_X13_on a0 i1) := by
  refine CT_of (ls := [(0, .ref a0), (1, .int i1)]) (by decide) (Nat.le_of_ble_eq_true rfl) rfl ?_
  intro X h he z hX hf C E hnm hh
  have hl := hle.rf he
  subst hX
  unfold f_X13_on at hf
  refine v_iload_n C 1 dX13_on_0 rfl rfl ?_
  refine v_iconst (x := 1) C dX13_on_1 (by decide) ?_
  refine v_iadd C dX13_on_2 ?_
  exact v_iret C E hf dX13_on_3
def f_X14_init (a0 : Nat) : hM Unit :=
  mb (f_X12_init a0) fun _ => mret ()
theorem nd_X14_init : yX14_init.cls ≠ "java/lang/invoke/MethodHandle" ∧ yX14_init.cls ≠ "java/lang/invoke/VarHandle" ∧ (parseMethodDescriptor yX14_init.desc).map (fun d => d.parameters.length) = some 0 := by decide +kernel
set_option maxHeartbeats 4000000 in
theorem ct_X14_init (l : Launch) (a0 : Nat) : CT l yX14_init cX14_init 1 none 2 32 rv0 [.ref a0] (f_X14_init a0) := by
  refine CT_of (ls := [(0, .ref a0)]) (by decide) (Nat.le_of_ble_eq_true rfl) rfl ?_
  intro X h he z hX hf C E hnm hh
  have hl := hle.rf he
  subst hX
  unfold f_X14_init at hf
  refine v_aload_n C 0 dX14_init_0 rfl rfl ?_
  refine v_callIN (stk := fun _ => []) C (ct_X12_init _ a0) nd_X12_init rfl (Nat.le_of_ble_eq_true rfl) (Nat.le_of_ble_eq_true rfl) [] (Nat.le_of_ble_eq_true rfl) (fun _ => rfl) rfl rfl q617 q608 q122 q609 hf hl dX14_init_1 (fun x1 h2 hf => ?_)
  exact v_vret C E hf dX14_init_4
def f_X14_on (a0 : Nat) (i1 : Int32) : hM Int32 :=
  mret ((2 : Int32) * i1)
theorem nd_X14_on : yX14_on.cls ≠ "java/lang/invoke/MethodHandle" ∧ yX14_on.cls ≠ "java/lang/invoke/VarHandle" ∧ (parseMethodDescriptor yX14_on.desc).map (fun d => d.parameters.length) = some 1 := by decide +kernel
set_option maxHeartbeats 4000000 in
theorem ct_X14_on (l : Launch) (a0 : Nat) (i1 : Int32) : CT l yX14_on cX14_on 2 (some .int) 0 0 rvI [.ref a0, .int i1] (f_X14_on a0 i1) := by
  refine CT_of (ls := [(0, .ref a0), (1, .int i1)]) (by decide) (Nat.le_of_ble_eq_true rfl) rfl ?_
  intro X h he z hX hf C E hnm hh
  have hl := hle.rf he
  subst hX
  unfold f_X14_on at hf
  refine v_iconst (x := 2) C dX14_on_0 (by decide) ?_
  refine v_iload_n C 1 dX14_on_1 rfl rfl ?_
  refine v_imul C dX14_on_2 ?_
  exact v_iret C E hf dX14_on_3
def f_X15_init (a0 : Nat) : hM Unit :=
  mret ()
theorem nd_X15_init : yX15_init.cls ≠ "java/lang/invoke/MethodHandle" ∧ yX15_init.cls ≠ "java/lang/invoke/VarHandle" ∧ (parseMethodDescriptor yX15_init.desc).map (fun d => d.parameters.length) = some 0 := by decide +kernel
set_option maxHeartbeats 4000000 in
theorem ct_X15_init (l : Launch) (a0 : Nat) : CT l yX15_init cX15_init 1 none 1 12 rv0 [.ref a0] (f_X15_init a0) := by
  refine CT_of (ls := [(0, .ref a0)]) (by decide) (Nat.le_of_ble_eq_true rfl) rfl ?_
  intro X h he z hX hf C E hnm hh
  have hl := hle.rf he
  subst hX
  unfold f_X15_init at hf
  refine v_aload_n C 0 dX15_init_0 rfl rfl ?_
  refine v_objInit C q624 q147 q148 (Nat.le_of_ble_eq_true rfl) (Nat.le_of_ble_eq_true rfl) dX15_init_1 ?_
  exact v_vret C E hf dX15_init_4
def l_X15_to_17 (i1 : Int32) : Nat → Int32 → hM (Int32)
  | 0, _ => mfail
  | n + 1, i2 => mi ((22 : Int32) ≤ i2) (mret i2) (mb (mrem (i1 * i2) (23 : Int32)) fun x1 => mi (x1 = (22 : Int32)) (mret i2) (l_X15_to_17 i1 n (i2 + (1 : Int32))))
def f_X15_to (a0 : Nat) (i1 : Int32) : hM Int32 :=
  mi (i1 = 0) (mret ((23 : Int32) - i1)) (mi (¬ i1 = (23 : Int32)) (mb (l_X15_to_17 i1 FU (1 : Int32)) fun x2 => mret x2) (mret ((23 : Int32) - i1)))
theorem nd_X15_to : yX15_to.cls ≠ "java/lang/invoke/MethodHandle" ∧ yX15_to.cls ≠ "java/lang/invoke/VarHandle" ∧ (parseMethodDescriptor yX15_to.desc).map (fun d => d.parameters.length) = some 1 := by decide +kernel
set_option maxHeartbeats 4000000 in
theorem ct_X15_to (l : Launch) (a0 : Nat) (i1 : Int32) : CT l yX15_to cX15_to 3 (some .int) 0 0 rvI [.ref a0, .int i1] (f_X15_to a0 i1) := by
  refine CT_of (ls := [(0, .ref a0), (1, .int i1)]) (by decide) (Nat.le_of_ble_eq_true rfl) rfl ?_
  intro X h he z hX hf C E hnm hh
  have hl := hle.rf he
  subst hX
  have L17 : ∀ (i1 : Int32) (n : Nat) (i2 : Int32) (h h1 : Hp) (o : Int32), (l_X15_to_17 i1 n i2).1 h = some (o, h1) → hle h1 he → V X h1 40 [(2, .int o)] [] → V X h 17 [(1, .int i1), (2, .int i2)] [] := by
    intro i1 n
    induction n with
    | zero => intro i2 h h1 o hf; exact mfail_inv hf
    | succ n ih =>
      intro i2 h h1 o hf hl J
      rw [l_X15_to_17] at hf
      refine v_iload_n C 1 dX15_to_17 rfl rfl ?_
      refine v_bipush (x := 22) C dX15_to_18 (by decide) ?_
      refine v_icmp_ge C hf (tgt := 40) dX15_to_20 (by decide) (fun c20 hf => ?_) (fun c20 hf => ?_)
      · obtain ⟨e1, rfl⟩ := mret_inv hf
        subst e1
        exact v_sub (ls' := _) [1] rfl J
      · refine v_iload_n C 0 dX15_to_23 rfl rfl ?_
        refine v_iload_n C 1 dX15_to_24 rfl rfl ?_
        refine v_imul C dX15_to_25 ?_
        refine v_bipush (x := 23) C dX15_to_26 (by decide) ?_
        refine v_irem C hf dX15_to_28 (fun x1 hf => ?_)
        refine v_bipush (x := 22) C dX15_to_29 (by decide) ?_
        refine v_icmp_eq C hf (tgt := 40) dX15_to_31 (by decide) (fun c31 hf => ?_) (fun c31 hf => ?_)
        · obtain ⟨e1, rfl⟩ := mret_inv hf
          subst e1
          exact v_sub (ls' := _) [1] rfl J
        · refine v_iinc (ls' := [(2, _), (1, _)]) (y := i2 + (1 : Int32)) C 1 dX15_to_34 rfl rfl (by decide) rfl ?_
          refine v_goto (tgt := 17) C dX15_to_37 (by decide) ?_
          refine v_sub (ls' := _) [1, 0] rfl (ih (i2 + (1 : Int32)) _ _ _ hf hl J)
  unfold f_X15_to at hf
  refine v_iload_n C 1 dX15_to_0 rfl rfl ?_
  refine v_if_eq C hf (tgt := 10) dX15_to_1 (by decide) (fun c1 hf => ?_) (fun c1 hf => ?_)
  · refine v_bipush (x := 23) C dX15_to_10 (by decide) ?_
    refine v_iload_n C 1 dX15_to_12 rfl rfl ?_
    refine v_isub C dX15_to_13 ?_
    exact v_iret C E hf dX15_to_14
  · refine v_iload_n C 1 dX15_to_4 rfl rfl ?_
    refine v_bipush (x := 23) C dX15_to_5 (by decide) ?_
    refine v_icmp_ne C hf (tgt := 15) dX15_to_7 (by decide) (fun c7 hf => ?_) (fun c7 hf => ?_)
    · refine v_iconst (x := 1) C dX15_to_15 (by decide) ?_
      refine v_istore_n (ls' := [(2, _), (0, _), (1, _)]) C dX15_to_16 rfl (by decide) rfl ?_
      obtain ⟨x2, h3, eh3, hf, hlh3⟩ := mb_inv hf hl
      refine v_sub (ls' := _) [2, 0] rfl (L17 i1 FU (1 : Int32) _ _ _ eh3 hlh3 ?_)
      refine v_iload_n C 0 dX15_to_40 rfl rfl ?_
      exact v_iret C E hf dX15_to_41
    · refine v_bipush (x := 23) C dX15_to_10 (by decide) ?_
      refine v_iload_n C 1 dX15_to_12 rfl rfl ?_
      refine v_isub C dX15_to_13 ?_
      exact v_iret C E hf dX15_to_14
def f_X16_init (a0 : Nat) : hM Unit :=
  mb (f_X12_init a0) fun _ => mret ()
theorem nd_X16_init : yX16_init.cls ≠ "java/lang/invoke/MethodHandle" ∧ yX16_init.cls ≠ "java/lang/invoke/VarHandle" ∧ (parseMethodDescriptor yX16_init.desc).map (fun d => d.parameters.length) = some 0 := by decide +kernel
set_option maxHeartbeats 4000000 in
theorem ct_X16_init (l : Launch) (a0 : Nat) : CT l yX16_init cX16_init 1 none 2 32 rv0 [.ref a0] (f_X16_init a0) := by
  refine CT_of (ls := [(0, .ref a0)]) (by decide) (Nat.le_of_ble_eq_true rfl) rfl ?_
  intro X h he z hX hf C E hnm hh
  have hl := hle.rf he
  subst hX
  unfold f_X16_init at hf
  refine v_aload_n C 0 dX16_init_0 rfl rfl ?_
  refine v_callIN (stk := fun _ => []) C (ct_X12_init _ a0) nd_X12_init rfl (Nat.le_of_ble_eq_true rfl) (Nat.le_of_ble_eq_true rfl) [] (Nat.le_of_ble_eq_true rfl) (fun _ => rfl) rfl rfl q631 q608 q122 q609 hf hl dX16_init_1 (fun x1 h2 hf => ?_)
  exact v_vret C E hf dX16_init_4
def l_X16_isSquare_4 (i0 : Int32) : Nat → Int32 → Int32 → hM (Int32)
  | 0, _, _ => mfail
  | n + 1, i1, i2 => mi ((23 : Int32) ≤ i2) (mret i1) (mi (¬ i1 = 0) (mret i1) (mb (mrem (i2 * i2) (23 : Int32)) fun x1 => mb (mi (¬ x1 = i0) (mret (0 : Int32)) (mret (1 : Int32))) fun x2 => l_X16_isSquare_4 i0 n x2 (i2 + (1 : Int32))))
def f_X16_isSquare (i0 : Int32) : hM Int32 :=
  mb (l_X16_isSquare_4 i0 FU (0 : Int32) (1 : Int32)) fun x4 => mrt .boolean x4
theorem nd_X16_isSquare : yX16_isSquare.cls ≠ "java/lang/invoke/MethodHandle" ∧ yX16_isSquare.cls ≠ "java/lang/invoke/VarHandle" ∧ (parseMethodDescriptor yX16_isSquare.desc).map (fun d => d.parameters.length) = some 1 := by decide +kernel
set_option maxHeartbeats 4000000 in
theorem ct_X16_isSquare (l : Launch) (i0 : Int32) : CT l yX16_isSquare cX16_isSquare 3 (some .boolean) 0 0 rvI [.int i0] (f_X16_isSquare i0) := by
  refine CT_of (ls := [(0, .int i0)]) (by decide) (Nat.le_of_ble_eq_true rfl) rfl ?_
  intro X h he z hX hf C E hnm hh
  have hl := hle.rf he
  subst hX
  have L4 : ∀ (i0 : Int32) (n : Nat) (i1 : Int32) (i2 : Int32) (h h1 : Hp) (o : Int32), (l_X16_isSquare_4 i0 n i1 i2).1 h = some (o, h1) → hle h1 he → V X h1 36 [(1, .int o)] [] → V X h 4 [(0, .int i0), (1, .int i1), (2, .int i2)] [] := by
    intro i0 n
    induction n with
    | zero => intro i1 i2 h h1 o hf; exact mfail_inv hf
    | succ n ih =>
      intro i1 i2 h h1 o hf hl J
      rw [l_X16_isSquare_4] at hf
      refine v_iload_n C 2 dX16_isSquare_4 rfl rfl ?_
      refine v_bipush (x := 23) C dX16_isSquare_5 (by decide) ?_
      refine v_icmp_ge C hf (tgt := 36) dX16_isSquare_7 (by decide) (fun c7 hf => ?_) (fun c7 hf => ?_)
      · obtain ⟨e1, rfl⟩ := mret_inv hf
        subst e1
        exact v_sub (ls' := _) [1] rfl J
      · refine v_iload_n C 1 dX16_isSquare_10 rfl rfl ?_
        refine v_if_ne C hf (tgt := 36) dX16_isSquare_11 (by decide) (fun c11 hf => ?_) (fun c11 hf => ?_)
        · obtain ⟨e1, rfl⟩ := mret_inv hf
          subst e1
          exact v_sub (ls' := _) [1] rfl J
        · refine v_iload_n C 2 dX16_isSquare_14 rfl rfl ?_
          refine v_iload_n C 2 dX16_isSquare_15 rfl rfl ?_
          refine v_imul C dX16_isSquare_16 ?_
          refine v_bipush (x := 23) C dX16_isSquare_17 (by decide) ?_
          refine v_irem C hf dX16_isSquare_19 (fun x1 hf => ?_)
          refine v_iload_n C 0 dX16_isSquare_20 rfl rfl ?_
          obtain ⟨x2, h3, hAh3, hf, hlh3⟩ := mb_inv hf hl
          refine v_cut (h1 := h3) (pc1 := 29) (ls1 := [(0, .int i0), (2, .int i2)]) (st1 := [.int x2]) ?_ (fun Jh3 => ?_)
          · clear hAh3 hlh3
            refine v_istore_n (ls' := [(1, _), (0, _), (2, _)]) C dX16_isSquare_29 rfl (by decide) rfl ?_
            refine v_iinc (ls' := [(2, _), (1, _), (0, _)]) (y := i2 + (1 : Int32)) C 2 dX16_isSquare_30 rfl rfl (by decide) rfl ?_
            refine v_goto (tgt := 4) C dX16_isSquare_33 (by decide) ?_
            refine v_sub (ls' := _) [2, 1, 0] rfl (ih x2 (i2 + (1 : Int32)) _ _ _ hf hl J)
          · clear hf
            have hf := hAh3
            have hl := hlh3
            refine v_icmp_ne C hf (tgt := 28) dX16_isSquare_21 (by decide) (fun c21 hf => ?_) (fun c21 hf => ?_)
            · refine v_iconst (x := 0) C dX16_isSquare_28 (by decide) ?_
              obtain ⟨e1, rfl⟩ := mret_inv hf
              subst e1
              exact v_sub (ls' := _) [0, 2] rfl Jh3
            · refine v_iconst (x := 1) C dX16_isSquare_24 (by decide) ?_
              refine v_goto (tgt := 29) C dX16_isSquare_25 (by decide) ?_
              obtain ⟨e1, rfl⟩ := mret_inv hf
              subst e1
              exact v_sub (ls' := _) [0, 2] rfl Jh3
  unfold f_X16_isSquare at hf
  refine v_iconst (x := 0) C dX16_isSquare_0 (by decide) ?_
  refine v_istore_n (ls' := [(1, _), (0, _)]) C dX16_isSquare_1 rfl (by decide) rfl ?_
  refine v_iconst (x := 1) C dX16_isSquare_2 (by decide) ?_
  refine v_istore_n (ls' := [(2, _), (1, _), (0, _)]) C dX16_isSquare_3 rfl (by decide) rfl ?_
  obtain ⟨x4, h5, eh5, hf, hlh5⟩ := mb_inv hf hl
  refine v_sub (ls' := _) [2, 1, 0] rfl (L4 i0 FU (0 : Int32) (1 : Int32) _ _ _ eh5 hlh5 ?_)
  refine v_iload_n C 0 dX16_isSquare_36 rfl rfl ?_
  exact v_zret C E hf dX16_isSquare_37
def f_X17_in (l0 : Int64) (l2 : Int64) (l4 : Int64) : hM Int32 :=
  mb (mi ((lg_cmp l0 l2) < 0) (mret (0 : Int32)) (mi (0 < (lg_cmp l0 l4)) (mret (0 : Int32)) (mret (1 : Int32)))) fun x1 => mrt .boolean x1
theorem nd_X17_in : yX17_in.cls ≠ "java/lang/invoke/MethodHandle" ∧ yX17_in.cls ≠ "java/lang/invoke/VarHandle" ∧ (parseMethodDescriptor yX17_in.desc).map (fun d => d.parameters.length) = some 3 := by decide +kernel
set_option maxHeartbeats 4000000 in
theorem ct_X17_in (l : Launch) (l0 : Int64) (l2 : Int64) (l4 : Int64) : CT l yX17_in cX17_in 6 (some .boolean) 0 0 rvI [.long l0, .long l2, .long l4] (f_X17_in l0 l2 l4) := by
  refine CT_of (ls := [(0, .long l0), (2, .long l2), (4, .long l4)]) (by decide) (Nat.le_of_ble_eq_true rfl) rfl ?_
  intro X h he z hX hf C E hnm hh
  have hl := hle.rf he
  subst hX
  unfold f_X17_in at hf
  refine v_lload_n C 0 dX17_in_0 rfl rfl ?_
  refine v_lload_n C 1 dX17_in_1 rfl rfl ?_
  refine v_lcmp C dX17_in_2 ?_
  obtain ⟨x1, h2, hAh2, hf, hlh2⟩ := mb_inv hf hl
  refine v_cut (h1 := h2) (pc1 := 18) (ls1 := []) (st1 := [.int x1]) ?_ (fun Jh2 => ?_)
  · clear hAh2 hlh2
    exact v_zret C E hf dX17_in_18
  · clear hf
    have hf := hAh2
    have hl := hlh2
    refine v_if_lt C hf (tgt := 17) dX17_in_3 (by decide) (fun c3 hf => ?_) (fun c3 hf => ?_)
    · refine v_iconst (x := 0) C dX17_in_17 (by decide) ?_
      obtain ⟨e1, rfl⟩ := mret_inv hf
      subst e1
      exact v_sub (ls' := _) [] rfl Jh2
    · refine v_lload_n C 0 dX17_in_6 rfl rfl ?_
      refine v_lload C 2 dX17_in_7 rfl ?_
      refine v_lcmp C dX17_in_9 ?_
      refine v_if_gt C hf (tgt := 17) dX17_in_10 (by decide) (fun c10 hf => ?_) (fun c10 hf => ?_)
      · refine v_iconst (x := 0) C dX17_in_17 (by decide) ?_
        obtain ⟨e1, rfl⟩ := mret_inv hf
        subst e1
        exact v_sub (ls' := _) [] rfl Jh2
      · refine v_iconst (x := 1) C dX17_in_13 (by decide) ?_
        refine v_goto (tgt := 18) C dX17_in_14 (by decide) ?_
        obtain ⟨e1, rfl⟩ := mret_inv hf
        subst e1
        exact v_sub (ls' := _) [] rfl Jh2
def f_X17_has (i0 : Int32) (i1 : Int32) : hM Int32 :=
  mb (mi (¬ ((i0 >>> (i1 &&& 31)) &&& (1 : Int32)) = (1 : Int32)) (mret (0 : Int32)) (mret (1 : Int32))) fun x1 => mrt .boolean x1
theorem nd_X17_has : yX17_has.cls ≠ "java/lang/invoke/MethodHandle" ∧ yX17_has.cls ≠ "java/lang/invoke/VarHandle" ∧ (parseMethodDescriptor yX17_has.desc).map (fun d => d.parameters.length) = some 2 := by decide +kernel
set_option maxHeartbeats 4000000 in
theorem ct_X17_has (l : Launch) (i0 : Int32) (i1 : Int32) : CT l yX17_has cX17_has 2 (some .boolean) 0 0 rvI [.int i0, .int i1] (f_X17_has i0 i1) := by
  refine CT_of (ls := [(0, .int i0), (1, .int i1)]) (by decide) (Nat.le_of_ble_eq_true rfl) rfl ?_
  intro X h he z hX hf C E hnm hh
  have hl := hle.rf he
  subst hX
  unfold f_X17_has at hf
  refine v_iload_n C 0 dX17_has_0 rfl rfl ?_
  refine v_iload_n C 1 dX17_has_1 rfl rfl ?_
  refine v_ishr C dX17_has_2 ?_
  refine v_iconst (x := 1) C dX17_has_3 (by decide) ?_
  refine v_iand C dX17_has_4 ?_
  refine v_iconst (x := 1) C dX17_has_5 (by decide) ?_
  obtain ⟨x1, h2, hAh2, hf, hlh2⟩ := mb_inv hf hl
  refine v_cut (h1 := h2) (pc1 := 14) (ls1 := []) (st1 := [.int x1]) ?_ (fun Jh2 => ?_)
  · clear hAh2 hlh2
    exact v_zret C E hf dX17_has_14
  · clear hf
    have hf := hAh2
    have hl := hlh2
    refine v_icmp_ne C hf (tgt := 13) dX17_has_6 (by decide) (fun c6 hf => ?_) (fun c6 hf => ?_)
    · refine v_iconst (x := 0) C dX17_has_13 (by decide) ?_
      obtain ⟨e1, rfl⟩ := mret_inv hf
      subst e1
      exact v_sub (ls' := _) [] rfl Jh2
    · refine v_iconst (x := 1) C dX17_has_9 (by decide) ?_
      refine v_goto (tgt := 14) C dX17_has_10 (by decide) ?_
      obtain ⟨e1, rfl⟩ := mret_inv hf
      subst e1
      exact v_sub (ls' := _) [] rfl Jh2
def l_X17_basic_5 (i0 : Int32) : Nat → Int32 → Int32 → hM (Int32)
  | 0, _, _ => mfail
  | n + 1, i1, i2 => mi ((23 : Int32) ≤ i2) (mret i1) (mb (f_X17_has (8047776 : Int32) i2) fun x1 => mb (mi (x1 = 0) (mret (0 : Int32)) (mb (mrem ((i2 - i0) + (23 : Int32)) (23 : Int32)) fun x5 => mret ((1 : Int32) <<< (x5 &&& 31)))) fun x3 => l_X17_basic_5 i0 n (i1 ||| x3) (i2 + (1 : Int32)))
def f_X17_basic (i0 : Int32) : hM Int32 :=
  mb (l_X17_basic_5 i0 FU (8388608 : Int32) (0 : Int32)) fun x6 => mret x6
theorem nd_X17_basic : yX17_basic.cls ≠ "java/lang/invoke/MethodHandle" ∧ yX17_basic.cls ≠ "java/lang/invoke/VarHandle" ∧ (parseMethodDescriptor yX17_basic.desc).map (fun d => d.parameters.length) = some 1 := by decide +kernel
set_option maxHeartbeats 4000000 in
theorem ct_X17_basic (l : Launch) (i0 : Int32) : CT l yX17_basic cX17_basic 3 (some .int) 1 21 rvI [.int i0] (f_X17_basic i0) := by
  refine CT_of (ls := [(0, .int i0)]) (by decide) (Nat.le_of_ble_eq_true rfl) rfl ?_
  intro X h he z hX hf C E hnm hh
  have hl := hle.rf he
  subst hX
  have L5 : ∀ (i0 : Int32) (n : Nat) (i1 : Int32) (i2 : Int32) (h h1 : Hp) (o : Int32), (l_X17_basic_5 i0 n i1 i2).1 h = some (o, h1) → hle h1 he → V X h1 44 [(1, .int o)] [] → V X h 5 [(0, .int i0), (1, .int i1), (2, .int i2)] [] := by
    intro i0 n
    induction n with
    | zero => intro i1 i2 h h1 o hf; exact mfail_inv hf
    | succ n ih =>
      intro i1 i2 h h1 o hf hl J
      rw [l_X17_basic_5] at hf
      refine v_iload_n C 2 dX17_basic_5 rfl rfl ?_
      refine v_bipush (x := 23) C dX17_basic_6 (by decide) ?_
      refine v_icmp_ge C hf (tgt := 44) dX17_basic_8 (by decide) (fun c8 hf => ?_) (fun c8 hf => ?_)
      · obtain ⟨e1, rfl⟩ := mret_inv hf
        subst e1
        exact v_sub (ls' := _) [1] rfl J
      · refine v_iload_n C 1 dX17_basic_11 rfl rfl ?_
        refine v_ldc (x := 8047776) C q1790 dX17_basic_12 ?_
        refine v_iload_n C 2 dX17_basic_14 rfl rfl ?_
        refine v_callS (stk := fun b => .int b :: [.int i1]) C (ct_X17_has _ (8047776 : Int32) i2) nd_X17_has rfl (Nat.le_of_ble_eq_true rfl) (Nat.le_of_ble_eq_true rfl) [.int i1] (Nat.le_of_ble_eq_true rfl) (fun _ => rfl) rfl q1783 q1784 q127 q1785 hf hl dX17_basic_15 (fun x1 h2 hf => ?_)
        obtain ⟨x3, h4, hAh4, hf, hlh4⟩ := mb_inv hf hl
        refine v_cut (h1 := h4) (pc1 := 36) (ls1 := [(0, .int i0), (2, .int i2)]) (st1 := [.int x3, .int i1]) ?_ (fun Jh4 => ?_)
        · clear hAh4 hlh4
          refine v_ior C dX17_basic_36 ?_
          refine v_istore_n (ls' := [(1, _), (0, _), (2, _)]) C dX17_basic_37 rfl (by decide) rfl ?_
          refine v_iinc (ls' := [(2, _), (1, _), (0, _)]) (y := i2 + (1 : Int32)) C 2 dX17_basic_38 rfl rfl (by decide) rfl ?_
          refine v_goto (tgt := 5) C dX17_basic_41 (by decide) ?_
          refine v_sub (ls' := _) [2, 1, 0] rfl (ih (i1 ||| x3) (i2 + (1 : Int32)) _ _ _ hf hl J)
        · clear hf
          have hf := hAh4
          have hl := hlh4
          refine v_if_eq C hf (tgt := 35) dX17_basic_18 (by decide) (fun c18 hf => ?_) (fun c18 hf => ?_)
          · refine v_iconst (x := 0) C dX17_basic_35 (by decide) ?_
            obtain ⟨e1, rfl⟩ := mret_inv hf
            subst e1
            exact v_sub (ls' := _) [0, 2] rfl Jh4
          · refine v_iconst (x := 1) C dX17_basic_21 (by decide) ?_
            refine v_iload_n C 2 dX17_basic_22 rfl rfl ?_
            refine v_iload_n C 0 dX17_basic_23 rfl rfl ?_
            refine v_isub C dX17_basic_24 ?_
            refine v_bipush (x := 23) C dX17_basic_25 (by decide) ?_
            refine v_iadd C dX17_basic_27 ?_
            refine v_bipush (x := 23) C dX17_basic_28 (by decide) ?_
            refine v_irem C hf dX17_basic_30 (fun x5 hf => ?_)
            refine v_ishl C dX17_basic_31 ?_
            refine v_goto (tgt := 36) C dX17_basic_32 (by decide) ?_
            obtain ⟨e1, rfl⟩ := mret_inv hf
            subst e1
            exact v_sub (ls' := _) [0, 2] rfl Jh4
  unfold f_X17_basic at hf
  refine v_ldc (x := 8388608) C q1789 dX17_basic_0 ?_
  refine v_istore_n (ls' := [(1, _), (0, _)]) C dX17_basic_2 rfl (by decide) rfl ?_
  refine v_iconst (x := 0) C dX17_basic_3 (by decide) ?_
  refine v_istore_n (ls' := [(2, _), (1, _), (0, _)]) C dX17_basic_4 rfl (by decide) rfl ?_
  obtain ⟨x6, h7, eh7, hf, hlh7⟩ := mb_inv hf hl
  refine v_sub (ls' := _) [2, 1, 0] rfl (L5 i0 FU (8388608 : Int32) (0 : Int32) _ _ _ eh7 hlh7 ?_)
  refine v_iload_n C 0 dX17_basic_44 rfl rfl ?_
  exact v_iret C E hf dX17_basic_45
def l_X17_highest_3 (i0 : Int32) : Nat → Int32 → hM (Int32)
  | 0, _ => mfail
  | n + 1, i1 => mi (i1 ≤ 0) (mret i1) (mb (f_X17_has i0 i1) fun x1 => mi (¬ x1 = 0) (mret i1) (l_X17_highest_3 i0 n (i1 + (-1 : Int32))))
def f_X17_highest (i0 : Int32) : hM Int32 :=
  mb (l_X17_highest_3 i0 FU (23 : Int32)) fun x3 => mret x3
theorem nd_X17_highest : yX17_highest.cls ≠ "java/lang/invoke/MethodHandle" ∧ yX17_highest.cls ≠ "java/lang/invoke/VarHandle" ∧ (parseMethodDescriptor yX17_highest.desc).map (fun d => d.parameters.length) = some 1 := by decide +kernel
set_option maxHeartbeats 4000000 in
theorem ct_X17_highest (l : Launch) (i0 : Int32) : CT l yX17_highest cX17_highest 2 (some .int) 1 21 rvI [.int i0] (f_X17_highest i0) := by
  refine CT_of (ls := [(0, .int i0)]) (by decide) (Nat.le_of_ble_eq_true rfl) rfl ?_
  intro X h he z hX hf C E hnm hh
  have hl := hle.rf he
  subst hX
  have L3 : ∀ (i0 : Int32) (n : Nat) (i1 : Int32) (h h1 : Hp) (o : Int32), (l_X17_highest_3 i0 n i1).1 h = some (o, h1) → hle h1 he → V X h1 21 [(1, .int o)] [] → V X h 3 [(0, .int i0), (1, .int i1)] [] := by
    intro i0 n
    induction n with
    | zero => intro i1 h h1 o hf; exact mfail_inv hf
    | succ n ih =>
      intro i1 h h1 o hf hl J
      rw [l_X17_highest_3] at hf
      refine v_iload_n C 1 dX17_highest_3 rfl rfl ?_
      refine v_if_le C hf (tgt := 21) dX17_highest_4 (by decide) (fun c4 hf => ?_) (fun c4 hf => ?_)
      · obtain ⟨e1, rfl⟩ := mret_inv hf
        subst e1
        exact v_sub (ls' := _) [1] rfl J
      · refine v_iload_n C 0 dX17_highest_7 rfl rfl ?_
        refine v_iload_n C 1 dX17_highest_8 rfl rfl ?_
        refine v_callS (stk := fun b => .int b :: []) C (ct_X17_has _ i0 i1) nd_X17_has rfl (Nat.le_of_ble_eq_true rfl) (Nat.le_of_ble_eq_true rfl) [] (Nat.le_of_ble_eq_true rfl) (fun _ => rfl) rfl q1783 q1784 q127 q1785 hf hl dX17_highest_9 (fun x1 h2 hf => ?_)
        refine v_if_ne C hf (tgt := 21) dX17_highest_12 (by decide) (fun c12 hf => ?_) (fun c12 hf => ?_)
        · obtain ⟨e1, rfl⟩ := mret_inv hf
          subst e1
          exact v_sub (ls' := _) [1] rfl J
        · refine v_iinc (ls' := [(1, _), (0, _)]) (y := i1 + (-1 : Int32)) C 1 dX17_highest_15 rfl rfl (by decide) rfl ?_
          refine v_goto (tgt := 3) C dX17_highest_18 (by decide) ?_
          refine v_sub (ls' := _) [1, 0] rfl (ih (i1 + (-1 : Int32)) _ _ _ hf hl J)
  unfold f_X17_highest at hf
  refine v_bipush (x := 23) C dX17_highest_0 (by decide) ?_
  refine v_istore_n (ls' := [(1, _), (0, _)]) C dX17_highest_2 rfl (by decide) rfl ?_
  obtain ⟨x3, h4, eh4, hf, hlh4⟩ := mb_inv hf hl
  refine v_sub (ls' := _) [1, 0] rfl (L3 i0 FU (23 : Int32) _ _ _ eh4 hlh4 ?_)
  refine v_iload_n C 0 dX17_highest_21 rfl rfl ?_
  exact v_iret C E hf dX17_highest_22
def l_X17_lowest_2 (i0 : Int32) : Nat → Int32 → hM (Int32)
  | 0, _ => mfail
  | n + 1, i1 => mi ((31 : Int32) ≤ i1) (mret i1) (mb (f_X17_has i0 i1) fun x1 => mi (¬ x1 = 0) (mret i1) (l_X17_lowest_2 i0 n (i1 + (1 : Int32))))
def f_X17_lowest (i0 : Int32) : hM Int32 :=
  mb (l_X17_lowest_2 i0 FU (0 : Int32)) fun x3 => mret x3
theorem nd_X17_lowest : yX17_lowest.cls ≠ "java/lang/invoke/MethodHandle" ∧ yX17_lowest.cls ≠ "java/lang/invoke/VarHandle" ∧ (parseMethodDescriptor yX17_lowest.desc).map (fun d => d.parameters.length) = some 1 := by decide +kernel
set_option maxHeartbeats 4000000 in
theorem ct_X17_lowest (l : Launch) (i0 : Int32) : CT l yX17_lowest cX17_lowest 2 (some .int) 1 21 rvI [.int i0] (f_X17_lowest i0) := by
  refine CT_of (ls := [(0, .int i0)]) (by decide) (Nat.le_of_ble_eq_true rfl) rfl ?_
  intro X h he z hX hf C E hnm hh
  have hl := hle.rf he
  subst hX
  have L2 : ∀ (i0 : Int32) (n : Nat) (i1 : Int32) (h h1 : Hp) (o : Int32), (l_X17_lowest_2 i0 n i1).1 h = some (o, h1) → hle h1 he → V X h1 22 [(1, .int o)] [] → V X h 2 [(0, .int i0), (1, .int i1)] [] := by
    intro i0 n
    induction n with
    | zero => intro i1 h h1 o hf; exact mfail_inv hf
    | succ n ih =>
      intro i1 h h1 o hf hl J
      rw [l_X17_lowest_2] at hf
      refine v_iload_n C 1 dX17_lowest_2 rfl rfl ?_
      refine v_bipush (x := 31) C dX17_lowest_3 (by decide) ?_
      refine v_icmp_ge C hf (tgt := 22) dX17_lowest_5 (by decide) (fun c5 hf => ?_) (fun c5 hf => ?_)
      · obtain ⟨e1, rfl⟩ := mret_inv hf
        subst e1
        exact v_sub (ls' := _) [1] rfl J
      · refine v_iload_n C 0 dX17_lowest_8 rfl rfl ?_
        refine v_iload_n C 1 dX17_lowest_9 rfl rfl ?_
        refine v_callS (stk := fun b => .int b :: []) C (ct_X17_has _ i0 i1) nd_X17_has rfl (Nat.le_of_ble_eq_true rfl) (Nat.le_of_ble_eq_true rfl) [] (Nat.le_of_ble_eq_true rfl) (fun _ => rfl) rfl q1783 q1784 q127 q1785 hf hl dX17_lowest_10 (fun x1 h2 hf => ?_)
        refine v_if_ne C hf (tgt := 22) dX17_lowest_13 (by decide) (fun c13 hf => ?_) (fun c13 hf => ?_)
        · obtain ⟨e1, rfl⟩ := mret_inv hf
          subst e1
          exact v_sub (ls' := _) [1] rfl J
        · refine v_iinc (ls' := [(1, _), (0, _)]) (y := i1 + (1 : Int32)) C 1 dX17_lowest_16 rfl rfl (by decide) rfl ?_
          refine v_goto (tgt := 2) C dX17_lowest_19 (by decide) ?_
          refine v_sub (ls' := _) [1, 0] rfl (ih (i1 + (1 : Int32)) _ _ _ hf hl J)
  unfold f_X17_lowest at hf
  refine v_iconst (x := 0) C dX17_lowest_0 (by decide) ?_
  refine v_istore_n (ls' := [(1, _), (0, _)]) C dX17_lowest_1 rfl (by decide) rfl ?_
  obtain ⟨x3, h4, eh4, hf, hlh4⟩ := mb_inv hf hl
  refine v_sub (ls' := _) [1, 0] rfl (L2 i0 FU (0 : Int32) _ _ _ eh4 hlh4 ?_)
  refine v_iload_n C 0 dX17_lowest_22 rfl rfl ?_
  exact v_iret C E hf dX17_lowest_23
def l_X17_bits_4  : Nat → Int32 → Int32 → hM (Int32)
  | 0, _, _ => mfail
  | n + 1, i1, i2 => mi (i2 = 0) (mret i1) (l_X17_bits_4 n (i1 + (1 : Int32)) (i2 &&& (i2 - (1 : Int32))))
def f_X17_bits (i0 : Int32) : hM Int32 :=
  mb (l_X17_bits_4 FU (0 : Int32) i0) fun x1 => mret x1
theorem nd_X17_bits : yX17_bits.cls ≠ "java/lang/invoke/MethodHandle" ∧ yX17_bits.cls ≠ "java/lang/invoke/VarHandle" ∧ (parseMethodDescriptor yX17_bits.desc).map (fun d => d.parameters.length) = some 1 := by decide +kernel
set_option maxHeartbeats 4000000 in
theorem ct_X17_bits (l : Launch) (i0 : Int32) : CT l yX17_bits cX17_bits 3 (some .int) 0 0 rvI [.int i0] (f_X17_bits i0) := by
  refine CT_of (ls := [(0, .int i0)]) (by decide) (Nat.le_of_ble_eq_true rfl) rfl ?_
  intro X h he z hX hf C E hnm hh
  have hl := hle.rf he
  subst hX
  have L4 : ∀  (n : Nat) (i1 : Int32) (i2 : Int32) (h h1 : Hp) (o : Int32), (l_X17_bits_4 n i1 i2).1 h = some (o, h1) → hle h1 he → V X h1 20 [(1, .int o)] [] → V X h 4 [(1, .int i1), (2, .int i2)] [] := by
    intro  n
    induction n with
    | zero => intro i1 i2 h h1 o hf; exact mfail_inv hf
    | succ n ih =>
      intro i1 i2 h h1 o hf hl J
      rw [l_X17_bits_4] at hf
      refine v_iload_n C 1 dX17_bits_4 rfl rfl ?_
      refine v_if_eq C hf (tgt := 20) dX17_bits_5 (by decide) (fun c5 hf => ?_) (fun c5 hf => ?_)
      · obtain ⟨e1, rfl⟩ := mret_inv hf
        subst e1
        exact v_sub (ls' := _) [0] rfl J
      · refine v_iinc (ls' := [(1, _), (2, _)]) (y := i1 + (1 : Int32)) C 0 dX17_bits_8 rfl rfl (by decide) rfl ?_
        refine v_iload_n C 1 dX17_bits_11 rfl rfl ?_
        refine v_iload_n C 1 dX17_bits_12 rfl rfl ?_
        refine v_iconst (x := 1) C dX17_bits_13 (by decide) ?_
        refine v_isub C dX17_bits_14 ?_
        refine v_iand C dX17_bits_15 ?_
        refine v_istore_n (ls' := [(2, _), (1, _)]) C dX17_bits_16 rfl (by decide) rfl ?_
        refine v_goto (tgt := 4) C dX17_bits_17 (by decide) ?_
        refine v_sub (ls' := _) [1, 0] rfl (ih (i1 + (1 : Int32)) (i2 &&& (i2 - (1 : Int32))) _ _ _ hf hl J)
  unfold f_X17_bits at hf
  refine v_iconst (x := 0) C dX17_bits_0 (by decide) ?_
  refine v_istore_n (ls' := [(1, _), (0, _)]) C dX17_bits_1 rfl (by decide) rfl ?_
  refine v_iload_n C 1 dX17_bits_2 rfl rfl ?_
  refine v_istore_n (ls' := [(2, _), (1, _), (0, _)]) C dX17_bits_3 rfl (by decide) rfl ?_
  obtain ⟨x1, h2, eh2, hf, hlh2⟩ := mb_inv hf hl
  refine v_sub (ls' := _) [1, 0] rfl (L4  FU (0 : Int32) i0 _ _ _ eh2 hlh2 ?_)
  refine v_iload_n C 0 dX17_bits_20 rfl rfl ?_
  exact v_iret C E hf dX17_bits_21
def f_X17_isSet (i0 : Int32) : hM Int32 :=
  mb (f_X17_in i0.toInt64 (0 : Int64) (16777215 : Int64)) fun x1 => mrt .boolean x1
theorem nd_X17_isSet : yX17_isSet.cls ≠ "java/lang/invoke/MethodHandle" ∧ yX17_isSet.cls ≠ "java/lang/invoke/VarHandle" ∧ (parseMethodDescriptor yX17_isSet.desc).map (fun d => d.parameters.length) = some 1 := by decide +kernel
set_option maxHeartbeats 4000000 in
theorem ct_X17_isSet (l : Launch) (i0 : Int32) : CT l yX17_isSet cX17_isSet 1 (some .boolean) 1 25 rvI [.int i0] (f_X17_isSet i0) := by
  refine CT_of (ls := [(0, .int i0)]) (by decide) (Nat.le_of_ble_eq_true rfl) rfl ?_
  intro X h he z hX hf C E hnm hh
  have hl := hle.rf he
  subst hX
  unfold f_X17_isSet at hf
  refine v_iload_n C 0 dX17_isSet_0 rfl rfl ?_
  refine v_i2l C dX17_isSet_1 ?_
  refine v_lconst (x := 0) C dX17_isSet_2 (by decide) ?_
  refine v_ldc2 (x := 16777215) C q1923 dX17_isSet_3 ?_
  refine v_callS (stk := fun b => .int b :: []) C (ct_X17_in _ i0.toInt64 (0 : Int64) (16777215 : Int64)) nd_X17_in rfl (Nat.le_of_ble_eq_true rfl) (Nat.le_of_ble_eq_true rfl) [] (Nat.le_of_ble_eq_true rfl) (fun _ => rfl) rfl q1779 q1780 q127 q1781 hf hl dX17_isSet_6 (fun x1 h2 hf => ?_)
  exact v_zret C E hf dX17_isSet_9
def l_X17_numberOf_8 (a0 : Nat) : Nat → Int32 → Int32 → Int32 → hM (Int32 × Int32)
  | 0, _, _, _ => mfail
  | n + 1, i2, i3, i4 => mi (i4 < 0) (mret (i2, i3)) (mb (gR a0 15 1) fun x1 => mb (aI 1 x1 i4) fun x2 => mb (f_X17_highest x2) fun x3 => mb (f_X17_has i2 x3) fun x5 => mb (mi (x5 = 0) (mret (i2, i3)) (mb (gR a0 15 1) fun x10 => mb (aI 1 x10 i4) fun x11 => mb (gR a0 15 2) fun x12 => mb (aI 1 x12 i4) fun x13 => mret (i2 ^^^ x11, i3 ^^^ x13))) fun ⟨x7, x8⟩ => l_X17_numberOf_8 a0 n x7 x8 (i4 + (-1 : Int32)))
def f_X17_numberOf (a0 : Nat) (i1 : Int32) : hM Int32 :=
  mb (l_X17_numberOf_8 a0 FU i1 (0 : Int32) (11 : Int32)) fun x14 => mb (mi (¬ x14.1 = 0) (mret (-4 : Int32)) (mret x14.2)) fun x16 => mret x16
theorem nd_X17_numberOf : yX17_numberOf.cls ≠ "java/lang/invoke/MethodHandle" ∧ yX17_numberOf.cls ≠ "java/lang/invoke/VarHandle" ∧ (parseMethodDescriptor yX17_numberOf.desc).map (fun d => d.parameters.length) = some 1 := by decide +kernel
set_option maxHeartbeats 4000000 in
theorem ct_X17_numberOf (l : Launch) (a0 : Nat) (i1 : Int32) : CT l yX17_numberOf cX17_numberOf 5 (some .int) 2 42 rvI [.ref a0, .int i1] (f_X17_numberOf a0 i1) := by
  refine CT_of (ls := [(0, .ref a0), (1, .int i1)]) (by decide) (Nat.le_of_ble_eq_true rfl) rfl ?_
  intro X h he z hX hf C E hnm hh
  have hl := hle.rf he
  subst hX
  have L8 : ∀ (a0 : Nat) (n : Nat) (i2 : Int32) (i3 : Int32) (i4 : Int32) (h h1 : Hp) (o : Int32 × Int32), (l_X17_numberOf_8 a0 n i2 i3 i4).1 h = some (o, h1) → hle h1 he → V X h1 56 [(2, .int o.1), (3, .int o.2)] [] → V X h 8 [(0, .ref a0), (2, .int i2), (3, .int i3), (4, .int i4)] [] := by
    intro a0 n
    induction n with
    | zero => intro i2 i3 i4 h h1 o hf; exact mfail_inv hf
    | succ n ih =>
      intro i2 i3 i4 h h1 o hf hl J
      rw [l_X17_numberOf_8] at hf
      refine v_iload C 3 dX17_numberOf_8 rfl ?_
      refine v_if_lt C hf (tgt := 56) dX17_numberOf_10 (by decide) (fun c10 hf => ?_) (fun c10 hf => ?_)
      · obtain ⟨e1, rfl⟩ := mret_inv hf
        subst e1
        exact v_sub (ls' := _) [1, 2] rfl J
      · refine v_iload_n C 1 dX17_numberOf_13 rfl rfl ?_
        refine v_aload_n C 0 dX17_numberOf_14 rfl rfl ?_
        refine v_gR (Cn := RX17) (T := TX17) (N := 37) C hf in_X17 rfl (by decide) q1805 rfl dX17_numberOf_15 (fun x1 hf => ?_)
        refine v_iload C 3 dX17_numberOf_18 rfl ?_
        refine v_iaload C hf dX17_numberOf_20 (fun x2 hf => ?_)
        refine v_callS (stk := fun b => .int b :: [.int i2]) C (ct_X17_highest _ x2) nd_X17_highest rfl (Nat.le_of_ble_eq_true rfl) (Nat.le_of_ble_eq_true rfl) [.int i2] (Nat.le_of_ble_eq_true rfl) (fun _ => rfl) rfl q1795 q1796 q127 q1797 hf hl dX17_numberOf_21 (fun x3 h4 hf => ?_)
        refine v_callS (stk := fun b => .int b :: []) C (ct_X17_has _ i2 x3) nd_X17_has rfl (Nat.le_of_ble_eq_true rfl) (Nat.le_of_ble_eq_true rfl) [] (Nat.le_of_ble_eq_true rfl) (fun _ => rfl) rfl q1783 q1784 q127 q1785 hf hl dX17_numberOf_24 (fun x5 h6 hf => ?_)
        obtain ⟨⟨x7, x8⟩, h9, hAh9, hf, hlh9⟩ := mb_inv hf hl
        refine v_cut (h1 := h9) (pc1 := 50) (ls1 := [(0, .ref a0), (2, .int x7), (3, .int x8), (4, .int i4)]) (st1 := []) ?_ (fun Jh9 => ?_)
        · clear hAh9 hlh9
          refine v_iinc (ls' := [(4, _), (0, _), (2, _), (3, _)]) (y := i4 + (-1 : Int32)) C 3 dX17_numberOf_50 rfl rfl (by decide) rfl ?_
          refine v_goto (tgt := 8) C dX17_numberOf_53 (by decide) ?_
          refine v_sub (ls' := _) [1, 2, 3, 0] rfl (ih x7 x8 (i4 + (-1 : Int32)) _ _ _ hf hl J)
        · clear hf
          have hf := hAh9
          have hl := hlh9
          refine v_if_eq C hf (tgt := 50) dX17_numberOf_27 (by decide) (fun c27 hf => ?_) (fun c27 hf => ?_)
          · obtain ⟨e1, rfl⟩ := mret_inv hf
            simp only [Prod.mk.injEq] at e1
            obtain ⟨rfl, rfl⟩ := e1
            exact v_sub (ls' := _) [0, 1, 2, 3] rfl Jh9
          · refine v_iload_n C 1 dX17_numberOf_30 rfl rfl ?_
            refine v_aload_n C 0 dX17_numberOf_31 rfl rfl ?_
            refine v_gR (Cn := RX17) (T := TX17) (N := 37) C hf in_X17 rfl (by decide) q1805 rfl dX17_numberOf_32 (fun x10 hf => ?_)
            refine v_iload C 3 dX17_numberOf_35 rfl ?_
            refine v_iaload C hf dX17_numberOf_37 (fun x11 hf => ?_)
            refine v_ixor C dX17_numberOf_38 ?_
            refine v_istore_n (ls' := [(2, _), (0, _), (3, _), (4, _)]) C dX17_numberOf_39 rfl (by decide) rfl ?_
            refine v_iload_n C 2 dX17_numberOf_40 rfl rfl ?_
            refine v_aload_n C 1 dX17_numberOf_41 rfl rfl ?_
            refine v_gR (Cn := RX17) (T := TX17) (N := 37) C hf in_X17 rfl (by decide) q1806 rfl dX17_numberOf_42 (fun x12 hf => ?_)
            refine v_iload C 3 dX17_numberOf_45 rfl ?_
            refine v_iaload C hf dX17_numberOf_47 (fun x13 hf => ?_)
            refine v_ixor C dX17_numberOf_48 ?_
            refine v_istore_n (ls' := [(3, _), (2, _), (0, _), (4, _)]) C dX17_numberOf_49 rfl (by decide) rfl ?_
            obtain ⟨e1, rfl⟩ := mret_inv hf
            simp only [Prod.mk.injEq] at e1
            obtain ⟨rfl, rfl⟩ := e1
            exact v_sub (ls' := _) [2, 1, 0, 3] rfl Jh9
  unfold f_X17_numberOf at hf
  refine v_iload_n C 1 dX17_numberOf_0 rfl rfl ?_
  refine v_istore_n (ls' := [(2, _), (0, _), (1, _)]) C dX17_numberOf_1 rfl (by decide) rfl ?_
  refine v_iconst (x := 0) C dX17_numberOf_2 (by decide) ?_
  refine v_istore_n (ls' := [(3, _), (2, _), (0, _), (1, _)]) C dX17_numberOf_3 rfl (by decide) rfl ?_
  refine v_bipush (x := 11) C dX17_numberOf_4 (by decide) ?_
  refine v_istore (ls' := [(4, _), (3, _), (2, _), (0, _), (1, _)]) C dX17_numberOf_6 (by decide) rfl ?_
  obtain ⟨x14, h15, eh15, hf, hlh15⟩ := mb_inv hf hl
  refine v_sub (ls' := _) [3, 2, 1, 0] rfl (L8 a0 FU i1 (0 : Int32) (11 : Int32) _ _ _ eh15 hlh15 ?_)
  refine v_iload_n C 0 dX17_numberOf_56 rfl rfl ?_
  obtain ⟨x16, h17, hAh17, hf, hlh17⟩ := mb_inv hf hl
  refine v_cut (h1 := h17) (pc1 := 66) (ls1 := []) (st1 := [.int x16]) ?_ (fun Jh17 => ?_)
  · clear hAh17 hlh17
    exact v_iret C E hf dX17_numberOf_66
  · clear hf
    have hf := hAh17
    have hl := hlh17
    refine v_if_ne C hf (tgt := 64) dX17_numberOf_57 (by decide) (fun c57 hf => ?_) (fun c57 hf => ?_)
    · refine v_bipush (x := (-4)) C dX17_numberOf_64 (by decide) ?_
      obtain ⟨e1, rfl⟩ := mret_inv hf
      subst e1
      exact v_sub (ls' := _) [] rfl Jh17
    · refine v_iload_n C 1 dX17_numberOf_60 rfl rfl ?_
      refine v_goto (tgt := 66) C dX17_numberOf_61 (by decide) ?_
      obtain ⟨e1, rfl⟩ := mret_inv hf
      subst e1
      exact v_sub (ls' := _) [] rfl Jh17
def l_X17_closest_14 (a0 : Nat) (i1 : Int32) (i2 : Int32) : Nat → Int32 → Int32 → Int32 → Int32 → hM (Int32 × Int32 × Int32)
  | 0, _, _, _, _ => mfail
  | n + 1, i3, i4, i5, i6 => mi (i6 < 0) (mret (i3, i4, i5)) (mb (gR a0 15 4) fun x1 => mb (aI 1 x1 i6) fun x2 => mb (f_X17_bits (i1 ^^^ x2)) fun x3 => mb (mi (i3 ≤ x3) (mi (¬ x3 = i3) (mret i4) (mret (i4 + (1 : Int32)))) (mret (1 : Int32))) fun x5 => mb (mi (i3 < x3) (mret i5) (mb (gR a0 15 4) fun x11 => mb (aI 1 x11 i6) fun x12 => mret x12)) fun x7 => mb (mi (i3 ≤ x3) (mret i3) (mret x3)) fun x9 => l_X17_closest_14 a0 i1 i2 n x9 x5 x7 (i6 + (-1 : Int32)))
def f_X17_closest (a0 : Nat) (i1 : Int32) (i2 : Int32) : hM Int32 :=
  mb (l_X17_closest_14 a0 i1 i2 FU (25 : Int32) (0 : Int32) (0 : Int32) (4095 : Int32)) fun x13 => mb (mi (¬ i2 = (2 : Int32)) (mi (¬ i2 = (3 : Int32)) (mret x13.2.2) (mret x13.2.1)) (mret x13.1)) fun x15 => mret x15
theorem nd_X17_closest : yX17_closest.cls ≠ "java/lang/invoke/MethodHandle" ∧ yX17_closest.cls ≠ "java/lang/invoke/VarHandle" ∧ (parseMethodDescriptor yX17_closest.desc).map (fun d => d.parameters.length) = some 2 := by decide +kernel
set_option maxHeartbeats 4000000 in
theorem ct_X17_closest (l : Launch) (a0 : Nat) (i1 : Int32) (i2 : Int32) : CT l yX17_closest cX17_closest 8 (some .int) 1 22 rvI [.ref a0, .int i1, .int i2] (f_X17_closest a0 i1 i2) := by
  refine CT_of (ls := [(0, .ref a0), (1, .int i1), (2, .int i2)]) (by decide) (Nat.le_of_ble_eq_true rfl) rfl ?_
  intro X h he z hX hf C E hnm hh
  have hl := hle.rf he
  subst hX
  have L14 : ∀ (a0 : Nat) (i1 : Int32) (i2 : Int32) (n : Nat) (i3 : Int32) (i4 : Int32) (i5 : Int32) (i6 : Int32) (h h1 : Hp) (o : Int32 × Int32 × Int32), (l_X17_closest_14 a0 i1 i2 n i3 i4 i5 i6).1 h = some (o, h1) → hle h1 he → V X h1 99 [(2, .int i2), (3, .int o.1), (4, .int o.2.1), (5, .int o.2.2)] [] → V X h 14 [(0, .ref a0), (1, .int i1), (2, .int i2), (3, .int i3), (4, .int i4), (5, .int i5), (6, .int i6)] [] := by
    intro a0 i1 i2 n
    induction n with
    | zero => intro i3 i4 i5 i6 h h1 o hf; exact mfail_inv hf
    | succ n ih =>
      intro i3 i4 i5 i6 h h1 o hf hl J
      rw [l_X17_closest_14] at hf
      refine v_iload C 6 dX17_closest_14 rfl ?_
      refine v_if_lt C hf (tgt := 99) dX17_closest_16 (by decide) (fun c16 hf => ?_) (fun c16 hf => ?_)
      · obtain ⟨e1, rfl⟩ := mret_inv hf
        subst e1
        exact v_sub (ls' := _) [2, 3, 4, 5] rfl J
      · refine v_iload_n C 1 dX17_closest_19 rfl rfl ?_
        refine v_aload_n C 0 dX17_closest_20 rfl rfl ?_
        refine v_gR (Cn := RX17) (T := TX17) (N := 37) C hf in_X17 rfl (by decide) q1808 rfl dX17_closest_21 (fun x1 hf => ?_)
        refine v_iload C 6 dX17_closest_24 rfl ?_
        refine v_iaload C hf dX17_closest_26 (fun x2 hf => ?_)
        refine v_ixor C dX17_closest_27 ?_
        refine v_callS (stk := fun b => .int b :: []) C (ct_X17_bits _ (i1 ^^^ x2)) nd_X17_bits rfl (Nat.le_of_ble_eq_true rfl) (Nat.le_of_ble_eq_true rfl) [] (Nat.le_of_ble_eq_true rfl) (fun _ => rfl) rfl q1801 q1802 q127 q1803 hf hl dX17_closest_28 (fun x3 h4 hf => ?_)
        refine v_istore (ls' := [(7, _), (0, _), (1, _), (2, _), (3, _), (4, _), (5, _), (6, _)]) C dX17_closest_31 (by decide) rfl ?_
        refine v_iload C 0 dX17_closest_33 rfl ?_
        refine v_iload_n C 4 dX17_closest_35 rfl rfl ?_
        obtain ⟨x5, h6, hAh6, hf, hlh6⟩ := mb_inv hf hl
        refine v_cut (h1 := h6) (pc1 := 58) (ls1 := [(0, .ref a0), (1, .int i1), (2, .int i2), (3, .int i3), (5, .int i5), (6, .int i6), (7, .int x3)]) (st1 := [.int x5]) ?_ (fun Jh6 => ?_)
        · clear hAh6 hlh6
          refine v_istore (ls' := [(4, _), (0, _), (1, _), (2, _), (3, _), (5, _), (6, _), (7, _)]) C dX17_closest_58 (by decide) rfl ?_
          refine v_iload C 7 dX17_closest_60 rfl ?_
          refine v_iload_n C 4 dX17_closest_62 rfl rfl ?_
          obtain ⟨x7, h8, hAh8, hf, hlh8⟩ := mb_inv hf hl
          refine v_cut (h1 := h8) (pc1 := 78) (ls1 := [(0, .ref a0), (1, .int i1), (2, .int i2), (3, .int i3), (4, .int x5), (6, .int i6), (7, .int x3)]) (st1 := [.int x7]) ?_ (fun Jh8 => ?_)
          · clear hAh8 hlh8
            refine v_istore (ls' := [(5, _), (0, _), (1, _), (2, _), (3, _), (4, _), (6, _), (7, _)]) C dX17_closest_78 (by decide) rfl ?_
            refine v_iload C 7 dX17_closest_80 rfl ?_
            refine v_iload_n C 4 dX17_closest_82 rfl rfl ?_
            obtain ⟨x9, h10, hAh10, hf, hlh10⟩ := mb_inv hf hl
            refine v_cut (h1 := h10) (pc1 := 92) (ls1 := [(0, .ref a0), (1, .int i1), (2, .int i2), (4, .int x5), (5, .int x7), (6, .int i6)]) (st1 := [.int x9]) ?_ (fun Jh10 => ?_)
            · clear hAh10 hlh10
              refine v_istore_n (ls' := [(3, _), (0, _), (1, _), (2, _), (4, _), (5, _), (6, _)]) C dX17_closest_92 rfl (by decide) rfl ?_
              refine v_iinc (ls' := [(6, _), (3, _), (0, _), (1, _), (2, _), (4, _), (5, _)]) (y := i6 + (-1 : Int32)) C 6 dX17_closest_93 rfl rfl (by decide) rfl ?_
              refine v_goto (tgt := 14) C dX17_closest_96 (by decide) ?_
              refine v_sub (ls' := _) [2, 3, 4, 1, 5, 6, 0] rfl (ih x9 x5 x7 (i6 + (-1 : Int32)) _ _ _ hf hl J)
            · clear hf
              have hf := hAh10
              have hl := hlh10
              refine v_icmp_ge C hf (tgt := 91) dX17_closest_83 (by decide) (fun c83 hf => ?_) (fun c83 hf => ?_)
              · refine v_iload_n C 4 dX17_closest_91 rfl rfl ?_
                obtain ⟨e1, rfl⟩ := mret_inv hf
                subst e1
                exact v_sub (ls' := _) [1, 2, 3, 5, 0, 6] rfl Jh10
              · refine v_iload C 7 dX17_closest_86 rfl ?_
                refine v_goto (tgt := 92) C dX17_closest_88 (by decide) ?_
                obtain ⟨e1, rfl⟩ := mret_inv hf
                subst e1
                exact v_sub (ls' := _) [1, 2, 3, 5, 0, 6] rfl Jh10
          · clear hf
            have hf := hAh8
            have hl := hlh8
            refine v_icmp_gt C hf (tgt := 76) dX17_closest_63 (by decide) (fun c63 hf => ?_) (fun c63 hf => ?_)
            · refine v_iload C 5 dX17_closest_76 rfl ?_
              obtain ⟨e1, rfl⟩ := mret_inv hf
              subst e1
              exact v_sub (ls' := _) [1, 2, 3, 4, 0, 6, 7] rfl Jh8
            · refine v_aload_n C 1 dX17_closest_66 rfl rfl ?_
              refine v_gR (Cn := RX17) (T := TX17) (N := 37) C hf in_X17 rfl (by decide) q1808 rfl dX17_closest_67 (fun x11 hf => ?_)
              refine v_iload C 6 dX17_closest_70 rfl ?_
              refine v_iaload C hf dX17_closest_72 (fun x12 hf => ?_)
              refine v_goto (tgt := 78) C dX17_closest_73 (by decide) ?_
              obtain ⟨e1, rfl⟩ := mret_inv hf
              subst e1
              exact v_sub (ls' := _) [1, 2, 3, 4, 0, 6, 7] rfl Jh8
        · clear hf
          have hf := hAh6
          have hl := hlh6
          refine v_icmp_ge C hf (tgt := 43) dX17_closest_36 (by decide) (fun c36 hf => ?_) (fun c36 hf => ?_)
          · refine v_iload C 0 dX17_closest_43 rfl ?_
            refine v_iload_n C 4 dX17_closest_45 rfl rfl ?_
            refine v_icmp_ne C hf (tgt := 56) dX17_closest_46 (by decide) (fun c46 hf => ?_) (fun c46 hf => ?_)
            · refine v_iload C 5 dX17_closest_56 rfl ?_
              obtain ⟨e1, rfl⟩ := mret_inv hf
              subst e1
              exact v_sub (ls' := _) [1, 2, 3, 4, 6, 7, 0] rfl Jh6
            · refine v_iload C 5 dX17_closest_49 rfl ?_
              refine v_iconst (x := 1) C dX17_closest_51 (by decide) ?_
              refine v_iadd C dX17_closest_52 ?_
              refine v_goto (tgt := 58) C dX17_closest_53 (by decide) ?_
              obtain ⟨e1, rfl⟩ := mret_inv hf
              subst e1
              exact v_sub (ls' := _) [1, 2, 3, 4, 6, 7, 0] rfl Jh6
          · refine v_iconst (x := 1) C dX17_closest_39 (by decide) ?_
            refine v_goto (tgt := 58) C dX17_closest_40 (by decide) ?_
            obtain ⟨e1, rfl⟩ := mret_inv hf
            subst e1
            exact v_sub (ls' := _) [1, 2, 3, 4, 6, 7, 0] rfl Jh6
  unfold f_X17_closest at hf
  refine v_bipush (x := 25) C dX17_closest_0 (by decide) ?_
  refine v_istore_n (ls' := [(3, _), (0, _), (1, _), (2, _)]) C dX17_closest_2 rfl (by decide) rfl ?_
  refine v_iconst (x := 0) C dX17_closest_3 (by decide) ?_
  refine v_istore (ls' := [(4, _), (3, _), (0, _), (1, _), (2, _)]) C dX17_closest_4 (by decide) rfl ?_
  refine v_iconst (x := 0) C dX17_closest_6 (by decide) ?_
  refine v_istore (ls' := [(5, _), (4, _), (3, _), (0, _), (1, _), (2, _)]) C dX17_closest_7 (by decide) rfl ?_
  refine v_sipush (x := 4095) C dX17_closest_9 (by decide) ?_
  refine v_istore (ls' := [(6, _), (5, _), (4, _), (3, _), (0, _), (1, _), (2, _)]) C dX17_closest_12 (by decide) rfl ?_
  obtain ⟨x13, h14, eh14, hf, hlh14⟩ := mb_inv hf hl
  refine v_sub (ls' := _) [4, 5, 6, 3, 2, 1, 0] rfl (L14 a0 i1 i2 FU (25 : Int32) (0 : Int32) (0 : Int32) (4095 : Int32) _ _ _ eh14 hlh14 ?_)
  refine v_iload_n C 0 dX17_closest_99 rfl rfl ?_
  refine v_iconst (x := 2) C dX17_closest_100 (by decide) ?_
  obtain ⟨x15, h16, hAh16, hf, hlh16⟩ := mb_inv hf hl
  refine v_cut (h1 := h16) (pc1 := 120) (ls1 := []) (st1 := [.int x15]) ?_ (fun Jh16 => ?_)
  · clear hAh16 hlh16
    exact v_iret C E hf dX17_closest_120
  · clear hf
    have hf := hAh16
    have hl := hlh16
    refine v_icmp_ne C hf (tgt := 108) dX17_closest_101 (by decide) (fun c101 hf => ?_) (fun c101 hf => ?_)
    · refine v_iload_n C 0 dX17_closest_108 rfl rfl ?_
      refine v_iconst (x := 3) C dX17_closest_109 (by decide) ?_
      refine v_icmp_ne C hf (tgt := 118) dX17_closest_110 (by decide) (fun c110 hf => ?_) (fun c110 hf => ?_)
      · refine v_iload C 3 dX17_closest_118 rfl ?_
        obtain ⟨e1, rfl⟩ := mret_inv hf
        subst e1
        exact v_sub (ls' := _) [] rfl Jh16
      · refine v_iload C 2 dX17_closest_113 rfl ?_
        refine v_goto (tgt := 120) C dX17_closest_115 (by decide) ?_
        obtain ⟨e1, rfl⟩ := mret_inv hf
        subst e1
        exact v_sub (ls' := _) [] rfl Jh16
    · refine v_iload_n C 1 dX17_closest_104 rfl rfl ?_
      refine v_goto (tgt := 120) C dX17_closest_105 (by decide) ?_
      obtain ⟨e1, rfl⟩ := mret_inv hf
      subst e1
      exact v_sub (ls' := _) [] rfl Jh16
def l_X17_octadsIn_4 (a0 : Nat) (i1 : Int32) : Nat → Int32 → Int32 → hM (Int32)
  | 0, _, _ => mfail
  | n + 1, i2, i3 => mi ((759 : Int32) ≤ i3) (mret i2) (mb (gR a0 15 5) fun x1 => mb (aI 1 x1 i3) fun x2 => mb (mi (¬ (x2 &&& (i1 ^^^ (-1 : Int32))) = 0) (mret (0 : Int32)) (mret (1 : Int32))) fun x3 => l_X17_octadsIn_4 a0 i1 n (i2 + x3) (i3 + (1 : Int32)))
def f_X17_octadsIn (a0 : Nat) (i1 : Int32) : hM Int32 :=
  mb (l_X17_octadsIn_4 a0 i1 FU (0 : Int32) (0 : Int32)) fun x5 => mret x5
theorem nd_X17_octadsIn : yX17_octadsIn.cls ≠ "java/lang/invoke/MethodHandle" ∧ yX17_octadsIn.cls ≠ "java/lang/invoke/VarHandle" ∧ (parseMethodDescriptor yX17_octadsIn.desc).map (fun d => d.parameters.length) = some 1 := by decide +kernel
set_option maxHeartbeats 4000000 in
theorem ct_X17_octadsIn (l : Launch) (a0 : Nat) (i1 : Int32) : CT l yX17_octadsIn cX17_octadsIn 4 (some .int) 0 0 rvI [.ref a0, .int i1] (f_X17_octadsIn a0 i1) := by
  refine CT_of (ls := [(0, .ref a0), (1, .int i1)]) (by decide) (Nat.le_of_ble_eq_true rfl) rfl ?_
  intro X h he z hX hf C E hnm hh
  have hl := hle.rf he
  subst hX
  have L4 : ∀ (a0 : Nat) (i1 : Int32) (n : Nat) (i2 : Int32) (i3 : Int32) (h h1 : Hp) (o : Int32), (l_X17_octadsIn_4 a0 i1 n i2 i3).1 h = some (o, h1) → hle h1 he → V X h1 38 [(2, .int o)] [] → V X h 4 [(0, .ref a0), (1, .int i1), (2, .int i2), (3, .int i3)] [] := by
    intro a0 i1 n
    induction n with
    | zero => intro i2 i3 h h1 o hf; exact mfail_inv hf
    | succ n ih =>
      intro i2 i3 h h1 o hf hl J
      rw [l_X17_octadsIn_4] at hf
      refine v_iload_n C 3 dX17_octadsIn_4 rfl rfl ?_
      refine v_sipush (x := 759) C dX17_octadsIn_5 (by decide) ?_
      refine v_icmp_ge C hf (tgt := 38) dX17_octadsIn_8 (by decide) (fun c8 hf => ?_) (fun c8 hf => ?_)
      · obtain ⟨e1, rfl⟩ := mret_inv hf
        subst e1
        exact v_sub (ls' := _) [2] rfl J
      · refine v_iload_n C 2 dX17_octadsIn_11 rfl rfl ?_
        refine v_aload_n C 0 dX17_octadsIn_12 rfl rfl ?_
        refine v_gR (Cn := RX17) (T := TX17) (N := 37) C hf in_X17 rfl (by decide) q1809 rfl dX17_octadsIn_13 (fun x1 hf => ?_)
        refine v_iload_n C 3 dX17_octadsIn_16 rfl rfl ?_
        refine v_iaload C hf dX17_octadsIn_17 (fun x2 hf => ?_)
        refine v_iload_n C 1 dX17_octadsIn_18 rfl rfl ?_
        refine v_iconst (x := (-1)) C dX17_octadsIn_19 (by decide) ?_
        refine v_ixor C dX17_octadsIn_20 ?_
        refine v_iand C dX17_octadsIn_21 ?_
        obtain ⟨x3, h4, hAh4, hf, hlh4⟩ := mb_inv hf hl
        refine v_cut (h1 := h4) (pc1 := 30) (ls1 := [(0, .ref a0), (1, .int i1), (3, .int i3)]) (st1 := [.int x3, .int i2]) ?_ (fun Jh4 => ?_)
        · clear hAh4 hlh4
          refine v_iadd C dX17_octadsIn_30 ?_
          refine v_istore_n (ls' := [(2, _), (0, _), (1, _), (3, _)]) C dX17_octadsIn_31 rfl (by decide) rfl ?_
          refine v_iinc (ls' := [(3, _), (2, _), (0, _), (1, _)]) (y := i3 + (1 : Int32)) C 3 dX17_octadsIn_32 rfl rfl (by decide) rfl ?_
          refine v_goto (tgt := 4) C dX17_octadsIn_35 (by decide) ?_
          refine v_sub (ls' := _) [2, 3, 1, 0] rfl (ih (i2 + x3) (i3 + (1 : Int32)) _ _ _ hf hl J)
        · clear hf
          have hf := hAh4
          have hl := hlh4
          refine v_if_ne C hf (tgt := 29) dX17_octadsIn_22 (by decide) (fun c22 hf => ?_) (fun c22 hf => ?_)
          · refine v_iconst (x := 0) C dX17_octadsIn_29 (by decide) ?_
            obtain ⟨e1, rfl⟩ := mret_inv hf
            subst e1
            exact v_sub (ls' := _) [0, 1, 3] rfl Jh4
          · refine v_iconst (x := 1) C dX17_octadsIn_25 (by decide) ?_
            refine v_goto (tgt := 30) C dX17_octadsIn_26 (by decide) ?_
            obtain ⟨e1, rfl⟩ := mret_inv hf
            subst e1
            exact v_sub (ls' := _) [0, 1, 3] rfl Jh4
  unfold f_X17_octadsIn at hf
  refine v_iconst (x := 0) C dX17_octadsIn_0 (by decide) ?_
  refine v_istore_n (ls' := [(2, _), (0, _), (1, _)]) C dX17_octadsIn_1 rfl (by decide) rfl ?_
  refine v_iconst (x := 0) C dX17_octadsIn_2 (by decide) ?_
  refine v_istore_n (ls' := [(3, _), (2, _), (0, _), (1, _)]) C dX17_octadsIn_3 rfl (by decide) rfl ?_
  obtain ⟨x5, h6, eh6, hf, hlh6⟩ := mb_inv hf hl
  refine v_sub (ls' := _) [2, 3, 1, 0] rfl (L4 a0 i1 FU (0 : Int32) (0 : Int32) _ _ _ eh6 hlh6 ?_)
  refine v_iload_n C 0 dX17_octadsIn_38 rfl rfl ?_
  exact v_iret C E hf dX17_octadsIn_39
def l_X17_octadsWith_4 (a0 : Nat) (i1 : Int32) : Nat → Int32 → Int32 → hM (Int32)
  | 0, _, _ => mfail
  | n + 1, i2, i3 => mi ((759 : Int32) ≤ i3) (mret i2) (mb (gR a0 15 5) fun x1 => mb (aI 1 x1 i3) fun x2 => mb (mi (¬ (i1 &&& (x2 ^^^ (-1 : Int32))) = 0) (mret (0 : Int32)) (mret (1 : Int32))) fun x3 => l_X17_octadsWith_4 a0 i1 n (i2 + x3) (i3 + (1 : Int32)))
def f_X17_octadsWith (a0 : Nat) (i1 : Int32) : hM Int32 :=
  mb (l_X17_octadsWith_4 a0 i1 FU (0 : Int32) (0 : Int32)) fun x5 => mret x5
theorem nd_X17_octadsWith : yX17_octadsWith.cls ≠ "java/lang/invoke/MethodHandle" ∧ yX17_octadsWith.cls ≠ "java/lang/invoke/VarHandle" ∧ (parseMethodDescriptor yX17_octadsWith.desc).map (fun d => d.parameters.length) = some 1 := by decide +kernel
set_option maxHeartbeats 4000000 in
theorem ct_X17_octadsWith (l : Launch) (a0 : Nat) (i1 : Int32) : CT l yX17_octadsWith cX17_octadsWith 4 (some .int) 0 0 rvI [.ref a0, .int i1] (f_X17_octadsWith a0 i1) := by
  refine CT_of (ls := [(0, .ref a0), (1, .int i1)]) (by decide) (Nat.le_of_ble_eq_true rfl) rfl ?_
  intro X h he z hX hf C E hnm hh
  have hl := hle.rf he
  subst hX
  have L4 : ∀ (a0 : Nat) (i1 : Int32) (n : Nat) (i2 : Int32) (i3 : Int32) (h h1 : Hp) (o : Int32), (l_X17_octadsWith_4 a0 i1 n i2 i3).1 h = some (o, h1) → hle h1 he → V X h1 38 [(2, .int o)] [] → V X h 4 [(0, .ref a0), (1, .int i1), (2, .int i2), (3, .int i3)] [] := by
    intro a0 i1 n
    induction n with
    | zero => intro i2 i3 h h1 o hf; exact mfail_inv hf
    | succ n ih =>
      intro i2 i3 h h1 o hf hl J
      rw [l_X17_octadsWith_4] at hf
      refine v_iload_n C 3 dX17_octadsWith_4 rfl rfl ?_
      refine v_sipush (x := 759) C dX17_octadsWith_5 (by decide) ?_
      refine v_icmp_ge C hf (tgt := 38) dX17_octadsWith_8 (by decide) (fun c8 hf => ?_) (fun c8 hf => ?_)
      · obtain ⟨e1, rfl⟩ := mret_inv hf
        subst e1
        exact v_sub (ls' := _) [2] rfl J
      · refine v_iload_n C 2 dX17_octadsWith_11 rfl rfl ?_
        refine v_iload_n C 1 dX17_octadsWith_12 rfl rfl ?_
        refine v_aload_n C 0 dX17_octadsWith_13 rfl rfl ?_
        refine v_gR (Cn := RX17) (T := TX17) (N := 37) C hf in_X17 rfl (by decide) q1809 rfl dX17_octadsWith_14 (fun x1 hf => ?_)
        refine v_iload_n C 3 dX17_octadsWith_17 rfl rfl ?_
        refine v_iaload C hf dX17_octadsWith_18 (fun x2 hf => ?_)
        refine v_iconst (x := (-1)) C dX17_octadsWith_19 (by decide) ?_
        refine v_ixor C dX17_octadsWith_20 ?_
        refine v_iand C dX17_octadsWith_21 ?_
        obtain ⟨x3, h4, hAh4, hf, hlh4⟩ := mb_inv hf hl
        refine v_cut (h1 := h4) (pc1 := 30) (ls1 := [(0, .ref a0), (1, .int i1), (3, .int i3)]) (st1 := [.int x3, .int i2]) ?_ (fun Jh4 => ?_)
        · clear hAh4 hlh4
          refine v_iadd C dX17_octadsWith_30 ?_
          refine v_istore_n (ls' := [(2, _), (0, _), (1, _), (3, _)]) C dX17_octadsWith_31 rfl (by decide) rfl ?_
          refine v_iinc (ls' := [(3, _), (2, _), (0, _), (1, _)]) (y := i3 + (1 : Int32)) C 3 dX17_octadsWith_32 rfl rfl (by decide) rfl ?_
          refine v_goto (tgt := 4) C dX17_octadsWith_35 (by decide) ?_
          refine v_sub (ls' := _) [2, 3, 1, 0] rfl (ih (i2 + x3) (i3 + (1 : Int32)) _ _ _ hf hl J)
        · clear hf
          have hf := hAh4
          have hl := hlh4
          refine v_if_ne C hf (tgt := 29) dX17_octadsWith_22 (by decide) (fun c22 hf => ?_) (fun c22 hf => ?_)
          · refine v_iconst (x := 0) C dX17_octadsWith_29 (by decide) ?_
            obtain ⟨e1, rfl⟩ := mret_inv hf
            subst e1
            exact v_sub (ls' := _) [0, 1, 3] rfl Jh4
          · refine v_iconst (x := 1) C dX17_octadsWith_25 (by decide) ?_
            refine v_goto (tgt := 30) C dX17_octadsWith_26 (by decide) ?_
            obtain ⟨e1, rfl⟩ := mret_inv hf
            subst e1
            exact v_sub (ls' := _) [0, 1, 3] rfl Jh4
  unfold f_X17_octadsWith at hf
  refine v_iconst (x := 0) C dX17_octadsWith_0 (by decide) ?_
  refine v_istore_n (ls' := [(2, _), (0, _), (1, _)]) C dX17_octadsWith_1 rfl (by decide) rfl ?_
  refine v_iconst (x := 0) C dX17_octadsWith_2 (by decide) ?_
  refine v_istore_n (ls' := [(3, _), (2, _), (0, _), (1, _)]) C dX17_octadsWith_3 rfl (by decide) rfl ?_
  obtain ⟨x5, h6, eh6, hf, hlh6⟩ := mb_inv hf hl
  refine v_sub (ls' := _) [2, 3, 1, 0] rfl (L4 a0 i1 FU (0 : Int32) (0 : Int32) _ _ _ eh6 hlh6 ?_)
  refine v_iload_n C 0 dX17_octadsWith_38 rfl rfl ?_
  exact v_iret C E hf dX17_octadsWith_39
def l_X17_wordOf_4 (i0 : Int32) : Nat → Int32 → Int32 → hM (Int32)
  | 0, _, _ => mfail
  | n + 1, i1, i2 => mi ((12 : Int32) ≤ i2) (mret i1) (mb (f_X17_has i0 i2) fun x1 => mb (mi (x1 = 0) (mret (0 : Int32)) (mb (f_X17_basic i2) fun x5 => mret x5)) fun x3 => l_X17_wordOf_4 i0 n (i1 ^^^ x3) (i2 + (1 : Int32)))
def f_X17_wordOf (i0 : Int32) : hM Int32 :=
  mb (l_X17_wordOf_4 i0 FU (0 : Int32) (0 : Int32)) fun x7 => mret x7
theorem nd_X17_wordOf : yX17_wordOf.cls ≠ "java/lang/invoke/MethodHandle" ∧ yX17_wordOf.cls ≠ "java/lang/invoke/VarHandle" ∧ (parseMethodDescriptor yX17_wordOf.desc).map (fun d => d.parameters.length) = some 1 := by decide +kernel
set_option maxHeartbeats 4000000 in
theorem ct_X17_wordOf (l : Launch) (i0 : Int32) : CT l yX17_wordOf cX17_wordOf 3 (some .int) 2 43 rvI [.int i0] (f_X17_wordOf i0) := by
  refine CT_of (ls := [(0, .int i0)]) (by decide) (Nat.le_of_ble_eq_true rfl) rfl ?_
  intro X h he z hX hf C E hnm hh
  have hl := hle.rf he
  subst hX
  have L4 : ∀ (i0 : Int32) (n : Nat) (i1 : Int32) (i2 : Int32) (h h1 : Hp) (o : Int32), (l_X17_wordOf_4 i0 n i1 i2).1 h = some (o, h1) → hle h1 he → V X h1 35 [(1, .int o)] [] → V X h 4 [(0, .int i0), (1, .int i1), (2, .int i2)] [] := by
    intro i0 n
    induction n with
    | zero => intro i1 i2 h h1 o hf; exact mfail_inv hf
    | succ n ih =>
      intro i1 i2 h h1 o hf hl J
      rw [l_X17_wordOf_4] at hf
      refine v_iload_n C 2 dX17_wordOf_4 rfl rfl ?_
      refine v_bipush (x := 12) C dX17_wordOf_5 (by decide) ?_
      refine v_icmp_ge C hf (tgt := 35) dX17_wordOf_7 (by decide) (fun c7 hf => ?_) (fun c7 hf => ?_)
      · obtain ⟨e1, rfl⟩ := mret_inv hf
        subst e1
        exact v_sub (ls' := _) [1] rfl J
      · refine v_iload_n C 1 dX17_wordOf_10 rfl rfl ?_
        refine v_iload_n C 0 dX17_wordOf_11 rfl rfl ?_
        refine v_iload_n C 2 dX17_wordOf_12 rfl rfl ?_
        refine v_callS (stk := fun b => .int b :: [.int i1]) C (ct_X17_has _ i0 i2) nd_X17_has rfl (Nat.le_of_ble_eq_true rfl) (Nat.le_of_ble_eq_true rfl) [.int i1] (Nat.le_of_ble_eq_true rfl) (fun _ => rfl) rfl q1783 q1784 q127 q1785 hf hl dX17_wordOf_13 (fun x1 h2 hf => ?_)
        obtain ⟨x3, h4, hAh4, hf, hlh4⟩ := mb_inv hf hl
        refine v_cut (h1 := h4) (pc1 := 27) (ls1 := [(0, .int i0), (2, .int i2)]) (st1 := [.int x3, .int i1]) ?_ (fun Jh4 => ?_)
        · clear hAh4 hlh4
          refine v_ixor C dX17_wordOf_27 ?_
          refine v_istore_n (ls' := [(1, _), (0, _), (2, _)]) C dX17_wordOf_28 rfl (by decide) rfl ?_
          refine v_iinc (ls' := [(2, _), (1, _), (0, _)]) (y := i2 + (1 : Int32)) C 2 dX17_wordOf_29 rfl rfl (by decide) rfl ?_
          refine v_goto (tgt := 4) C dX17_wordOf_32 (by decide) ?_
          refine v_sub (ls' := _) [2, 1, 0] rfl (ih (i1 ^^^ x3) (i2 + (1 : Int32)) _ _ _ hf hl J)
        · clear hf
          have hf := hAh4
          have hl := hlh4
          refine v_if_eq C hf (tgt := 26) dX17_wordOf_16 (by decide) (fun c16 hf => ?_) (fun c16 hf => ?_)
          · refine v_iconst (x := 0) C dX17_wordOf_26 (by decide) ?_
            obtain ⟨e1, rfl⟩ := mret_inv hf
            subst e1
            exact v_sub (ls' := _) [0, 2] rfl Jh4
          · refine v_iload_n C 2 dX17_wordOf_19 rfl rfl ?_
            refine v_callS (stk := fun b => .int b :: [.int i1]) C (ct_X17_basic _ i2) nd_X17_basic rfl (Nat.le_of_ble_eq_true rfl) (Nat.le_of_ble_eq_true rfl) [.int i1] (Nat.le_of_ble_eq_true rfl) (fun _ => rfl) rfl q1786 q1787 q127 q1788 hf hl dX17_wordOf_20 (fun x5 h6 hf => ?_)
            refine v_goto (tgt := 27) C dX17_wordOf_23 (by decide) ?_
            obtain ⟨e1, rfl⟩ := mret_inv hf
            subst e1
            exact v_sub (ls' := _) [0, 2] rfl Jh4
  unfold f_X17_wordOf at hf
  refine v_iconst (x := 0) C dX17_wordOf_0 (by decide) ?_
  refine v_istore_n (ls' := [(1, _), (0, _)]) C dX17_wordOf_1 rfl (by decide) rfl ?_
  refine v_iconst (x := 0) C dX17_wordOf_2 (by decide) ?_
  refine v_istore_n (ls' := [(2, _), (1, _), (0, _)]) C dX17_wordOf_3 rfl (by decide) rfl ?_
  obtain ⟨x7, h8, eh8, hf, hlh8⟩ := mb_inv hf hl
  refine v_sub (ls' := _) [2, 1, 0] rfl (L4 i0 FU (0 : Int32) (0 : Int32) _ _ _ eh8 hlh8 ?_)
  refine v_iload_n C 0 dX17_wordOf_35 rfl rfl ?_
  exact v_iret C E hf dX17_wordOf_36
def l_X17_dodecad_4 (a0 : Nat) : Nat → Int32 → Int32 → hM (Int32)
  | 0, _, _ => mfail
  | n + 1, i2, i3 => mi ((4095 : Int32) ≤ i3) (mret i3) (mi (0 < i2) (mb (gR a0 15 4) fun x1 => mb (aI 1 x1 i3) fun x2 => mb (f_X17_bits x2) fun x3 => mb (mi (¬ x3 = (12 : Int32)) (mret (0 : Int32)) (mret (1 : Int32))) fun x5 => l_X17_dodecad_4 a0 n (i2 - x5) (i3 + (1 : Int32))) (mb (gR a0 15 4) fun x7 => mb (aI 1 x7 i3) fun x8 => mb (f_X17_bits x8) fun x9 => mi (x9 = (12 : Int32)) (mret i3) (mb (gR a0 15 4) fun x11 => mb (aI 1 x11 i3) fun x12 => mb (f_X17_bits x12) fun x13 => mb (mi (¬ x13 = (12 : Int32)) (mret (0 : Int32)) (mret (1 : Int32))) fun x15 => l_X17_dodecad_4 a0 n (i2 - x15) (i3 + (1 : Int32)))))
def f_X17_dodecad (a0 : Nat) (i1 : Int32) : hM Int32 :=
  mb (l_X17_dodecad_4 a0 FU i1 (0 : Int32)) fun x17 => mb (gR a0 15 4) fun x19 => mb (aI 1 x19 x17) fun x20 => mret x20
theorem nd_X17_dodecad : yX17_dodecad.cls ≠ "java/lang/invoke/MethodHandle" ∧ yX17_dodecad.cls ≠ "java/lang/invoke/VarHandle" ∧ (parseMethodDescriptor yX17_dodecad.desc).map (fun d => d.parameters.length) = some 1 := by decide +kernel
set_option maxHeartbeats 4000000 in
theorem ct_X17_dodecad (l : Launch) (a0 : Nat) (i1 : Int32) : CT l yX17_dodecad cX17_dodecad 4 (some .int) 1 22 rvI [.ref a0, .int i1] (f_X17_dodecad a0 i1) := by
  refine CT_of (ls := [(0, .ref a0), (1, .int i1)]) (by decide) (Nat.le_of_ble_eq_true rfl) rfl ?_
  intro X h he z hX hf C E hnm hh
  have hl := hle.rf he
  subst hX
  have L4 : ∀ (a0 : Nat) (n : Nat) (i2 : Int32) (i3 : Int32) (h h1 : Hp) (o : Int32), (l_X17_dodecad_4 a0 n i2 i3).1 h = some (o, h1) → hle h1 he → V X h1 57 [(0, .ref a0), (3, .int o)] [] → V X h 4 [(0, .ref a0), (2, .int i2), (3, .int i3)] [] := by
    intro a0 n
    induction n with
    | zero => intro i2 i3 h h1 o hf; exact mfail_inv hf
    | succ n ih =>
      intro i2 i3 h h1 o hf hl J
      rw [l_X17_dodecad_4] at hf
      refine v_iload_n C 2 dX17_dodecad_4 rfl rfl ?_
      refine v_sipush (x := 4095) C dX17_dodecad_5 (by decide) ?_
      refine v_icmp_ge C hf (tgt := 57) dX17_dodecad_8 (by decide) (fun c8 hf => ?_) (fun c8 hf => ?_)
      · obtain ⟨e1, rfl⟩ := mret_inv hf
        subst e1
        exact v_sub (ls' := _) [0, 2] rfl J
      · refine v_iload_n C 1 dX17_dodecad_11 rfl rfl ?_
        refine v_if_gt C hf (tgt := 29) dX17_dodecad_12 (by decide) (fun c12 hf => ?_) (fun c12 hf => ?_)
        · refine v_iload_n C 1 dX17_dodecad_29 rfl rfl ?_
          refine v_aload_n C 0 dX17_dodecad_30 rfl rfl ?_
          refine v_gR (Cn := RX17) (T := TX17) (N := 37) C hf in_X17 rfl (by decide) q1808 rfl dX17_dodecad_31 (fun x1 hf => ?_)
          refine v_iload_n C 2 dX17_dodecad_34 rfl rfl ?_
          refine v_iaload C hf dX17_dodecad_35 (fun x2 hf => ?_)
          refine v_callS (stk := fun b => .int b :: [.int i2]) C (ct_X17_bits _ x2) nd_X17_bits rfl (Nat.le_of_ble_eq_true rfl) (Nat.le_of_ble_eq_true rfl) [.int i2] (Nat.le_of_ble_eq_true rfl) (fun _ => rfl) rfl q1801 q1802 q127 q1803 hf hl dX17_dodecad_36 (fun x3 h4 hf => ?_)
          refine v_bipush (x := 12) C dX17_dodecad_39 (by decide) ?_
          obtain ⟨x5, h6, hAh6, hf, hlh6⟩ := mb_inv hf hl
          refine v_cut (h1 := h6) (pc1 := 49) (ls1 := [(0, .ref a0), (3, .int i3)]) (st1 := [.int x5, .int i2]) ?_ (fun Jh6 => ?_)
          · clear hAh6 hlh6
            refine v_isub C dX17_dodecad_49 ?_
            refine v_istore_n (ls' := [(2, _), (0, _), (3, _)]) C dX17_dodecad_50 rfl (by decide) rfl ?_
            refine v_iinc (ls' := [(3, _), (2, _), (0, _)]) (y := i3 + (1 : Int32)) C 2 dX17_dodecad_51 rfl rfl (by decide) rfl ?_
            refine v_goto (tgt := 4) C dX17_dodecad_54 (by decide) ?_
            refine v_sub (ls' := _) [2, 1, 0] rfl (ih (i2 - x5) (i3 + (1 : Int32)) _ _ _ hf hl J)
          · clear hf
            have hf := hAh6
            have hl := hlh6
            refine v_icmp_ne C hf (tgt := 48) dX17_dodecad_41 (by decide) (fun c41 hf => ?_) (fun c41 hf => ?_)
            · refine v_iconst (x := 0) C dX17_dodecad_48 (by decide) ?_
              obtain ⟨e1, rfl⟩ := mret_inv hf
              subst e1
              exact v_sub (ls' := _) [0, 2] rfl Jh6
            · refine v_iconst (x := 1) C dX17_dodecad_44 (by decide) ?_
              refine v_goto (tgt := 49) C dX17_dodecad_45 (by decide) ?_
              obtain ⟨e1, rfl⟩ := mret_inv hf
              subst e1
              exact v_sub (ls' := _) [0, 2] rfl Jh6
        · refine v_aload_n C 0 dX17_dodecad_15 rfl rfl ?_
          refine v_gR (Cn := RX17) (T := TX17) (N := 37) C hf in_X17 rfl (by decide) q1808 rfl dX17_dodecad_16 (fun x7 hf => ?_)
          refine v_iload_n C 2 dX17_dodecad_19 rfl rfl ?_
          refine v_iaload C hf dX17_dodecad_20 (fun x8 hf => ?_)
          refine v_callS (stk := fun b => .int b :: []) C (ct_X17_bits _ x8) nd_X17_bits rfl (Nat.le_of_ble_eq_true rfl) (Nat.le_of_ble_eq_true rfl) [] (Nat.le_of_ble_eq_true rfl) (fun _ => rfl) rfl q1801 q1802 q127 q1803 hf hl dX17_dodecad_21 (fun x9 h10 hf => ?_)
          refine v_bipush (x := 12) C dX17_dodecad_24 (by decide) ?_
          refine v_icmp_eq C hf (tgt := 57) dX17_dodecad_26 (by decide) (fun c26 hf => ?_) (fun c26 hf => ?_)
          · obtain ⟨e1, rfl⟩ := mret_inv hf
            subst e1
            exact v_sub (ls' := _) [0, 2] rfl J
          · refine v_iload_n C 1 dX17_dodecad_29 rfl rfl ?_
            refine v_aload_n C 0 dX17_dodecad_30 rfl rfl ?_
            refine v_gR (Cn := RX17) (T := TX17) (N := 37) C hf in_X17 rfl (by decide) q1808 rfl dX17_dodecad_31 (fun x11 hf => ?_)
            refine v_iload_n C 2 dX17_dodecad_34 rfl rfl ?_
            refine v_iaload C hf dX17_dodecad_35 (fun x12 hf => ?_)
            refine v_callS (stk := fun b => .int b :: [.int i2]) C (ct_X17_bits _ x12) nd_X17_bits rfl (Nat.le_of_ble_eq_true rfl) (Nat.le_of_ble_eq_true rfl) [.int i2] (Nat.le_of_ble_eq_true rfl) (fun _ => rfl) rfl q1801 q1802 q127 q1803 hf hl dX17_dodecad_36 (fun x13 h14 hf => ?_)
            refine v_bipush (x := 12) C dX17_dodecad_39 (by decide) ?_
            obtain ⟨x15, h16, hAh16, hf, hlh16⟩ := mb_inv hf hl
            refine v_cut (h1 := h16) (pc1 := 49) (ls1 := [(0, .ref a0), (3, .int i3)]) (st1 := [.int x15, .int i2]) ?_ (fun Jh16 => ?_)
            · clear hAh16 hlh16
              refine v_isub C dX17_dodecad_49 ?_
              refine v_istore_n (ls' := [(2, _), (0, _), (3, _)]) C dX17_dodecad_50 rfl (by decide) rfl ?_
              refine v_iinc (ls' := [(3, _), (2, _), (0, _)]) (y := i3 + (1 : Int32)) C 2 dX17_dodecad_51 rfl rfl (by decide) rfl ?_
              refine v_goto (tgt := 4) C dX17_dodecad_54 (by decide) ?_
              refine v_sub (ls' := _) [2, 1, 0] rfl (ih (i2 - x15) (i3 + (1 : Int32)) _ _ _ hf hl J)
            · clear hf
              have hf := hAh16
              have hl := hlh16
              refine v_icmp_ne C hf (tgt := 48) dX17_dodecad_41 (by decide) (fun c41 hf => ?_) (fun c41 hf => ?_)
              · refine v_iconst (x := 0) C dX17_dodecad_48 (by decide) ?_
                obtain ⟨e1, rfl⟩ := mret_inv hf
                subst e1
                exact v_sub (ls' := _) [0, 2] rfl Jh16
              · refine v_iconst (x := 1) C dX17_dodecad_44 (by decide) ?_
                refine v_goto (tgt := 49) C dX17_dodecad_45 (by decide) ?_
                obtain ⟨e1, rfl⟩ := mret_inv hf
                subst e1
                exact v_sub (ls' := _) [0, 2] rfl Jh16
  unfold f_X17_dodecad at hf
  refine v_iload_n C 1 dX17_dodecad_0 rfl rfl ?_
  refine v_istore_n (ls' := [(2, _), (0, _), (1, _)]) C dX17_dodecad_1 rfl (by decide) rfl ?_
  refine v_iconst (x := 0) C dX17_dodecad_2 (by decide) ?_
  refine v_istore_n (ls' := [(3, _), (2, _), (0, _), (1, _)]) C dX17_dodecad_3 rfl (by decide) rfl ?_
  obtain ⟨x17, h18, eh18, hf, hlh18⟩ := mb_inv hf hl
  refine v_sub (ls' := _) [2, 1, 0] rfl (L4 a0 FU i1 (0 : Int32) _ _ _ eh18 hlh18 ?_)
  refine v_aload_n C 0 dX17_dodecad_57 rfl rfl ?_
  refine v_gR (Cn := RX17) (T := TX17) (N := 37) C hf in_X17 rfl (by decide) q1808 rfl dX17_dodecad_58 (fun x19 hf => ?_)
  refine v_iload_n C 1 dX17_dodecad_61 rfl rfl ?_
  refine v_iaload C hf dX17_dodecad_62 (fun x20 hf => ?_)
  exact v_iret C E hf dX17_dodecad_63
def l_X17_octadOf_2 (a0 : Nat) (i1 : Int32) : Nat → Int32 → hM (Int32)
  | 0, _ => mfail
  | n + 1, i2 => mi ((758 : Int32) ≤ i2) (mret i2) (mb (gR a0 15 5) fun x1 => mb (aI 1 x1 i2) fun x2 => mi ((i1 &&& (x2 ^^^ (-1 : Int32))) = 0) (mret i2) (l_X17_octadOf_2 a0 i1 n (i2 + (1 : Int32))))
def f_X17_octadOf (a0 : Nat) (i1 : Int32) : hM Int32 :=
  mb (l_X17_octadOf_2 a0 i1 FU (0 : Int32)) fun x3 => mb (gR a0 15 5) fun x5 => mb (aI 1 x5 x3) fun x6 => mret x6
theorem nd_X17_octadOf : yX17_octadOf.cls ≠ "java/lang/invoke/MethodHandle" ∧ yX17_octadOf.cls ≠ "java/lang/invoke/VarHandle" ∧ (parseMethodDescriptor yX17_octadOf.desc).map (fun d => d.parameters.length) = some 1 := by decide +kernel
set_option maxHeartbeats 4000000 in
theorem ct_X17_octadOf (l : Launch) (a0 : Nat) (i1 : Int32) : CT l yX17_octadOf cX17_octadOf 3 (some .int) 0 0 rvI [.ref a0, .int i1] (f_X17_octadOf a0 i1) := by
  refine CT_of (ls := [(0, .ref a0), (1, .int i1)]) (by decide) (Nat.le_of_ble_eq_true rfl) rfl ?_
  intro X h he z hX hf C E hnm hh
  have hl := hle.rf he
  subst hX
  have L2 : ∀ (a0 : Nat) (i1 : Int32) (n : Nat) (i2 : Int32) (h h1 : Hp) (o : Int32), (l_X17_octadOf_2 a0 i1 n i2).1 h = some (o, h1) → hle h1 he → V X h1 28 [(0, .ref a0), (2, .int o)] [] → V X h 2 [(0, .ref a0), (1, .int i1), (2, .int i2)] [] := by
    intro a0 i1 n
    induction n with
    | zero => intro i2 h h1 o hf; exact mfail_inv hf
    | succ n ih =>
      intro i2 h h1 o hf hl J
      rw [l_X17_octadOf_2] at hf
      refine v_iload_n C 2 dX17_octadOf_2 rfl rfl ?_
      refine v_sipush (x := 758) C dX17_octadOf_3 (by decide) ?_
      refine v_icmp_ge C hf (tgt := 28) dX17_octadOf_6 (by decide) (fun c6 hf => ?_) (fun c6 hf => ?_)
      · obtain ⟨e1, rfl⟩ := mret_inv hf
        subst e1
        exact v_sub (ls' := _) [0, 2] rfl J
      · refine v_iload_n C 1 dX17_octadOf_9 rfl rfl ?_
        refine v_aload_n C 0 dX17_octadOf_10 rfl rfl ?_
        refine v_gR (Cn := RX17) (T := TX17) (N := 37) C hf in_X17 rfl (by decide) q1809 rfl dX17_octadOf_11 (fun x1 hf => ?_)
        refine v_iload_n C 2 dX17_octadOf_14 rfl rfl ?_
        refine v_iaload C hf dX17_octadOf_15 (fun x2 hf => ?_)
        refine v_iconst (x := (-1)) C dX17_octadOf_16 (by decide) ?_
        refine v_ixor C dX17_octadOf_17 ?_
        refine v_iand C dX17_octadOf_18 ?_
        refine v_if_eq C hf (tgt := 28) dX17_octadOf_19 (by decide) (fun c19 hf => ?_) (fun c19 hf => ?_)
        · obtain ⟨e1, rfl⟩ := mret_inv hf
          subst e1
          exact v_sub (ls' := _) [0, 2] rfl J
        · refine v_iinc (ls' := [(2, _), (0, _), (1, _)]) (y := i2 + (1 : Int32)) C 2 dX17_octadOf_22 rfl rfl (by decide) rfl ?_
          refine v_goto (tgt := 2) C dX17_octadOf_25 (by decide) ?_
          refine v_sub (ls' := _) [1, 2, 0] rfl (ih (i2 + (1 : Int32)) _ _ _ hf hl J)
  unfold f_X17_octadOf at hf
  refine v_iconst (x := 0) C dX17_octadOf_0 (by decide) ?_
  refine v_istore_n (ls' := [(2, _), (0, _), (1, _)]) C dX17_octadOf_1 rfl (by decide) rfl ?_
  obtain ⟨x3, h4, eh4, hf, hlh4⟩ := mb_inv hf hl
  refine v_sub (ls' := _) [1, 2, 0] rfl (L2 a0 i1 FU (0 : Int32) _ _ _ eh4 hlh4 ?_)
  refine v_aload_n C 0 dX17_octadOf_28 rfl rfl ?_
  refine v_gR (Cn := RX17) (T := TX17) (N := 37) C hf in_X17 rfl (by decide) q1809 rfl dX17_octadOf_29 (fun x5 hf => ?_)
  refine v_iload_n C 1 dX17_octadOf_32 rfl rfl ?_
  refine v_iaload C hf dX17_octadOf_33 (fun x6 hf => ?_)
  exact v_iret C E hf dX17_octadOf_34
def f_X17_tetradAt (a0 : Nat) (i1 : Int32) (i2 : Int32) : hM Int32 :=
  mb (f_X17_has i1 i2) fun x1 => mb (mi (x1 = 0) (mb (mat a0 15 (f_X17_octadOf a0 (i1 ||| ((1 : Int32) <<< (i2 &&& 31))))) fun x5 => mret (x5 &&& (i1 ^^^ (-1 : Int32)))) (mret i1)) fun x3 => mret x3
theorem nd_X17_tetradAt : yX17_tetradAt.cls ≠ "java/lang/invoke/MethodHandle" ∧ yX17_tetradAt.cls ≠ "java/lang/invoke/VarHandle" ∧ (parseMethodDescriptor yX17_tetradAt.desc).map (fun d => d.parameters.length) = some 2 := by decide +kernel
set_option maxHeartbeats 4000000 in
theorem ct_X17_tetradAt (l : Launch) (a0 : Nat) (i1 : Int32) (i2 : Int32) : CT l yX17_tetradAt cX17_tetradAt 3 (some .int) 1 22 rvI [.ref a0, .int i1, .int i2] (f_X17_tetradAt a0 i1 i2) := by
  refine CT_of (ls := [(0, .ref a0), (1, .int i1), (2, .int i2)]) (by decide) (Nat.le_of_ble_eq_true rfl) rfl ?_
  intro X h he z hX hf C E hnm hh
  have hl := hle.rf he
  subst hX
  unfold f_X17_tetradAt at hf
  refine v_iload_n C 1 dX17_tetradAt_0 rfl rfl ?_
  refine v_iload_n C 2 dX17_tetradAt_1 rfl rfl ?_
  refine v_callS (stk := fun b => .int b :: []) C (ct_X17_has _ i1 i2) nd_X17_has rfl (Nat.le_of_ble_eq_true rfl) (Nat.le_of_ble_eq_true rfl) [] (Nat.le_of_ble_eq_true rfl) (fun _ => rfl) rfl q1783 q1784 q127 q1785 hf hl dX17_tetradAt_2 (fun x1 h2 hf => ?_)
  obtain ⟨x3, h4, hAh4, hf, hlh4⟩ := mb_inv hf hl
  refine v_cut (h1 := h4) (pc1 := 25) (ls1 := []) (st1 := [.int x3]) ?_ (fun Jh4 => ?_)
  · clear hAh4 hlh4
    exact v_iret C E hf dX17_tetradAt_25
  · clear hf
    have hf := hAh4
    have hl := hlh4
    refine v_if_eq C hf (tgt := 12) dX17_tetradAt_5 (by decide) (fun c5 hf => ?_) (fun c5 hf => ?_)
    · refine v_aload_n C 0 dX17_tetradAt_12 rfl rfl ?_
      refine v_iload_n C 1 dX17_tetradAt_13 rfl rfl ?_
      refine v_iconst (x := 1) C dX17_tetradAt_14 (by decide) ?_
      refine v_iload_n C 2 dX17_tetradAt_15 rfl rfl ?_
      refine v_ishl C dX17_tetradAt_16 ?_
      refine v_ior C dX17_tetradAt_17 ?_
      refine v_callV (stk := fun b => .int b :: []) C (ct_X17_octadOf _ a0 (i1 ||| ((1 : Int32) <<< (i2 &&& 31)))) rfl ⟨rfl, nd_X17_octadOf⟩ rfl (Nat.le_of_ble_eq_true rfl) (Nat.le_of_ble_eq_true rfl) [] (Nat.le_of_ble_eq_true rfl) (fun _ => rfl) rfl q1958 q1960 qs42 q127 q1961 hf hl dX17_tetradAt_18 (fun x5 h6 hf => ?_)
      refine v_iload_n C 1 dX17_tetradAt_21 rfl rfl ?_
      refine v_iconst (x := (-1)) C dX17_tetradAt_22 (by decide) ?_
      refine v_ixor C dX17_tetradAt_23 ?_
      refine v_iand C dX17_tetradAt_24 ?_
      obtain ⟨e1, rfl⟩ := mret_inv hf
      subst e1
      exact v_sub (ls' := _) [] rfl Jh4
    · refine v_iload_n C 1 dX17_tetradAt_8 rfl rfl ?_
      refine v_goto (tgt := 25) C dX17_tetradAt_9 (by decide) ?_
      obtain ⟨e1, rfl⟩ := mret_inv hf
      subst e1
      exact v_sub (ls' := _) [] rfl Jh4
def l_X17_isOfTwo_5 (a0 : Nat) (i1 : Int32) (i2 : Int32) : Nat → Int32 → Int32 → hM (Int32)
  | 0, _, _ => mfail
  | n + 1, i3, i4 => mi ((24 : Int32) ≤ i4) (mret i3) (mi (i3 = 0) (mret i3) (mb (f_X17_has i1 i4) fun x1 => mb (mi (x1 = 0) (mret (1 : Int32)) (mb (mat a0 15 (f_X17_tetradAt a0 i2 i4)) fun x5 => mi (¬ (x5 &&& (i1 ^^^ (-1 : Int32))) = 0) (mret (0 : Int32)) (mret (1 : Int32)))) fun x3 => l_X17_isOfTwo_5 a0 i1 i2 n x3 (i4 + (1 : Int32))))
def f_X17_isOfTwo (a0 : Nat) (i1 : Int32) (i2 : Int32) : hM Int32 :=
  mb (l_X17_isOfTwo_5 a0 i1 i2 FU (1 : Int32) (0 : Int32)) fun x7 => mrt .boolean x7
theorem nd_X17_isOfTwo : yX17_isOfTwo.cls ≠ "java/lang/invoke/MethodHandle" ∧ yX17_isOfTwo.cls ≠ "java/lang/invoke/VarHandle" ∧ (parseMethodDescriptor yX17_isOfTwo.desc).map (fun d => d.parameters.length) = some 2 := by decide +kernel
set_option maxHeartbeats 4000000 in
theorem ct_X17_isOfTwo (l : Launch) (a0 : Nat) (i1 : Int32) (i2 : Int32) : CT l yX17_isOfTwo cX17_isOfTwo 5 (some .boolean) 2 44 rvI [.ref a0, .int i1, .int i2] (f_X17_isOfTwo a0 i1 i2) := by
  refine CT_of (ls := [(0, .ref a0), (1, .int i1), (2, .int i2)]) (by decide) (Nat.le_of_ble_eq_true rfl) rfl ?_
  intro X h he z hX hf C E hnm hh
  have hl := hle.rf he
  subst hX
  have L5 : ∀ (a0 : Nat) (i1 : Int32) (i2 : Int32) (n : Nat) (i3 : Int32) (i4 : Int32) (h h1 : Hp) (o : Int32), (l_X17_isOfTwo_5 a0 i1 i2 n i3 i4).1 h = some (o, h1) → hle h1 he → V X h1 51 [(3, .int o)] [] → V X h 5 [(0, .ref a0), (1, .int i1), (2, .int i2), (3, .int i3), (4, .int i4)] [] := by
    intro a0 i1 i2 n
    induction n with
    | zero => intro i3 i4 h h1 o hf; exact mfail_inv hf
    | succ n ih =>
      intro i3 i4 h h1 o hf hl J
      rw [l_X17_isOfTwo_5] at hf
      refine v_iload C 4 dX17_isOfTwo_5 rfl ?_
      refine v_bipush (x := 24) C dX17_isOfTwo_7 (by decide) ?_
      refine v_icmp_ge C hf (tgt := 51) dX17_isOfTwo_9 (by decide) (fun c9 hf => ?_) (fun c9 hf => ?_)
      · obtain ⟨e1, rfl⟩ := mret_inv hf
        subst e1
        exact v_sub (ls' := _) [3] rfl J
      · refine v_iload_n C 3 dX17_isOfTwo_12 rfl rfl ?_
        refine v_if_eq C hf (tgt := 51) dX17_isOfTwo_13 (by decide) (fun c13 hf => ?_) (fun c13 hf => ?_)
        · obtain ⟨e1, rfl⟩ := mret_inv hf
          subst e1
          exact v_sub (ls' := _) [3] rfl J
        · refine v_iload_n C 1 dX17_isOfTwo_16 rfl rfl ?_
          refine v_iload C 4 dX17_isOfTwo_17 rfl ?_
          refine v_callS (stk := fun b => .int b :: []) C (ct_X17_has _ i1 i4) nd_X17_has rfl (Nat.le_of_ble_eq_true rfl) (Nat.le_of_ble_eq_true rfl) [] (Nat.le_of_ble_eq_true rfl) (fun _ => rfl) rfl q1783 q1784 q127 q1785 hf hl dX17_isOfTwo_19 (fun x1 h2 hf => ?_)
          obtain ⟨x3, h4, hAh4, hf, hlh4⟩ := mb_inv hf hl
          refine v_cut (h1 := h4) (pc1 := 44) (ls1 := [(0, .ref a0), (1, .int i1), (2, .int i2), (4, .int i4)]) (st1 := [.int x3]) ?_ (fun Jh4 => ?_)
          · clear hAh4 hlh4
            refine v_istore_n (ls' := [(3, _), (0, _), (1, _), (2, _), (4, _)]) C dX17_isOfTwo_44 rfl (by decide) rfl ?_
            refine v_iinc (ls' := [(4, _), (3, _), (0, _), (1, _), (2, _)]) (y := i4 + (1 : Int32)) C 4 dX17_isOfTwo_45 rfl rfl (by decide) rfl ?_
            refine v_goto (tgt := 5) C dX17_isOfTwo_48 (by decide) ?_
            refine v_sub (ls' := _) [2, 3, 4, 1, 0] rfl (ih x3 (i4 + (1 : Int32)) _ _ _ hf hl J)
          · clear hf
            have hf := hAh4
            have hl := hlh4
            refine v_if_eq C hf (tgt := 39) dX17_isOfTwo_22 (by decide) (fun c22 hf => ?_) (fun c22 hf => ?_)
            · refine v_iconst (x := 1) C dX17_isOfTwo_39 (by decide) ?_
              refine v_goto (tgt := 44) C dX17_isOfTwo_40 (by decide) ?_
              obtain ⟨e1, rfl⟩ := mret_inv hf
              subst e1
              exact v_sub (ls' := _) [0, 1, 2, 4] rfl Jh4
            · refine v_aload_n C 0 dX17_isOfTwo_25 rfl rfl ?_
              refine v_iload_n C 2 dX17_isOfTwo_26 rfl rfl ?_
              refine v_iload C 4 dX17_isOfTwo_27 rfl ?_
              refine v_callV (stk := fun b => .int b :: []) C (ct_X17_tetradAt _ a0 i2 i4) rfl ⟨rfl, nd_X17_tetradAt⟩ rfl (Nat.le_of_ble_eq_true rfl) (Nat.le_of_ble_eq_true rfl) [] (Nat.le_of_ble_eq_true rfl) (fun _ => rfl) rfl q1968 q1970 qs43 q127 q1971 hf hl dX17_isOfTwo_29 (fun x5 h6 hf => ?_)
              refine v_iload_n C 1 dX17_isOfTwo_32 rfl rfl ?_
              refine v_iconst (x := (-1)) C dX17_isOfTwo_33 (by decide) ?_
              refine v_ixor C dX17_isOfTwo_34 ?_
              refine v_iand C dX17_isOfTwo_35 ?_
              refine v_if_ne C hf (tgt := 43) dX17_isOfTwo_36 (by decide) (fun c36 hf => ?_) (fun c36 hf => ?_)
              · refine v_iconst (x := 0) C dX17_isOfTwo_43 (by decide) ?_
                obtain ⟨e1, rfl⟩ := mret_inv hf
                subst e1
                exact v_sub (ls' := _) [0, 1, 2, 4] rfl Jh4
              · refine v_iconst (x := 1) C dX17_isOfTwo_39 (by decide) ?_
                refine v_goto (tgt := 44) C dX17_isOfTwo_40 (by decide) ?_
                obtain ⟨e1, rfl⟩ := mret_inv hf
                subst e1
                exact v_sub (ls' := _) [0, 1, 2, 4] rfl Jh4
  unfold f_X17_isOfTwo at hf
  refine v_iconst (x := 1) C dX17_isOfTwo_0 (by decide) ?_
  refine v_istore_n (ls' := [(3, _), (0, _), (1, _), (2, _)]) C dX17_isOfTwo_1 rfl (by decide) rfl ?_
  refine v_iconst (x := 0) C dX17_isOfTwo_2 (by decide) ?_
  refine v_istore (ls' := [(4, _), (3, _), (0, _), (1, _), (2, _)]) C dX17_isOfTwo_3 (by decide) rfl ?_
  obtain ⟨x7, h8, eh8, hf, hlh8⟩ := mb_inv hf hl
  refine v_sub (ls' := _) [2, 3, 4, 1, 0] rfl (L5 a0 i1 i2 FU (1 : Int32) (0 : Int32) _ _ _ eh8 hlh8 ?_)
  refine v_iload_n C 0 dX17_isOfTwo_51 rfl rfl ?_
  exact v_zret C E hf dX17_isOfTwo_52
def l_X17_met_26 (a0 : Nat) (i1 : Int32) (i2 : Int32) : Nat → Int32 → Int32 → hM (Int32)
  | 0, _, _ => mfail
  | n + 1, i3, i4 => mi ((759 : Int32) ≤ i4) (mret i3) (mb (gR a0 15 5) fun x5 => mb (aI 1 x5 i4) fun x6 => mb (f_X17_bits (x6 &&& i1)) fun x7 => mb (mi (¬ x7 = i2) (mret (0 : Int32)) (mret (1 : Int32))) fun x9 => l_X17_met_26 a0 i1 i2 n (i3 + x9) (i4 + (1 : Int32)))
def f_X17_met (a0 : Nat) (i1 : Int32) (i2 : Int32) : hM Int32 :=
  mb (f_X17_isSet i1) fun x1 => mi (x1 = 0) (mret (-1 : Int32)) (mb (f_X17_in i2.toInt64 (0 : Int64) (8 : Int64)) fun x3 => mi (¬ x3 = 0) (mb (l_X17_met_26 a0 i1 i2 FU (0 : Int32) (0 : Int32)) fun x11 => mret x11) (mret (-1 : Int32)))
theorem nd_X17_met : yX17_met.cls ≠ "java/lang/invoke/MethodHandle" ∧ yX17_met.cls ≠ "java/lang/invoke/VarHandle" ∧ (parseMethodDescriptor yX17_met.desc).map (fun d => d.parameters.length) = some 2 := by decide +kernel
set_option maxHeartbeats 4000000 in
theorem ct_X17_met (l : Launch) (a0 : Nat) (i1 : Int32) (i2 : Int32) : CT l yX17_met cX17_met 5 (some .int) 2 45 rvI [.ref a0, .int i1, .int i2] (f_X17_met a0 i1 i2) := by
  refine CT_of (ls := [(0, .ref a0), (1, .int i1), (2, .int i2)]) (by decide) (Nat.le_of_ble_eq_true rfl) rfl ?_
  intro X h he z hX hf C E hnm hh
  have hl := hle.rf he
  subst hX
  have L26 : ∀ (a0 : Nat) (i1 : Int32) (i2 : Int32) (n : Nat) (i3 : Int32) (i4 : Int32) (h h1 : Hp) (o : Int32), (l_X17_met_26 a0 i1 i2 n i3 i4).1 h = some (o, h1) → hle h1 he → V X h1 64 [(3, .int o)] [] → V X h 26 [(0, .ref a0), (1, .int i1), (2, .int i2), (3, .int i3), (4, .int i4)] [] := by
    intro a0 i1 i2 n
    induction n with
    | zero => intro i3 i4 h h1 o hf; exact mfail_inv hf
    | succ n ih =>
      intro i3 i4 h h1 o hf hl J
      rw [l_X17_met_26] at hf
      refine v_iload C 4 dX17_met_26 rfl ?_
      refine v_sipush (x := 759) C dX17_met_28 (by decide) ?_
      refine v_icmp_ge C hf (tgt := 64) dX17_met_31 (by decide) (fun c31 hf => ?_) (fun c31 hf => ?_)
      · obtain ⟨e1, rfl⟩ := mret_inv hf
        subst e1
        exact v_sub (ls' := _) [3] rfl J
      · refine v_iload_n C 3 dX17_met_34 rfl rfl ?_
        refine v_aload_n C 0 dX17_met_35 rfl rfl ?_
        refine v_gR (Cn := RX17) (T := TX17) (N := 37) C hf in_X17 rfl (by decide) q1809 rfl dX17_met_36 (fun x5 hf => ?_)
        refine v_iload C 4 dX17_met_39 rfl ?_
        refine v_iaload C hf dX17_met_41 (fun x6 hf => ?_)
        refine v_iload_n C 1 dX17_met_42 rfl rfl ?_
        refine v_iand C dX17_met_43 ?_
        refine v_callS (stk := fun b => .int b :: [.int i3]) C (ct_X17_bits _ (x6 &&& i1)) nd_X17_bits rfl (Nat.le_of_ble_eq_true rfl) (Nat.le_of_ble_eq_true rfl) [.int i3] (Nat.le_of_ble_eq_true rfl) (fun _ => rfl) rfl q1801 q1802 q127 q1803 hf hl dX17_met_44 (fun x7 h8 hf => ?_)
        refine v_iload_n C 2 dX17_met_47 rfl rfl ?_
        obtain ⟨x9, h10, hAh10, hf, hlh10⟩ := mb_inv hf hl
        refine v_cut (h1 := h10) (pc1 := 56) (ls1 := [(0, .ref a0), (1, .int i1), (2, .int i2), (4, .int i4)]) (st1 := [.int x9, .int i3]) ?_ (fun Jh10 => ?_)
        · clear hAh10 hlh10
          refine v_iadd C dX17_met_56 ?_
          refine v_istore_n (ls' := [(3, _), (0, _), (1, _), (2, _), (4, _)]) C dX17_met_57 rfl (by decide) rfl ?_
          refine v_iinc (ls' := [(4, _), (3, _), (0, _), (1, _), (2, _)]) (y := i4 + (1 : Int32)) C 4 dX17_met_58 rfl rfl (by decide) rfl ?_
          refine v_goto (tgt := 26) C dX17_met_61 (by decide) ?_
          refine v_sub (ls' := _) [2, 3, 4, 1, 0] rfl (ih (i3 + x9) (i4 + (1 : Int32)) _ _ _ hf hl J)
        · clear hf
          have hf := hAh10
          have hl := hlh10
          refine v_icmp_ne C hf (tgt := 55) dX17_met_48 (by decide) (fun c48 hf => ?_) (fun c48 hf => ?_)
          · refine v_iconst (x := 0) C dX17_met_55 (by decide) ?_
            obtain ⟨e1, rfl⟩ := mret_inv hf
            subst e1
            exact v_sub (ls' := _) [0, 1, 2, 4] rfl Jh10
          · refine v_iconst (x := 1) C dX17_met_51 (by decide) ?_
            refine v_goto (tgt := 56) C dX17_met_52 (by decide) ?_
            obtain ⟨e1, rfl⟩ := mret_inv hf
            subst e1
            exact v_sub (ls' := _) [0, 1, 2, 4] rfl Jh10
  unfold f_X17_met at hf
  refine v_iload_n C 1 dX17_met_0 rfl rfl ?_
  refine v_callS (stk := fun b => .int b :: []) C (ct_X17_isSet _ i1) nd_X17_isSet rfl (Nat.le_of_ble_eq_true rfl) (Nat.le_of_ble_eq_true rfl) [] (Nat.le_of_ble_eq_true rfl) (fun _ => rfl) rfl q1920 q1921 q127 q1922 hf hl dX17_met_1 (fun x1 h2 hf => ?_)
  refine v_if_eq C hf (tgt := 19) dX17_met_4 (by decide) (fun c4 hf => ?_) (fun c4 hf => ?_)
  · refine v_iconst (x := (-1)) C dX17_met_19 (by decide) ?_
    exact v_iret C E hf dX17_met_20
  · refine v_iload_n C 2 dX17_met_7 rfl rfl ?_
    refine v_i2l C dX17_met_8 ?_
    refine v_lconst (x := 0) C dX17_met_9 (by decide) ?_
    refine v_ldc2 (x := 8) C q1984 dX17_met_10 ?_
    refine v_callS (stk := fun b => .int b :: []) C (ct_X17_in _ i2.toInt64 (0 : Int64) (8 : Int64)) nd_X17_in rfl (Nat.le_of_ble_eq_true rfl) (Nat.le_of_ble_eq_true rfl) [] (Nat.le_of_ble_eq_true rfl) (fun _ => rfl) rfl q1779 q1780 q127 q1781 hf hl dX17_met_13 (fun x3 h4 hf => ?_)
    refine v_if_ne C hf (tgt := 21) dX17_met_16 (by decide) (fun c16 hf => ?_) (fun c16 hf => ?_)
    · refine v_iconst (x := 0) C dX17_met_21 (by decide) ?_
      refine v_istore_n (ls' := [(3, _), (0, _), (1, _), (2, _)]) C dX17_met_22 rfl (by decide) rfl ?_
      refine v_iconst (x := 0) C dX17_met_23 (by decide) ?_
      refine v_istore (ls' := [(4, _), (3, _), (0, _), (1, _), (2, _)]) C dX17_met_24 (by decide) rfl ?_
      obtain ⟨x11, h12, eh12, hf, hlh12⟩ := mb_inv hf hl
      refine v_sub (ls' := _) [2, 3, 4, 1, 0] rfl (L26 a0 i1 i2 FU (0 : Int32) (0 : Int32) _ _ _ eh12 hlh12 ?_)
      refine v_iload_n C 0 dX17_met_64 rfl rfl ?_
      exact v_iret C E hf dX17_met_65
    · refine v_iconst (x := (-1)) C dX17_met_19 (by decide) ?_
      exact v_iret C E hf dX17_met_20
def f_X17_isMove (i0 : Int32) : hM Int32 :=
  mb (f_X17_in i0.toInt64 (0 : Int64) (4 : Int64)) fun x1 => mrt .boolean x1
theorem nd_X17_isMove : yX17_isMove.cls ≠ "java/lang/invoke/MethodHandle" ∧ yX17_isMove.cls ≠ "java/lang/invoke/VarHandle" ∧ (parseMethodDescriptor yX17_isMove.desc).map (fun d => d.parameters.length) = some 1 := by decide +kernel
set_option maxHeartbeats 4000000 in
theorem ct_X17_isMove (l : Launch) (i0 : Int32) : CT l yX17_isMove cX17_isMove 1 (some .boolean) 1 25 rvI [.int i0] (f_X17_isMove i0) := by
  refine CT_of (ls := [(0, .int i0)]) (by decide) (Nat.le_of_ble_eq_true rfl) rfl ?_
  intro X h he z hX hf C E hnm hh
  have hl := hle.rf he
  subst hX
  unfold f_X17_isMove at hf
  refine v_iload_n C 0 dX17_isMove_0 rfl rfl ?_
  refine v_i2l C dX17_isMove_1 ?_
  refine v_lconst (x := 0) C dX17_isMove_2 (by decide) ?_
  refine v_ldc2 (x := 4) C q1992 dX17_isMove_3 ?_
  refine v_callS (stk := fun b => .int b :: []) C (ct_X17_in _ i0.toInt64 (0 : Int64) (4 : Int64)) nd_X17_in rfl (Nat.le_of_ble_eq_true rfl) (Nat.le_of_ble_eq_true rfl) [] (Nat.le_of_ble_eq_true rfl) (fun _ => rfl) rfl q1779 q1780 q127 q1781 hf hl dX17_isMove_6 (fun x1 h2 hf => ?_)
  exact v_zret C E hf dX17_isMove_9
def f_X17_isPlace (l0 : Int64) : hM Int32 :=
  mb (f_X17_in l0 (0 : Int64) (23 : Int64)) fun x1 => mrt .boolean x1
theorem nd_X17_isPlace : yX17_isPlace.cls ≠ "java/lang/invoke/MethodHandle" ∧ yX17_isPlace.cls ≠ "java/lang/invoke/VarHandle" ∧ (parseMethodDescriptor yX17_isPlace.desc).map (fun d => d.parameters.length) = some 1 := by decide +kernel
set_option maxHeartbeats 4000000 in
theorem ct_X17_isPlace (l : Launch) (l0 : Int64) : CT l yX17_isPlace cX17_isPlace 2 (some .boolean) 1 25 rvI [.long l0] (f_X17_isPlace l0) := by
  refine CT_of (ls := [(0, .long l0)]) (by decide) (Nat.le_of_ble_eq_true rfl) rfl ?_
  intro X h he z hX hf C E hnm hh
  have hl := hle.rf he
  subst hX
  unfold f_X17_isPlace at hf
  refine v_lload_n C 0 dX17_isPlace_0 rfl rfl ?_
  refine v_lconst (x := 0) C dX17_isPlace_1 (by decide) ?_
  refine v_ldc2 (x := 23) C q1996 dX17_isPlace_2 ?_
  refine v_callS (stk := fun b => .int b :: []) C (ct_X17_in _ l0 (0 : Int64) (23 : Int64)) nd_X17_in rfl (Nat.le_of_ble_eq_true rfl) (Nat.le_of_ble_eq_true rfl) [] (Nat.le_of_ble_eq_true rfl) (fun _ => rfl) rfl q1779 q1780 q127 q1781 hf hl dX17_isPlace_5 (fun x1 h2 hf => ?_)
  exact v_zret C E hf dX17_isPlace_8
def f_X17_to (a0 : Nat) (i1 : Int32) (i2 : Int32) : hM Int32 :=
  mb (gR a0 15 0) fun x1 => mb (aI 1 x1 (((24 : Int32) * i1) + i2)) fun x2 => mret x2
theorem nd_X17_to : yX17_to.cls ≠ "java/lang/invoke/MethodHandle" ∧ yX17_to.cls ≠ "java/lang/invoke/VarHandle" ∧ (parseMethodDescriptor yX17_to.desc).map (fun d => d.parameters.length) = some 2 := by decide +kernel
set_option maxHeartbeats 4000000 in
theorem ct_X17_to (l : Launch) (a0 : Nat) (i1 : Int32) (i2 : Int32) : CT l yX17_to cX17_to 3 (some .int) 0 0 rvI [.ref a0, .int i1, .int i2] (f_X17_to a0 i1 i2) := by
  refine CT_of (ls := [(0, .ref a0), (1, .int i1), (2, .int i2)]) (by decide) (Nat.le_of_ble_eq_true rfl) rfl ?_
  intro X h he z hX hf C E hnm hh
  have hl := hle.rf he
  subst hX
  unfold f_X17_to at hf
  refine v_aload_n C 0 dX17_to_0 rfl rfl ?_
  refine v_gR (Cn := RX17) (T := TX17) (N := 37) C hf in_X17 rfl (by decide) q1804 rfl dX17_to_1 (fun x1 hf => ?_)
  refine v_bipush (x := 24) C dX17_to_4 (by decide) ?_
  refine v_iload_n C 1 dX17_to_6 rfl rfl ?_
  refine v_imul C dX17_to_7 ?_
  refine v_iload_n C 2 dX17_to_8 rfl rfl ?_
  refine v_iadd C dX17_to_9 ?_
  refine v_iaload C hf dX17_to_10 (fun x2 hf => ?_)
  exact v_iret C E hf dX17_to_11
def l_X17_goes_5 (a0 : Nat) (i1 : Int32) (i2 : Int32) : Nat → Int32 → Int32 → hM (Int32)
  | 0, _, _ => mfail
  | n + 1, i3, i4 => mi ((24 : Int32) ≤ i4) (mret i3) (mb (f_X17_has i2 i4) fun x1 => mb (mi (x1 = 0) (mret (0 : Int32)) (mb (mat a0 15 (f_X17_to a0 i1 i4)) fun x5 => mret ((1 : Int32) <<< (x5 &&& 31)))) fun x3 => l_X17_goes_5 a0 i1 i2 n (i3 ||| x3) (i4 + (1 : Int32)))
def f_X17_goes (a0 : Nat) (i1 : Int32) (i2 : Int32) : hM Int32 :=
  mb (l_X17_goes_5 a0 i1 i2 FU (0 : Int32) (0 : Int32)) fun x7 => mret x7
theorem nd_X17_goes : yX17_goes.cls ≠ "java/lang/invoke/MethodHandle" ∧ yX17_goes.cls ≠ "java/lang/invoke/VarHandle" ∧ (parseMethodDescriptor yX17_goes.desc).map (fun d => d.parameters.length) = some 2 := by decide +kernel
set_option maxHeartbeats 4000000 in
theorem ct_X17_goes (l : Launch) (a0 : Nat) (i1 : Int32) (i2 : Int32) : CT l yX17_goes cX17_goes 5 (some .int) 1 22 rvI [.ref a0, .int i1, .int i2] (f_X17_goes a0 i1 i2) := by
  refine CT_of (ls := [(0, .ref a0), (1, .int i1), (2, .int i2)]) (by decide) (Nat.le_of_ble_eq_true rfl) rfl ?_
  intro X h he z hX hf C E hnm hh
  have hl := hle.rf he
  subst hX
  have L5 : ∀ (a0 : Nat) (i1 : Int32) (i2 : Int32) (n : Nat) (i3 : Int32) (i4 : Int32) (h h1 : Hp) (o : Int32), (l_X17_goes_5 a0 i1 i2 n i3 i4).1 h = some (o, h1) → hle h1 he → V X h1 43 [(3, .int o)] [] → V X h 5 [(0, .ref a0), (1, .int i1), (2, .int i2), (3, .int i3), (4, .int i4)] [] := by
    intro a0 i1 i2 n
    induction n with
    | zero => intro i3 i4 h h1 o hf; exact mfail_inv hf
    | succ n ih =>
      intro i3 i4 h h1 o hf hl J
      rw [l_X17_goes_5] at hf
      refine v_iload C 4 dX17_goes_5 rfl ?_
      refine v_bipush (x := 24) C dX17_goes_7 (by decide) ?_
      refine v_icmp_ge C hf (tgt := 43) dX17_goes_9 (by decide) (fun c9 hf => ?_) (fun c9 hf => ?_)
      · obtain ⟨e1, rfl⟩ := mret_inv hf
        subst e1
        exact v_sub (ls' := _) [3] rfl J
      · refine v_iload_n C 3 dX17_goes_12 rfl rfl ?_
        refine v_iload_n C 2 dX17_goes_13 rfl rfl ?_
        refine v_iload C 4 dX17_goes_14 rfl ?_
        refine v_callS (stk := fun b => .int b :: [.int i3]) C (ct_X17_has _ i2 i4) nd_X17_has rfl (Nat.le_of_ble_eq_true rfl) (Nat.le_of_ble_eq_true rfl) [.int i3] (Nat.le_of_ble_eq_true rfl) (fun _ => rfl) rfl q1783 q1784 q127 q1785 hf hl dX17_goes_16 (fun x1 h2 hf => ?_)
        obtain ⟨x3, h4, hAh4, hf, hlh4⟩ := mb_inv hf hl
        refine v_cut (h1 := h4) (pc1 := 35) (ls1 := [(0, .ref a0), (1, .int i1), (2, .int i2), (4, .int i4)]) (st1 := [.int x3, .int i3]) ?_ (fun Jh4 => ?_)
        · clear hAh4 hlh4
          refine v_ior C dX17_goes_35 ?_
          refine v_istore_n (ls' := [(3, _), (0, _), (1, _), (2, _), (4, _)]) C dX17_goes_36 rfl (by decide) rfl ?_
          refine v_iinc (ls' := [(4, _), (3, _), (0, _), (1, _), (2, _)]) (y := i4 + (1 : Int32)) C 4 dX17_goes_37 rfl rfl (by decide) rfl ?_
          refine v_goto (tgt := 5) C dX17_goes_40 (by decide) ?_
          refine v_sub (ls' := _) [2, 3, 4, 1, 0] rfl (ih (i3 ||| x3) (i4 + (1 : Int32)) _ _ _ hf hl J)
        · clear hf
          have hf := hAh4
          have hl := hlh4
          refine v_if_eq C hf (tgt := 34) dX17_goes_19 (by decide) (fun c19 hf => ?_) (fun c19 hf => ?_)
          · refine v_iconst (x := 0) C dX17_goes_34 (by decide) ?_
            obtain ⟨e1, rfl⟩ := mret_inv hf
            subst e1
            exact v_sub (ls' := _) [0, 1, 2, 4] rfl Jh4
          · refine v_iconst (x := 1) C dX17_goes_22 (by decide) ?_
            refine v_aload_n C 0 dX17_goes_23 rfl rfl ?_
            refine v_iload_n C 1 dX17_goes_24 rfl rfl ?_
            refine v_iload C 4 dX17_goes_25 rfl ?_
            refine v_callV (stk := fun b => .int b :: [.int (1 : Int32), .int i3]) C (ct_X17_to _ a0 i1 i4) rfl ⟨rfl, nd_X17_to⟩ rfl (Nat.le_of_ble_eq_true rfl) (Nat.le_of_ble_eq_true rfl) [.int (1 : Int32), .int i3] (Nat.le_of_ble_eq_true rfl) (fun _ => rfl) rfl q1997 q1999 qs45 q127 q2000 hf hl dX17_goes_27 (fun x5 h6 hf => ?_)
            refine v_ishl C dX17_goes_30 ?_
            refine v_goto (tgt := 35) C dX17_goes_31 (by decide) ?_
            obtain ⟨e1, rfl⟩ := mret_inv hf
            subst e1
            exact v_sub (ls' := _) [0, 1, 2, 4] rfl Jh4
  unfold f_X17_goes at hf
  refine v_iconst (x := 0) C dX17_goes_0 (by decide) ?_
  refine v_istore_n (ls' := [(3, _), (0, _), (1, _), (2, _)]) C dX17_goes_1 rfl (by decide) rfl ?_
  refine v_iconst (x := 0) C dX17_goes_2 (by decide) ?_
  refine v_istore (ls' := [(4, _), (3, _), (0, _), (1, _), (2, _)]) C dX17_goes_3 (by decide) rfl ?_
  obtain ⟨x7, h8, eh8, hf, hlh8⟩ := mb_inv hf hl
  refine v_sub (ls' := _) [2, 3, 4, 1, 0] rfl (L5 a0 i1 i2 FU (0 : Int32) (0 : Int32) _ _ _ eh8 hlh8 ?_)
  refine v_iload_n C 0 dX17_goes_43 rfl rfl ?_
  exact v_iret C E hf dX17_goes_44
def l_X17_keeps_4 (a0 : Nat) (i1 : Int32) : Nat → Int32 → Int32 → hM (Int32)
  | 0, _, _ => mfail
  | n + 1, i2, i3 => mi ((12 : Int32) ≤ i3) (mret i2) (mi (i2 = 0) (mret i2) (mb (f_X17_basic i3) fun x1 => mb (mat a0 15 (f_X17_goes a0 i1 x1)) fun x3 => mb (mat a0 15 (f_X17_numberOf a0 x3)) fun x5 => mb (mi (x5 < 0) (mret (0 : Int32)) (mret (1 : Int32))) fun x7 => l_X17_keeps_4 a0 i1 n x7 (i3 + (1 : Int32))))
def f_X17_keeps (a0 : Nat) (i1 : Int32) : hM Int32 :=
  mb (l_X17_keeps_4 a0 i1 FU (1 : Int32) (0 : Int32)) fun x9 => mrt .boolean x9
theorem nd_X17_keeps : yX17_keeps.cls ≠ "java/lang/invoke/MethodHandle" ∧ yX17_keeps.cls ≠ "java/lang/invoke/VarHandle" ∧ (parseMethodDescriptor yX17_keeps.desc).map (fun d => d.parameters.length) = some 1 := by decide +kernel
set_option maxHeartbeats 4000000 in
theorem ct_X17_keeps (l : Launch) (a0 : Nat) (i1 : Int32) : CT l yX17_keeps cX17_keeps 4 (some .boolean) 3 66 rvI [.ref a0, .int i1] (f_X17_keeps a0 i1) := by
  refine CT_of (ls := [(0, .ref a0), (1, .int i1)]) (by decide) (Nat.le_of_ble_eq_true rfl) rfl ?_
  intro X h he z hX hf C E hnm hh
  have hl := hle.rf he
  subst hX
  have L4 : ∀ (a0 : Nat) (i1 : Int32) (n : Nat) (i2 : Int32) (i3 : Int32) (h h1 : Hp) (o : Int32), (l_X17_keeps_4 a0 i1 n i2 i3).1 h = some (o, h1) → hle h1 he → V X h1 42 [(2, .int o)] [] → V X h 4 [(0, .ref a0), (1, .int i1), (2, .int i2), (3, .int i3)] [] := by
    intro a0 i1 n
    induction n with
    | zero => intro i2 i3 h h1 o hf; exact mfail_inv hf
    | succ n ih =>
      intro i2 i3 h h1 o hf hl J
      rw [l_X17_keeps_4] at hf
      refine v_iload_n C 3 dX17_keeps_4 rfl rfl ?_
      refine v_bipush (x := 12) C dX17_keeps_5 (by decide) ?_
      refine v_icmp_ge C hf (tgt := 42) dX17_keeps_7 (by decide) (fun c7 hf => ?_) (fun c7 hf => ?_)
      · obtain ⟨e1, rfl⟩ := mret_inv hf
        subst e1
        exact v_sub (ls' := _) [2] rfl J
      · refine v_iload_n C 2 dX17_keeps_10 rfl rfl ?_
        refine v_if_eq C hf (tgt := 42) dX17_keeps_11 (by decide) (fun c11 hf => ?_) (fun c11 hf => ?_)
        · obtain ⟨e1, rfl⟩ := mret_inv hf
          subst e1
          exact v_sub (ls' := _) [2] rfl J
        · refine v_aload_n C 0 dX17_keeps_14 rfl rfl ?_
          refine v_aload_n C 0 dX17_keeps_15 rfl rfl ?_
          refine v_iload_n C 1 dX17_keeps_16 rfl rfl ?_
          refine v_iload_n C 3 dX17_keeps_17 rfl rfl ?_
          refine v_callS (stk := fun b => .int b :: [.int i1, .ref a0, .ref a0]) C (ct_X17_basic _ i3) nd_X17_basic rfl (Nat.le_of_ble_eq_true rfl) (Nat.le_of_ble_eq_true rfl) [.int i1, .ref a0, .ref a0] (Nat.le_of_ble_eq_true rfl) (fun _ => rfl) rfl q1786 q1787 q127 q1788 hf hl dX17_keeps_18 (fun x1 h2 hf => ?_)
          refine v_callV (stk := fun b => .int b :: [.ref a0]) C (ct_X17_goes _ a0 i1 x1) rfl ⟨rfl, nd_X17_goes⟩ rfl (Nat.le_of_ble_eq_true rfl) (Nat.le_of_ble_eq_true rfl) [.ref a0] (Nat.le_of_ble_eq_true rfl) (fun _ => rfl) rfl q2005 q2007 qs46 q127 q2008 hf hl dX17_keeps_21 (fun x3 h4 hf => ?_)
          refine v_callV (stk := fun b => .int b :: []) C (ct_X17_numberOf _ a0 x3) rfl ⟨rfl, nd_X17_numberOf⟩ rfl (Nat.le_of_ble_eq_true rfl) (Nat.le_of_ble_eq_true rfl) [] (Nat.le_of_ble_eq_true rfl) (fun _ => rfl) rfl q1924 q1926 qs37 q127 q1927 hf hl dX17_keeps_24 (fun x5 h6 hf => ?_)
          obtain ⟨x7, h8, hAh8, hf, hlh8⟩ := mb_inv hf hl
          refine v_cut (h1 := h8) (pc1 := 35) (ls1 := [(0, .ref a0), (1, .int i1), (3, .int i3)]) (st1 := [.int x7]) ?_ (fun Jh8 => ?_)
          · clear hAh8 hlh8
            refine v_istore_n (ls' := [(2, _), (0, _), (1, _), (3, _)]) C dX17_keeps_35 rfl (by decide) rfl ?_
            refine v_iinc (ls' := [(3, _), (2, _), (0, _), (1, _)]) (y := i3 + (1 : Int32)) C 3 dX17_keeps_36 rfl rfl (by decide) rfl ?_
            refine v_goto (tgt := 4) C dX17_keeps_39 (by decide) ?_
            refine v_sub (ls' := _) [2, 3, 1, 0] rfl (ih x7 (i3 + (1 : Int32)) _ _ _ hf hl J)
          · clear hf
            have hf := hAh8
            have hl := hlh8
            refine v_if_lt C hf (tgt := 34) dX17_keeps_27 (by decide) (fun c27 hf => ?_) (fun c27 hf => ?_)
            · refine v_iconst (x := 0) C dX17_keeps_34 (by decide) ?_
              obtain ⟨e1, rfl⟩ := mret_inv hf
              subst e1
              exact v_sub (ls' := _) [0, 1, 3] rfl Jh8
            · refine v_iconst (x := 1) C dX17_keeps_30 (by decide) ?_
              refine v_goto (tgt := 35) C dX17_keeps_31 (by decide) ?_
              obtain ⟨e1, rfl⟩ := mret_inv hf
              subst e1
              exact v_sub (ls' := _) [0, 1, 3] rfl Jh8
  unfold f_X17_keeps at hf
  refine v_iconst (x := 1) C dX17_keeps_0 (by decide) ?_
  refine v_istore_n (ls' := [(2, _), (0, _), (1, _)]) C dX17_keeps_1 rfl (by decide) rfl ?_
  refine v_iconst (x := 0) C dX17_keeps_2 (by decide) ?_
  refine v_istore_n (ls' := [(3, _), (2, _), (0, _), (1, _)]) C dX17_keeps_3 rfl (by decide) rfl ?_
  obtain ⟨x9, h10, eh10, hf, hlh10⟩ := mb_inv hf hl
  refine v_sub (ls' := _) [2, 3, 1, 0] rfl (L4 a0 i1 FU (1 : Int32) (0 : Int32) _ _ _ eh10 hlh10 ?_)
  refine v_iload_n C 0 dX17_keeps_42 rfl rfl ?_
  exact v_zret C E hf dX17_keeps_43
def l_X17_stays_4 (a0 : Nat) (i1 : Int32) : Nat → Int32 → Int32 → hM (Int32)
  | 0, _, _ => mfail
  | n + 1, i2, i3 => mi ((24 : Int32) ≤ i3) (mret i2) (mb (mat a0 15 (f_X17_to a0 i1 i3)) fun x1 => mb (mi (¬ x1 = i3) (mret (0 : Int32)) (mret (1 : Int32))) fun x3 => l_X17_stays_4 a0 i1 n (i2 + x3) (i3 + (1 : Int32)))
def f_X17_stays (a0 : Nat) (i1 : Int32) : hM Int32 :=
  mb (l_X17_stays_4 a0 i1 FU (0 : Int32) (0 : Int32)) fun x5 => mret x5
theorem nd_X17_stays : yX17_stays.cls ≠ "java/lang/invoke/MethodHandle" ∧ yX17_stays.cls ≠ "java/lang/invoke/VarHandle" ∧ (parseMethodDescriptor yX17_stays.desc).map (fun d => d.parameters.length) = some 1 := by decide +kernel
set_option maxHeartbeats 4000000 in
theorem ct_X17_stays (l : Launch) (a0 : Nat) (i1 : Int32) : CT l yX17_stays cX17_stays 4 (some .int) 1 22 rvI [.ref a0, .int i1] (f_X17_stays a0 i1) := by
  refine CT_of (ls := [(0, .ref a0), (1, .int i1)]) (by decide) (Nat.le_of_ble_eq_true rfl) rfl ?_
  intro X h he z hX hf C E hnm hh
  have hl := hle.rf he
  subst hX
  have L4 : ∀ (a0 : Nat) (i1 : Int32) (n : Nat) (i2 : Int32) (i3 : Int32) (h h1 : Hp) (o : Int32), (l_X17_stays_4 a0 i1 n i2 i3).1 h = some (o, h1) → hle h1 he → V X h1 34 [(2, .int o)] [] → V X h 4 [(0, .ref a0), (1, .int i1), (2, .int i2), (3, .int i3)] [] := by
    intro a0 i1 n
    induction n with
    | zero => intro i2 i3 h h1 o hf; exact mfail_inv hf
    | succ n ih =>
      intro i2 i3 h h1 o hf hl J
      rw [l_X17_stays_4] at hf
      refine v_iload_n C 3 dX17_stays_4 rfl rfl ?_
      refine v_bipush (x := 24) C dX17_stays_5 (by decide) ?_
      refine v_icmp_ge C hf (tgt := 34) dX17_stays_7 (by decide) (fun c7 hf => ?_) (fun c7 hf => ?_)
      · obtain ⟨e1, rfl⟩ := mret_inv hf
        subst e1
        exact v_sub (ls' := _) [2] rfl J
      · refine v_iload_n C 2 dX17_stays_10 rfl rfl ?_
        refine v_aload_n C 0 dX17_stays_11 rfl rfl ?_
        refine v_iload_n C 1 dX17_stays_12 rfl rfl ?_
        refine v_iload_n C 3 dX17_stays_13 rfl rfl ?_
        refine v_callV (stk := fun b => .int b :: [.int i2]) C (ct_X17_to _ a0 i1 i3) rfl ⟨rfl, nd_X17_to⟩ rfl (Nat.le_of_ble_eq_true rfl) (Nat.le_of_ble_eq_true rfl) [.int i2] (Nat.le_of_ble_eq_true rfl) (fun _ => rfl) rfl q1997 q1999 qs45 q127 q2000 hf hl dX17_stays_14 (fun x1 h2 hf => ?_)
        refine v_iload_n C 3 dX17_stays_17 rfl rfl ?_
        obtain ⟨x3, h4, hAh4, hf, hlh4⟩ := mb_inv hf hl
        refine v_cut (h1 := h4) (pc1 := 26) (ls1 := [(0, .ref a0), (1, .int i1), (3, .int i3)]) (st1 := [.int x3, .int i2]) ?_ (fun Jh4 => ?_)
        · clear hAh4 hlh4
          refine v_iadd C dX17_stays_26 ?_
          refine v_istore_n (ls' := [(2, _), (0, _), (1, _), (3, _)]) C dX17_stays_27 rfl (by decide) rfl ?_
          refine v_iinc (ls' := [(3, _), (2, _), (0, _), (1, _)]) (y := i3 + (1 : Int32)) C 3 dX17_stays_28 rfl rfl (by decide) rfl ?_
          refine v_goto (tgt := 4) C dX17_stays_31 (by decide) ?_
          refine v_sub (ls' := _) [2, 3, 1, 0] rfl (ih (i2 + x3) (i3 + (1 : Int32)) _ _ _ hf hl J)
        · clear hf
          have hf := hAh4
          have hl := hlh4
          refine v_icmp_ne C hf (tgt := 25) dX17_stays_18 (by decide) (fun c18 hf => ?_) (fun c18 hf => ?_)
          · refine v_iconst (x := 0) C dX17_stays_25 (by decide) ?_
            obtain ⟨e1, rfl⟩ := mret_inv hf
            subst e1
            exact v_sub (ls' := _) [0, 1, 3] rfl Jh4
          · refine v_iconst (x := 1) C dX17_stays_21 (by decide) ?_
            refine v_goto (tgt := 26) C dX17_stays_22 (by decide) ?_
            obtain ⟨e1, rfl⟩ := mret_inv hf
            subst e1
            exact v_sub (ls' := _) [0, 1, 3] rfl Jh4
  unfold f_X17_stays at hf
  refine v_iconst (x := 0) C dX17_stays_0 (by decide) ?_
  refine v_istore_n (ls' := [(2, _), (0, _), (1, _)]) C dX17_stays_1 rfl (by decide) rfl ?_
  refine v_iconst (x := 0) C dX17_stays_2 (by decide) ?_
  refine v_istore_n (ls' := [(3, _), (2, _), (0, _), (1, _)]) C dX17_stays_3 rfl (by decide) rfl ?_
  obtain ⟨x5, h6, eh6, hf, hlh6⟩ := mb_inv hf hl
  refine v_sub (ls' := _) [2, 3, 1, 0] rfl (L4 a0 i1 FU (0 : Int32) (0 : Int32) _ _ _ eh6 hlh6 ?_)
  refine v_iload_n C 0 dX17_stays_34 rfl rfl ?_
  exact v_iret C E hf dX17_stays_35
def l_X17_isLeast_8 (a0 : Nat) (i1 : Int32) (i2 : Int32) : Nat → Int32 → Int32 → Int32 → hM (Int32)
  | 0, _, _, _ => mfail
  | n + 1, i3, i4, i5 => mi ((24 : Int32) ≤ i5) (mret i3) (mi (i3 = 0) (mret i3) (mb (mat a0 15 (f_X17_to a0 i1 i4)) fun x1 => mb (mi (x1 < i2) (mret (0 : Int32)) (mret (1 : Int32))) fun x3 => l_X17_isLeast_8 a0 i1 i2 n x3 x1 (i5 + (1 : Int32))))
def f_X17_isLeast (a0 : Nat) (i1 : Int32) (i2 : Int32) : hM Int32 :=
  mb (l_X17_isLeast_8 a0 i1 i2 FU (1 : Int32) i2 (0 : Int32)) fun x5 => mrt .boolean x5
theorem nd_X17_isLeast : yX17_isLeast.cls ≠ "java/lang/invoke/MethodHandle" ∧ yX17_isLeast.cls ≠ "java/lang/invoke/VarHandle" ∧ (parseMethodDescriptor yX17_isLeast.desc).map (fun d => d.parameters.length) = some 2 := by decide +kernel
set_option maxHeartbeats 4000000 in
theorem ct_X17_isLeast (l : Launch) (a0 : Nat) (i1 : Int32) (i2 : Int32) : CT l yX17_isLeast cX17_isLeast 6 (some .boolean) 1 22 rvI [.ref a0, .int i1, .int i2] (f_X17_isLeast a0 i1 i2) := by
  refine CT_of (ls := [(0, .ref a0), (1, .int i1), (2, .int i2)]) (by decide) (Nat.le_of_ble_eq_true rfl) rfl ?_
  intro X h he z hX hf C E hnm hh
  have hl := hle.rf he
  subst hX
  have L8 : ∀ (a0 : Nat) (i1 : Int32) (i2 : Int32) (n : Nat) (i3 : Int32) (i4 : Int32) (i5 : Int32) (h h1 : Hp) (o : Int32), (l_X17_isLeast_8 a0 i1 i2 n i3 i4 i5).1 h = some (o, h1) → hle h1 he → V X h1 46 [(3, .int o)] [] → V X h 8 [(0, .ref a0), (1, .int i1), (2, .int i2), (3, .int i3), (4, .int i4), (5, .int i5)] [] := by
    intro a0 i1 i2 n
    induction n with
    | zero => intro i3 i4 i5 h h1 o hf; exact mfail_inv hf
    | succ n ih =>
      intro i3 i4 i5 h h1 o hf hl J
      rw [l_X17_isLeast_8] at hf
      refine v_iload C 5 dX17_isLeast_8 rfl ?_
      refine v_bipush (x := 24) C dX17_isLeast_10 (by decide) ?_
      refine v_icmp_ge C hf (tgt := 46) dX17_isLeast_12 (by decide) (fun c12 hf => ?_) (fun c12 hf => ?_)
      · obtain ⟨e1, rfl⟩ := mret_inv hf
        subst e1
        exact v_sub (ls' := _) [3] rfl J
      · refine v_iload_n C 3 dX17_isLeast_15 rfl rfl ?_
        refine v_if_eq C hf (tgt := 46) dX17_isLeast_16 (by decide) (fun c16 hf => ?_) (fun c16 hf => ?_)
        · obtain ⟨e1, rfl⟩ := mret_inv hf
          subst e1
          exact v_sub (ls' := _) [3] rfl J
        · refine v_aload_n C 0 dX17_isLeast_19 rfl rfl ?_
          refine v_iload_n C 1 dX17_isLeast_20 rfl rfl ?_
          refine v_iload C 4 dX17_isLeast_21 rfl ?_
          refine v_callV (stk := fun b => .int b :: []) C (ct_X17_to _ a0 i1 i4) rfl ⟨rfl, nd_X17_to⟩ rfl (Nat.le_of_ble_eq_true rfl) (Nat.le_of_ble_eq_true rfl) [] (Nat.le_of_ble_eq_true rfl) (fun _ => rfl) rfl q1997 q1999 qs45 q127 q2000 hf hl dX17_isLeast_23 (fun x1 h2 hf => ?_)
          refine v_istore (ls' := [(4, _), (0, _), (1, _), (2, _), (3, _), (5, _)]) C dX17_isLeast_26 (by decide) rfl ?_
          refine v_iload C 0 dX17_isLeast_28 rfl ?_
          refine v_iload_n C 3 dX17_isLeast_30 rfl rfl ?_
          obtain ⟨x3, h4, hAh4, hf, hlh4⟩ := mb_inv hf hl
          refine v_cut (h1 := h4) (pc1 := 39) (ls1 := [(0, .ref a0), (1, .int i1), (2, .int i2), (4, .int x1), (5, .int i5)]) (st1 := [.int x3]) ?_ (fun Jh4 => ?_)
          · clear hAh4 hlh4
            refine v_istore_n (ls' := [(3, _), (0, _), (1, _), (2, _), (4, _), (5, _)]) C dX17_isLeast_39 rfl (by decide) rfl ?_
            refine v_iinc (ls' := [(5, _), (3, _), (0, _), (1, _), (2, _), (4, _)]) (y := i5 + (1 : Int32)) C 5 dX17_isLeast_40 rfl rfl (by decide) rfl ?_
            refine v_goto (tgt := 8) C dX17_isLeast_43 (by decide) ?_
            refine v_sub (ls' := _) [2, 3, 4, 1, 5, 0] rfl (ih x3 x1 (i5 + (1 : Int32)) _ _ _ hf hl J)
          · clear hf
            have hf := hAh4
            have hl := hlh4
            refine v_icmp_lt C hf (tgt := 38) dX17_isLeast_31 (by decide) (fun c31 hf => ?_) (fun c31 hf => ?_)
            · refine v_iconst (x := 0) C dX17_isLeast_38 (by decide) ?_
              obtain ⟨e1, rfl⟩ := mret_inv hf
              subst e1
              exact v_sub (ls' := _) [1, 2, 3, 0, 5] rfl Jh4
            · refine v_iconst (x := 1) C dX17_isLeast_34 (by decide) ?_
              refine v_goto (tgt := 39) C dX17_isLeast_35 (by decide) ?_
              obtain ⟨e1, rfl⟩ := mret_inv hf
              subst e1
              exact v_sub (ls' := _) [1, 2, 3, 0, 5] rfl Jh4
  unfold f_X17_isLeast at hf
  refine v_iconst (x := 1) C dX17_isLeast_0 (by decide) ?_
  refine v_istore_n (ls' := [(3, _), (0, _), (1, _), (2, _)]) C dX17_isLeast_1 rfl (by decide) rfl ?_
  refine v_iload_n C 3 dX17_isLeast_2 rfl rfl ?_
  refine v_istore (ls' := [(4, _), (3, _), (0, _), (1, _), (2, _)]) C dX17_isLeast_3 (by decide) rfl ?_
  refine v_iconst (x := 0) C dX17_isLeast_5 (by decide) ?_
  refine v_istore (ls' := [(5, _), (4, _), (3, _), (0, _), (1, _), (2, _)]) C dX17_isLeast_6 (by decide) rfl ?_
  obtain ⟨x5, h6, eh6, hf, hlh6⟩ := mb_inv hf hl
  refine v_sub (ls' := _) [3, 4, 5, 2, 1, 0] rfl (L8 a0 i1 i2 FU (1 : Int32) i2 (0 : Int32) _ _ _ eh6 hlh6 ?_)
  refine v_iload_n C 0 dX17_isLeast_46 rfl rfl ?_
  exact v_zret C E hf dX17_isLeast_47
def l_X17_ring_10 (a0 : Nat) (i1 : Int32) (i2 : Int32) : Nat → Int32 → Int32 → hM (Int32)
  | 0, _, _ => mfail
  | n + 1, i3, i4 => mi (i4 = i2) (mret i3) (mi ((24 : Int32) ≤ i3) (mret i3) (mb (mat a0 15 (f_X17_to a0 i1 i4)) fun x3 => l_X17_ring_10 a0 i1 i2 n (i3 + (1 : Int32)) x3))
def f_X17_ring (a0 : Nat) (i1 : Int32) (i2 : Int32) : hM Int32 :=
  mb (mat a0 15 (f_X17_to a0 i1 i2)) fun x1 => mb (l_X17_ring_10 a0 i1 i2 FU (1 : Int32) x1) fun x5 => mret x5
theorem nd_X17_ring : yX17_ring.cls ≠ "java/lang/invoke/MethodHandle" ∧ yX17_ring.cls ≠ "java/lang/invoke/VarHandle" ∧ (parseMethodDescriptor yX17_ring.desc).map (fun d => d.parameters.length) = some 2 := by decide +kernel
set_option maxHeartbeats 4000000 in
theorem ct_X17_ring (l : Launch) (a0 : Nat) (i1 : Int32) (i2 : Int32) : CT l yX17_ring cX17_ring 5 (some .int) 1 22 rvI [.ref a0, .int i1, .int i2] (f_X17_ring a0 i1 i2) := by
  refine CT_of (ls := [(0, .ref a0), (1, .int i1), (2, .int i2)]) (by decide) (Nat.le_of_ble_eq_true rfl) rfl ?_
  intro X h he z hX hf C E hnm hh
  have hl := hle.rf he
  subst hX
  have L10 : ∀ (a0 : Nat) (i1 : Int32) (i2 : Int32) (n : Nat) (i3 : Int32) (i4 : Int32) (h h1 : Hp) (o : Int32), (l_X17_ring_10 a0 i1 i2 n i3 i4).1 h = some (o, h1) → hle h1 he → V X h1 37 [(3, .int o)] [] → V X h 10 [(0, .ref a0), (1, .int i1), (2, .int i2), (3, .int i3), (4, .int i4)] [] := by
    intro a0 i1 i2 n
    induction n with
    | zero => intro i3 i4 h h1 o hf; exact mfail_inv hf
    | succ n ih =>
      intro i3 i4 h h1 o hf hl J
      rw [l_X17_ring_10] at hf
      refine v_iload C 4 dX17_ring_10 rfl ?_
      refine v_iload_n C 2 dX17_ring_12 rfl rfl ?_
      refine v_icmp_eq C hf (tgt := 37) dX17_ring_13 (by decide) (fun c13 hf => ?_) (fun c13 hf => ?_)
      · obtain ⟨e1, rfl⟩ := mret_inv hf
        subst e1
        exact v_sub (ls' := _) [3] rfl J
      · refine v_iload_n C 3 dX17_ring_16 rfl rfl ?_
        refine v_bipush (x := 24) C dX17_ring_17 (by decide) ?_
        refine v_icmp_ge C hf (tgt := 37) dX17_ring_19 (by decide) (fun c19 hf => ?_) (fun c19 hf => ?_)
        · obtain ⟨e1, rfl⟩ := mret_inv hf
          subst e1
          exact v_sub (ls' := _) [3] rfl J
        · refine v_iinc (ls' := [(3, _), (0, _), (1, _), (2, _), (4, _)]) (y := i3 + (1 : Int32)) C 3 dX17_ring_22 rfl rfl (by decide) rfl ?_
          refine v_aload_n C 1 dX17_ring_25 rfl rfl ?_
          refine v_iload_n C 2 dX17_ring_26 rfl rfl ?_
          refine v_iload C 4 dX17_ring_27 rfl ?_
          refine v_callV (stk := fun b => .int b :: []) C (ct_X17_to _ a0 i1 i4) rfl ⟨rfl, nd_X17_to⟩ rfl (Nat.le_of_ble_eq_true rfl) (Nat.le_of_ble_eq_true rfl) [] (Nat.le_of_ble_eq_true rfl) (fun _ => rfl) rfl q1997 q1999 qs45 q127 q2000 hf hl dX17_ring_29 (fun x3 h4 hf => ?_)
          refine v_istore (ls' := [(4, _), (3, _), (0, _), (1, _), (2, _)]) C dX17_ring_32 (by decide) rfl ?_
          refine v_goto (tgt := 10) C dX17_ring_34 (by decide) ?_
          refine v_sub (ls' := _) [2, 3, 4, 1, 0] rfl (ih (i3 + (1 : Int32)) x3 _ _ _ hf hl J)
  unfold f_X17_ring at hf
  refine v_iconst (x := 1) C dX17_ring_0 (by decide) ?_
  refine v_istore_n (ls' := [(3, _), (0, _), (1, _), (2, _)]) C dX17_ring_1 rfl (by decide) rfl ?_
  refine v_aload_n C 1 dX17_ring_2 rfl rfl ?_
  refine v_iload_n C 2 dX17_ring_3 rfl rfl ?_
  refine v_iload_n C 3 dX17_ring_4 rfl rfl ?_
  refine v_callV (stk := fun b => .int b :: []) C (ct_X17_to _ a0 i1 i2) rfl ⟨rfl, nd_X17_to⟩ rfl (Nat.le_of_ble_eq_true rfl) (Nat.le_of_ble_eq_true rfl) [] (Nat.le_of_ble_eq_true rfl) (fun _ => rfl) rfl q1997 q1999 qs45 q127 q2000 hf hl dX17_ring_5 (fun x1 h2 hf => ?_)
  refine v_istore (ls' := [(4, _), (3, _), (0, _), (1, _), (2, _)]) C dX17_ring_8 (by decide) rfl ?_
  obtain ⟨x5, h6, eh6, hf, hlh6⟩ := mb_inv hf hl
  refine v_sub (ls' := _) [2, 3, 4, 1, 0] rfl (L10 a0 i1 i2 FU (1 : Int32) x1 _ _ _ eh6 hlh6 ?_)
  refine v_iload_n C 0 dX17_ring_37 rfl rfl ?_
  exact v_iret C E hf dX17_ring_38
def l_X17_octadsKept_4 (a0 : Nat) (i1 : Int32) : Nat → Int32 → Int32 → hM (Int32)
  | 0, _, _ => mfail
  | n + 1, i2, i3 => mi ((759 : Int32) ≤ i3) (mret i2) (mb (gR a0 15 5) fun x1 => mb (aI 1 x1 i3) fun x2 => mb (mat a0 15 (f_X17_goes a0 i1 x2)) fun x3 => mb (gR a0 15 5) fun x5 => mb (aI 1 x5 i3) fun x6 => mb (mi (¬ x3 = x6) (mret (0 : Int32)) (mret (1 : Int32))) fun x7 => l_X17_octadsKept_4 a0 i1 n (i2 + x7) (i3 + (1 : Int32)))
def f_X17_octadsKept (a0 : Nat) (i1 : Int32) : hM Int32 :=
  mb (l_X17_octadsKept_4 a0 i1 FU (0 : Int32) (0 : Int32)) fun x9 => mret x9
theorem nd_X17_octadsKept : yX17_octadsKept.cls ≠ "java/lang/invoke/MethodHandle" ∧ yX17_octadsKept.cls ≠ "java/lang/invoke/VarHandle" ∧ (parseMethodDescriptor yX17_octadsKept.desc).map (fun d => d.parameters.length) = some 1 := by decide +kernel
set_option maxHeartbeats 4000000 in
theorem ct_X17_octadsKept (l : Launch) (a0 : Nat) (i1 : Int32) : CT l yX17_octadsKept cX17_octadsKept 4 (some .int) 2 46 rvI [.ref a0, .int i1] (f_X17_octadsKept a0 i1) := by
  refine CT_of (ls := [(0, .ref a0), (1, .int i1)]) (by decide) (Nat.le_of_ble_eq_true rfl) rfl ?_
  intro X h he z hX hf C E hnm hh
  have hl := hle.rf he
  subst hX
  have L4 : ∀ (a0 : Nat) (i1 : Int32) (n : Nat) (i2 : Int32) (i3 : Int32) (h h1 : Hp) (o : Int32), (l_X17_octadsKept_4 a0 i1 n i2 i3).1 h = some (o, h1) → hle h1 he → V X h1 45 [(2, .int o)] [] → V X h 4 [(0, .ref a0), (1, .int i1), (2, .int i2), (3, .int i3)] [] := by
    intro a0 i1 n
    induction n with
    | zero => intro i2 i3 h h1 o hf; exact mfail_inv hf
    | succ n ih =>
      intro i2 i3 h h1 o hf hl J
      rw [l_X17_octadsKept_4] at hf
      refine v_iload_n C 3 dX17_octadsKept_4 rfl rfl ?_
      refine v_sipush (x := 759) C dX17_octadsKept_5 (by decide) ?_
      refine v_icmp_ge C hf (tgt := 45) dX17_octadsKept_8 (by decide) (fun c8 hf => ?_) (fun c8 hf => ?_)
      · obtain ⟨e1, rfl⟩ := mret_inv hf
        subst e1
        exact v_sub (ls' := _) [2] rfl J
      · refine v_iload_n C 2 dX17_octadsKept_11 rfl rfl ?_
        refine v_aload_n C 0 dX17_octadsKept_12 rfl rfl ?_
        refine v_iload_n C 1 dX17_octadsKept_13 rfl rfl ?_
        refine v_aload_n C 0 dX17_octadsKept_14 rfl rfl ?_
        refine v_gR (Cn := RX17) (T := TX17) (N := 37) C hf in_X17 rfl (by decide) q1809 rfl dX17_octadsKept_15 (fun x1 hf => ?_)
        refine v_iload_n C 3 dX17_octadsKept_18 rfl rfl ?_
        refine v_iaload C hf dX17_octadsKept_19 (fun x2 hf => ?_)
        refine v_callV (stk := fun b => .int b :: [.int i2]) C (ct_X17_goes _ a0 i1 x2) rfl ⟨rfl, nd_X17_goes⟩ rfl (Nat.le_of_ble_eq_true rfl) (Nat.le_of_ble_eq_true rfl) [.int i2] (Nat.le_of_ble_eq_true rfl) (fun _ => rfl) rfl q2005 q2007 qs46 q127 q2008 hf hl dX17_octadsKept_20 (fun x3 h4 hf => ?_)
        refine v_aload_n C 0 dX17_octadsKept_23 rfl rfl ?_
        refine v_gR (Cn := RX17) (T := TX17) (N := 37) C hf in_X17 rfl (by decide) q1809 rfl dX17_octadsKept_24 (fun x5 hf => ?_)
        refine v_iload_n C 3 dX17_octadsKept_27 rfl rfl ?_
        refine v_iaload C hf dX17_octadsKept_28 (fun x6 hf => ?_)
        obtain ⟨x7, h8, hAh8, hf, hlh8⟩ := mb_inv hf hl
        refine v_cut (h1 := h8) (pc1 := 37) (ls1 := [(0, .ref a0), (1, .int i1), (3, .int i3)]) (st1 := [.int x7, .int i2]) ?_ (fun Jh8 => ?_)
        · clear hAh8 hlh8
          refine v_iadd C dX17_octadsKept_37 ?_
          refine v_istore_n (ls' := [(2, _), (0, _), (1, _), (3, _)]) C dX17_octadsKept_38 rfl (by decide) rfl ?_
          refine v_iinc (ls' := [(3, _), (2, _), (0, _), (1, _)]) (y := i3 + (1 : Int32)) C 3 dX17_octadsKept_39 rfl rfl (by decide) rfl ?_
          refine v_goto (tgt := 4) C dX17_octadsKept_42 (by decide) ?_
          refine v_sub (ls' := _) [2, 3, 1, 0] rfl (ih (i2 + x7) (i3 + (1 : Int32)) _ _ _ hf hl J)
        · clear hf
          have hf := hAh8
          have hl := hlh8
          refine v_icmp_ne C hf (tgt := 36) dX17_octadsKept_29 (by decide) (fun c29 hf => ?_) (fun c29 hf => ?_)
          · refine v_iconst (x := 0) C dX17_octadsKept_36 (by decide) ?_
            obtain ⟨e1, rfl⟩ := mret_inv hf
            subst e1
            exact v_sub (ls' := _) [0, 1, 3] rfl Jh8
          · refine v_iconst (x := 1) C dX17_octadsKept_32 (by decide) ?_
            refine v_goto (tgt := 37) C dX17_octadsKept_33 (by decide) ?_
            obtain ⟨e1, rfl⟩ := mret_inv hf
            subst e1
            exact v_sub (ls' := _) [0, 1, 3] rfl Jh8
  unfold f_X17_octadsKept at hf
  refine v_iconst (x := 0) C dX17_octadsKept_0 (by decide) ?_
  refine v_istore_n (ls' := [(2, _), (0, _), (1, _)]) C dX17_octadsKept_1 rfl (by decide) rfl ?_
  refine v_iconst (x := 0) C dX17_octadsKept_2 (by decide) ?_
  refine v_istore_n (ls' := [(3, _), (2, _), (0, _), (1, _)]) C dX17_octadsKept_3 rfl (by decide) rfl ?_
  obtain ⟨x9, h10, eh10, hf, hlh10⟩ := mb_inv hf hl
  refine v_sub (ls' := _) [2, 3, 1, 0] rfl (L4 a0 i1 FU (0 : Int32) (0 : Int32) _ _ _ eh10 hlh10 ?_)
  refine v_iload_n C 0 dX17_octadsKept_45 rfl rfl ?_
  exact v_iret C E hf dX17_octadsKept_46
def f_X17_puts (a0 : Nat) (i1 : Int32) : hM Unit :=
  mb (gR a0 15 6) fun x1 => mb (gI a0 15 7) fun x2 => mb (sI 1 x1 x2 i1) fun _ => mb (gI a0 15 7) fun x4 => mb (pF a0 15 7 (.int (x4 + (1 : Int32)))) fun _ => mret ()
theorem nd_X17_puts : yX17_puts.cls ≠ "java/lang/invoke/MethodHandle" ∧ yX17_puts.cls ≠ "java/lang/invoke/VarHandle" ∧ (parseMethodDescriptor yX17_puts.desc).map (fun d => d.parameters.length) = some 1 := by decide +kernel
set_option maxHeartbeats 4000000 in
theorem ct_X17_puts (l : Launch) (a0 : Nat) (i1 : Int32) : CT l yX17_puts cX17_puts 2 none 0 0 rv0 [.ref a0, .int i1] (f_X17_puts a0 i1) := by
  refine CT_of (ls := [(0, .ref a0), (1, .int i1)]) (by decide) (Nat.le_of_ble_eq_true rfl) rfl ?_
  intro X h he z hX hf C E hnm hh
  have hl := hle.rf he
  subst hX
  unfold f_X17_puts at hf
  refine v_aload_n C 0 dX17_puts_0 rfl rfl ?_
  refine v_gR (Cn := RX17) (T := TX17) (N := 37) C hf in_X17 rfl (by decide) q1810 rfl dX17_puts_1 (fun x1 hf => ?_)
  refine v_aload_n C 0 dX17_puts_4 rfl rfl ?_
  refine v_gI (Cn := RX17) (T := TX17) (N := 37) C hf in_X17 rfl (by decide) q1811 rfl dX17_puts_5 (fun x2 hf => ?_)
  refine v_iload_n C 1 dX17_puts_8 rfl rfl ?_
  refine v_iastore C hf dX17_puts_9 (fun h3 hf => ?_)
  refine v_aload_n C 0 dX17_puts_10 rfl rfl ?_
  refine v_dup C dX17_puts_11 rfl ?_
  refine v_gI (Cn := RX17) (T := TX17) (N := 37) C hf in_X17 rfl (by decide) q1811 rfl dX17_puts_12 (fun x4 hf => ?_)
  refine v_iconst (x := 1) C dX17_puts_15 (by decide) ?_
  refine v_iadd C dX17_puts_16 ?_
  refine v_putv (Cn := RX17) (T := TX17) (N := 37) (ty0 := tyX17) C hf in_X17 tyX17_ok nmX17 rfl (by decide) q1811 rfl rfl rfl rfl dX17_puts_17 (fun h5 hf => ?_)
  exact v_vret C E hf dX17_puts_20
def f_X17_type (a0 : Nat) (i1 : Int32) : hM Int32 :=
  mb (f_X17_in i1.toInt64 (32 : Int64) (126 : Int64)) fun x1 => mi (¬ x1 = 0) (mb (gI a0 15 9) fun x3 => mi (¬ x3 = (100 : Int32)) (mb (gR a0 15 8) fun x4 => mb (gI a0 15 9) fun x5 => mb (sI 1 x4 x5 i1) fun _ => mb (gI a0 15 9) fun x7 => mb (pF a0 15 9 (.int (x7 + (1 : Int32)))) fun _ => mb (gI a0 15 9) fun x9 => mret x9) (mret (-3 : Int32))) (mret (-1 : Int32))
theorem nd_X17_type : yX17_type.cls ≠ "java/lang/invoke/MethodHandle" ∧ yX17_type.cls ≠ "java/lang/invoke/VarHandle" ∧ (parseMethodDescriptor yX17_type.desc).map (fun d => d.parameters.length) = some 1 := by decide +kernel
set_option maxHeartbeats 4000000 in
theorem ct_X17_type (l : Launch) (a0 : Nat) (i1 : Int32) : CT l yX17_type cX17_type 2 (some .int) 1 25 rvI [.ref a0, .int i1] (f_X17_type a0 i1) := by
  refine CT_of (ls := [(0, .ref a0), (1, .int i1)]) (by decide) (Nat.le_of_ble_eq_true rfl) rfl ?_
  intro X h he z hX hf C E hnm hh
  have hl := hle.rf he
  subst hX
  unfold f_X17_type at hf
  refine v_iload_n C 1 dX17_type_0 rfl rfl ?_
  refine v_i2l C dX17_type_1 ?_
  refine v_ldc2 (x := 32) C q2061 dX17_type_2 ?_
  refine v_ldc2 (x := 126) C q2062 dX17_type_5 ?_
  refine v_callS (stk := fun b => .int b :: []) C (ct_X17_in _ i1.toInt64 (32 : Int64) (126 : Int64)) nd_X17_in rfl (Nat.le_of_ble_eq_true rfl) (Nat.le_of_ble_eq_true rfl) [] (Nat.le_of_ble_eq_true rfl) (fun _ => rfl) rfl q1779 q1780 q127 q1781 hf hl dX17_type_8 (fun x1 h2 hf => ?_)
  refine v_if_ne C hf (tgt := 16) dX17_type_11 (by decide) (fun c11 hf => ?_) (fun c11 hf => ?_)
  · refine v_aload_n C 0 dX17_type_16 rfl rfl ?_
    refine v_gI (Cn := RX17) (T := TX17) (N := 37) C hf in_X17 rfl (by decide) q1813 rfl dX17_type_17 (fun x3 hf => ?_)
    refine v_bipush (x := 100) C dX17_type_20 (by decide) ?_
    refine v_icmp_ne C hf (tgt := 28) dX17_type_22 (by decide) (fun c22 hf => ?_) (fun c22 hf => ?_)
    · refine v_aload_n C 0 dX17_type_28 rfl rfl ?_
      refine v_gR (Cn := RX17) (T := TX17) (N := 37) C hf in_X17 rfl (by decide) q1812 rfl dX17_type_29 (fun x4 hf => ?_)
      refine v_aload_n C 0 dX17_type_32 rfl rfl ?_
      refine v_gI (Cn := RX17) (T := TX17) (N := 37) C hf in_X17 rfl (by decide) q1813 rfl dX17_type_33 (fun x5 hf => ?_)
      refine v_iload_n C 1 dX17_type_36 rfl rfl ?_
      refine v_iastore C hf dX17_type_37 (fun h6 hf => ?_)
      refine v_aload_n C 0 dX17_type_38 rfl rfl ?_
      refine v_dup C dX17_type_39 rfl ?_
      refine v_gI (Cn := RX17) (T := TX17) (N := 37) C hf in_X17 rfl (by decide) q1813 rfl dX17_type_40 (fun x7 hf => ?_)
      refine v_iconst (x := 1) C dX17_type_43 (by decide) ?_
      refine v_iadd C dX17_type_44 ?_
      refine v_putv (Cn := RX17) (T := TX17) (N := 37) (ty0 := tyX17) C hf in_X17 tyX17_ok nmX17 rfl (by decide) q1813 rfl rfl rfl rfl dX17_type_45 (fun h8 hf => ?_)
      refine v_aload_n C 0 dX17_type_48 rfl rfl ?_
      refine v_gI (Cn := RX17) (T := TX17) (N := 37) C hf in_X17 rfl (by decide) q1813 rfl dX17_type_49 (fun x9 hf => ?_)
      exact v_iret C E hf dX17_type_52
    · refine v_bipush (x := (-3)) C dX17_type_25 (by decide) ?_
      exact v_iret C E hf dX17_type_27
  · refine v_iconst (x := (-1)) C dX17_type_14 (by decide) ?_
    exact v_iret C E hf dX17_type_15
def l_X17_begins_2 (a0 : Nat) : Nat → Int32 → hM (Unit)
  | 0, _ => mfail
  | n + 1, i1 => mi ((24 : Int32) ≤ i1) (mret ()) (mb (gR a0 15 12) fun x1 => mb (gI a0 15 14) fun x2 => mb (sI 1 x1 (((24 : Int32) * x2) + i1) i1) fun _ => l_X17_begins_2 a0 n (i1 + (1 : Int32)))
def f_X17_begins (a0 : Nat) : hM Unit :=
  mb (l_X17_begins_2 a0 FU (0 : Int32)) fun x4 => mret ()
theorem nd_X17_begins : yX17_begins.cls ≠ "java/lang/invoke/MethodHandle" ∧ yX17_begins.cls ≠ "java/lang/invoke/VarHandle" ∧ (parseMethodDescriptor yX17_begins.desc).map (fun d => d.parameters.length) = some 0 := by decide +kernel
set_option maxHeartbeats 4000000 in
theorem ct_X17_begins (l : Launch) (a0 : Nat) : CT l yX17_begins cX17_begins 2 none 0 0 rv0 [.ref a0] (f_X17_begins a0) := by
  refine CT_of (ls := [(0, .ref a0)]) (by decide) (Nat.le_of_ble_eq_true rfl) rfl ?_
  intro X h he z hX hf C E hnm hh
  have hl := hle.rf he
  subst hX
  have L2 : ∀ (a0 : Nat) (n : Nat) (i1 : Int32) (h h1 : Hp) (o : Unit), (l_X17_begins_2 a0 n i1).1 h = some (o, h1) → hle h1 he → V X h1 29 [] [] → V X h 2 [(0, .ref a0), (1, .int i1)] [] := by
    intro a0 n
    induction n with
    | zero => intro i1 h h1 o hf; exact mfail_inv hf
    | succ n ih =>
      intro i1 h h1 o hf hl J
      rw [l_X17_begins_2] at hf
      refine v_iload_n C 1 dX17_begins_2 rfl rfl ?_
      refine v_bipush (x := 24) C dX17_begins_3 (by decide) ?_
      refine v_icmp_ge C hf (tgt := 29) dX17_begins_5 (by decide) (fun c5 hf => ?_) (fun c5 hf => ?_)
      · obtain ⟨e1, rfl⟩ := mret_inv hf
        subst e1
        exact v_sub (ls' := _) [] rfl J
      · refine v_aload_n C 0 dX17_begins_8 rfl rfl ?_
        refine v_gR (Cn := RX17) (T := TX17) (N := 37) C hf in_X17 rfl (by decide) q1816 rfl dX17_begins_9 (fun x1 hf => ?_)
        refine v_bipush (x := 24) C dX17_begins_12 (by decide) ?_
        refine v_aload_n C 0 dX17_begins_14 rfl rfl ?_
        refine v_gI (Cn := RX17) (T := TX17) (N := 37) C hf in_X17 rfl (by decide) q1818 rfl dX17_begins_15 (fun x2 hf => ?_)
        refine v_imul C dX17_begins_18 ?_
        refine v_iload_n C 1 dX17_begins_19 rfl rfl ?_
        refine v_iadd C dX17_begins_20 ?_
        refine v_iload_n C 1 dX17_begins_21 rfl rfl ?_
        refine v_iastore C hf dX17_begins_22 (fun h3 hf => ?_)
        refine v_iinc (ls' := [(1, _), (0, _)]) (y := i1 + (1 : Int32)) C 1 dX17_begins_23 rfl rfl (by decide) rfl ?_
        refine v_goto (tgt := 2) C dX17_begins_26 (by decide) ?_
        refine v_sub (ls' := _) [1, 0] rfl (ih (i1 + (1 : Int32)) _ _ _ hf hl J)
  unfold f_X17_begins at hf
  refine v_iconst (x := 0) C dX17_begins_0 (by decide) ?_
  refine v_istore_n (ls' := [(1, _), (0, _)]) C dX17_begins_1 rfl (by decide) rfl ?_
  obtain ⟨x4, h5, eh5, hf, hlh5⟩ := mb_inv hf hl
  refine v_sub (ls' := _) [1, 0] rfl (L2 a0 FU (0 : Int32) _ _ _ eh5 hlh5 ?_)
  exact v_vret C E hf dX17_begins_29
def l_X17_here_0 (a0 : Nat) : Nat → hM (Unit)
  | 0 => mfail
  | n + 1 => mb (gI a0 15 10) fun x1 => mb (gI a0 15 9) fun x2 => mi (x2 ≤ x1) (mret ()) (mb (gR a0 15 8) fun x3 => mb (gI a0 15 10) fun x4 => mb (aI 1 x3 x4) fun x5 => mi (¬ x5 = (32 : Int32)) (mret ()) (mb (gI a0 15 10) fun x6 => mb (pF a0 15 10 (.int (x6 + (1 : Int32)))) fun _ => l_X17_here_0 a0 n ))
def f_X17_here (a0 : Nat) : hM Int32 :=
  mb (l_X17_here_0 a0 FU ) fun x8 => mb (gI a0 15 10) fun x10 => mb (gI a0 15 9) fun x11 => mb (mi (x11 ≤ x10) (mret (0 : Int32)) (mb (gR a0 15 8) fun x14 => mb (gI a0 15 10) fun x15 => mb (aI 1 x14 x15) fun x16 => mret x16)) fun x12 => mret x12
theorem nd_X17_here : yX17_here.cls ≠ "java/lang/invoke/MethodHandle" ∧ yX17_here.cls ≠ "java/lang/invoke/VarHandle" ∧ (parseMethodDescriptor yX17_here.desc).map (fun d => d.parameters.length) = some 0 := by decide +kernel
set_option maxHeartbeats 4000000 in
theorem ct_X17_here (l : Launch) (a0 : Nat) : CT l yX17_here cX17_here 1 (some .int) 0 0 rvI [.ref a0] (f_X17_here a0) := by
  refine CT_of (ls := [(0, .ref a0)]) (by decide) (Nat.le_of_ble_eq_true rfl) rfl ?_
  intro X h he z hX hf C E hnm hh
  have hl := hle.rf he
  subst hX
  have L0 : ∀ (a0 : Nat) (n : Nat)  (h h1 : Hp) (o : Unit), (l_X17_here_0 a0 n ).1 h = some (o, h1) → hle h1 he → V X h1 38 [(0, .ref a0)] [] → V X h 0 [(0, .ref a0)] [] := by
    intro a0 n
    induction n with
    | zero => intro  h h1 o hf; exact mfail_inv hf
    | succ n ih =>
      intro  h h1 o hf hl J
      rw [l_X17_here_0] at hf
      refine v_aload_n C 0 dX17_here_0 rfl rfl ?_
      refine v_gI (Cn := RX17) (T := TX17) (N := 37) C hf in_X17 rfl (by decide) q1814 rfl dX17_here_1 (fun x1 hf => ?_)
      refine v_aload_n C 0 dX17_here_4 rfl rfl ?_
      refine v_gI (Cn := RX17) (T := TX17) (N := 37) C hf in_X17 rfl (by decide) q1813 rfl dX17_here_5 (fun x2 hf => ?_)
      refine v_icmp_ge C hf (tgt := 38) dX17_here_8 (by decide) (fun c8 hf => ?_) (fun c8 hf => ?_)
      · obtain ⟨e1, rfl⟩ := mret_inv hf
        subst e1
        exact v_sub (ls' := _) [0] rfl J
      · refine v_aload_n C 0 dX17_here_11 rfl rfl ?_
        refine v_gR (Cn := RX17) (T := TX17) (N := 37) C hf in_X17 rfl (by decide) q1812 rfl dX17_here_12 (fun x3 hf => ?_)
        refine v_aload_n C 0 dX17_here_15 rfl rfl ?_
        refine v_gI (Cn := RX17) (T := TX17) (N := 37) C hf in_X17 rfl (by decide) q1814 rfl dX17_here_16 (fun x4 hf => ?_)
        refine v_iaload C hf dX17_here_19 (fun x5 hf => ?_)
        refine v_bipush (x := 32) C dX17_here_20 (by decide) ?_
        refine v_icmp_ne C hf (tgt := 38) dX17_here_22 (by decide) (fun c22 hf => ?_) (fun c22 hf => ?_)
        · obtain ⟨e1, rfl⟩ := mret_inv hf
          subst e1
          exact v_sub (ls' := _) [0] rfl J
        · refine v_aload_n C 0 dX17_here_25 rfl rfl ?_
          refine v_dup C dX17_here_26 rfl ?_
          refine v_gI (Cn := RX17) (T := TX17) (N := 37) C hf in_X17 rfl (by decide) q1814 rfl dX17_here_27 (fun x6 hf => ?_)
          refine v_iconst (x := 1) C dX17_here_30 (by decide) ?_
          refine v_iadd C dX17_here_31 ?_
          refine v_putv (Cn := RX17) (T := TX17) (N := 37) (ty0 := tyX17) C hf in_X17 tyX17_ok nmX17 rfl (by decide) q1814 rfl rfl rfl rfl dX17_here_32 (fun h7 hf => ?_)
          refine v_goto (tgt := 0) C dX17_here_35 (by decide) ?_
          refine v_sub (ls' := _) [0] rfl (ih  _ _ _ hf hl J)
  unfold f_X17_here at hf
  obtain ⟨x8, h9, eh9, hf, hlh9⟩ := mb_inv hf hl
  refine v_sub (ls' := _) [0] rfl (L0 a0 FU  _ _ _ eh9 hlh9 ?_)
  refine v_aload_n C 0 dX17_here_38 rfl rfl ?_
  refine v_gI (Cn := RX17) (T := TX17) (N := 37) C hf in_X17 rfl (by decide) q1814 rfl dX17_here_39 (fun x10 hf => ?_)
  refine v_aload_n C 0 dX17_here_42 rfl rfl ?_
  refine v_gI (Cn := RX17) (T := TX17) (N := 37) C hf in_X17 rfl (by decide) q1813 rfl dX17_here_43 (fun x11 hf => ?_)
  obtain ⟨x12, h13, hAh13, hf, hlh13⟩ := mb_inv hf hl
  refine v_cut (h1 := h13) (pc1 := 62) (ls1 := []) (st1 := [.int x12]) ?_ (fun Jh13 => ?_)
  · clear hAh13 hlh13
    exact v_iret C E hf dX17_here_62
  · clear hf
    have hf := hAh13
    have hl := hlh13
    refine v_icmp_ge C hf (tgt := 61) dX17_here_46 (by decide) (fun c46 hf => ?_) (fun c46 hf => ?_)
    · refine v_iconst (x := 0) C dX17_here_61 (by decide) ?_
      obtain ⟨e1, rfl⟩ := mret_inv hf
      subst e1
      exact v_sub (ls' := _) [] rfl Jh13
    · refine v_aload_n C 0 dX17_here_49 rfl rfl ?_
      refine v_gR (Cn := RX17) (T := TX17) (N := 37) C hf in_X17 rfl (by decide) q1812 rfl dX17_here_50 (fun x14 hf => ?_)
      refine v_aload_n C 0 dX17_here_53 rfl rfl ?_
      refine v_gI (Cn := RX17) (T := TX17) (N := 37) C hf in_X17 rfl (by decide) q1814 rfl dX17_here_54 (fun x15 hf => ?_)
      refine v_iaload C hf dX17_here_57 (fun x16 hf => ?_)
      refine v_goto (tgt := 62) C dX17_here_58 (by decide) ?_
      obtain ⟨e1, rfl⟩ := mret_inv hf
      subst e1
      exact v_sub (ls' := _) [] rfl Jh13
def f_X17_isLow (i0 : Int32) : hM Int32 :=
  mb (f_X17_in i0.toInt64 (97 : Int64) (122 : Int64)) fun x1 => mrt .boolean x1
theorem nd_X17_isLow : yX17_isLow.cls ≠ "java/lang/invoke/MethodHandle" ∧ yX17_isLow.cls ≠ "java/lang/invoke/VarHandle" ∧ (parseMethodDescriptor yX17_isLow.desc).map (fun d => d.parameters.length) = some 1 := by decide +kernel
set_option maxHeartbeats 4000000 in
theorem ct_X17_isLow (l : Launch) (i0 : Int32) : CT l yX17_isLow cX17_isLow 1 (some .boolean) 1 25 rvI [.int i0] (f_X17_isLow i0) := by
  refine CT_of (ls := [(0, .int i0)]) (by decide) (Nat.le_of_ble_eq_true rfl) rfl ?_
  intro X h he z hX hf C E hnm hh
  have hl := hle.rf he
  subst hX
  unfold f_X17_isLow at hf
  refine v_iload_n C 0 dX17_isLow_0 rfl rfl ?_
  refine v_i2l C dX17_isLow_1 ?_
  refine v_ldc2 (x := 97) C q2087 dX17_isLow_2 ?_
  refine v_ldc2 (x := 122) C q2088 dX17_isLow_5 ?_
  refine v_callS (stk := fun b => .int b :: []) C (ct_X17_in _ i0.toInt64 (97 : Int64) (122 : Int64)) nd_X17_in rfl (Nat.le_of_ble_eq_true rfl) (Nat.le_of_ble_eq_true rfl) [] (Nat.le_of_ble_eq_true rfl) (fun _ => rfl) rfl q1779 q1780 q127 q1781 hf hl dX17_isLow_8 (fun x1 h2 hf => ?_)
  exact v_zret C E hf dX17_isLow_11
def f_X17_isFigure (i0 : Int32) : hM Int32 :=
  mb (f_X17_in i0.toInt64 (48 : Int64) (57 : Int64)) fun x1 => mrt .boolean x1
theorem nd_X17_isFigure : yX17_isFigure.cls ≠ "java/lang/invoke/MethodHandle" ∧ yX17_isFigure.cls ≠ "java/lang/invoke/VarHandle" ∧ (parseMethodDescriptor yX17_isFigure.desc).map (fun d => d.parameters.length) = some 1 := by decide +kernel
set_option maxHeartbeats 4000000 in
theorem ct_X17_isFigure (l : Launch) (i0 : Int32) : CT l yX17_isFigure cX17_isFigure 1 (some .boolean) 1 25 rvI [.int i0] (f_X17_isFigure i0) := by
  refine CT_of (ls := [(0, .int i0)]) (by decide) (Nat.le_of_ble_eq_true rfl) rfl ?_
  intro X h he z hX hf C E hnm hh
  have hl := hle.rf he
  subst hX
  unfold f_X17_isFigure at hf
  refine v_iload_n C 0 dX17_isFigure_0 rfl rfl ?_
  refine v_i2l C dX17_isFigure_1 ?_
  refine v_ldc2 (x := 48) C q2100 dX17_isFigure_2 ?_
  refine v_ldc2 (x := 57) C q2101 dX17_isFigure_5 ?_
  refine v_callS (stk := fun b => .int b :: []) C (ct_X17_in _ i0.toInt64 (48 : Int64) (57 : Int64)) nd_X17_in rfl (Nat.le_of_ble_eq_true rfl) (Nat.le_of_ble_eq_true rfl) [] (Nat.le_of_ble_eq_true rfl) (fun _ => rfl) rfl q1779 q1780 q127 q1781 hf hl dX17_isFigure_8 (fun x1 h2 hf => ?_)
  exact v_zret C E hf dX17_isFigure_11
def f_X17_isName (a0 : Nat) (i1 : Int32) (i2 : Int32) (i3 : Int32) (i4 : Int32) (i5 : Int32) (i6 : Int32) (i7 : Int32) : hM Int32 :=
  mb (gI a0 15 10) fun x1 => mb (mi (¬ i1 = i2) (mret (0 : Int32)) (mb (gR a0 15 8) fun x4 => mb (aI 1 x4 (x1 - i1)) fun x5 => mi (¬ x5 = i3) (mret (0 : Int32)) (mb (gR a0 15 8) fun x6 => mb (aI 1 x6 ((x1 - i1) + (1 : Int32))) fun x7 => mi (¬ x7 = i4) (mret (0 : Int32)) (mb (gR a0 15 8) fun x8 => mb (aI 1 x8 ((x1 - i1) + (2 : Int32))) fun x9 => mi (¬ x9 = i5) (mret (0 : Int32)) (mb (gR a0 15 8) fun x10 => mb (aI 1 x10 ((x1 - i1) + (3 : Int32))) fun x11 => mi (¬ x11 = i6) (mret (0 : Int32)) (mi (i2 < (5 : Int32)) (mret (1 : Int32)) (mb (gR a0 15 8) fun x12 => mb (aI 1 x12 ((x1 - i1) + (4 : Int32))) fun x13 => mi (¬ x13 = i7) (mret (0 : Int32)) (mret (1 : Int32))))))))) fun x2 => mrt .boolean x2
theorem nd_X17_isName : yX17_isName.cls ≠ "java/lang/invoke/MethodHandle" ∧ yX17_isName.cls ≠ "java/lang/invoke/VarHandle" ∧ (parseMethodDescriptor yX17_isName.desc).map (fun d => d.parameters.length) = some 7 := by decide +kernel
set_option maxHeartbeats 4000000 in
theorem ct_X17_isName (l : Launch) (a0 : Nat) (i1 : Int32) (i2 : Int32) (i3 : Int32) (i4 : Int32) (i5 : Int32) (i6 : Int32) (i7 : Int32) : CT l yX17_isName cX17_isName 9 (some .boolean) 0 0 rvI [.ref a0, .int i1, .int i2, .int i3, .int i4, .int i5, .int i6, .int i7] (f_X17_isName a0 i1 i2 i3 i4 i5 i6 i7) := by
  refine CT_of (ls := [(0, .ref a0), (1, .int i1), (2, .int i2), (3, .int i3), (4, .int i4), (5, .int i5), (6, .int i6), (7, .int i7)]) (by decide) (Nat.le_of_ble_eq_true rfl) rfl ?_
  intro X h he z hX hf C E hnm hh
  have hl := hle.rf he
  subst hX
  unfold f_X17_isName at hf
  refine v_aload_n C 0 dX17_isName_0 rfl rfl ?_
  refine v_gI (Cn := RX17) (T := TX17) (N := 37) C hf in_X17 rfl (by decide) q1814 rfl dX17_isName_1 (fun x1 hf => ?_)
  refine v_iload_n C 1 dX17_isName_4 rfl rfl ?_
  refine v_isub C dX17_isName_5 ?_
  refine v_istore (ls' := [(8, _), (0, _), (1, _), (2, _), (3, _), (4, _), (5, _), (6, _), (7, _)]) C dX17_isName_6 (by decide) rfl ?_
  refine v_iload_n C 2 dX17_isName_8 rfl rfl ?_
  refine v_iload_n C 3 dX17_isName_9 rfl rfl ?_
  obtain ⟨x2, h3, hAh3, hf, hlh3⟩ := mb_inv hf hl
  refine v_cut (h1 := h3) (pc1 := 90) (ls1 := []) (st1 := [.int x2]) ?_ (fun Jh3 => ?_)
  · clear hAh3 hlh3
    exact v_zret C E hf dX17_isName_90
  · clear hf
    have hf := hAh3
    have hl := hlh3
    refine v_icmp_ne C hf (tgt := 89) dX17_isName_10 (by decide) (fun c10 hf => ?_) (fun c10 hf => ?_)
    · refine v_iconst (x := 0) C dX17_isName_89 (by decide) ?_
      obtain ⟨e1, rfl⟩ := mret_inv hf
      subst e1
      exact v_sub (ls' := _) [] rfl Jh3
    · refine v_aload_n C 1 dX17_isName_13 rfl rfl ?_
      refine v_gR (Cn := RX17) (T := TX17) (N := 37) C hf in_X17 rfl (by decide) q1812 rfl dX17_isName_14 (fun x4 hf => ?_)
      refine v_iload C 0 dX17_isName_17 rfl ?_
      refine v_iaload C hf dX17_isName_19 (fun x5 hf => ?_)
      refine v_iload_n C 4 dX17_isName_20 rfl rfl ?_
      refine v_icmp_ne C hf (tgt := 89) dX17_isName_21 (by decide) (fun c21 hf => ?_) (fun c21 hf => ?_)
      · refine v_iconst (x := 0) C dX17_isName_89 (by decide) ?_
        obtain ⟨e1, rfl⟩ := mret_inv hf
        subst e1
        exact v_sub (ls' := _) [] rfl Jh3
      · refine v_aload_n C 1 dX17_isName_24 rfl rfl ?_
        refine v_gR (Cn := RX17) (T := TX17) (N := 37) C hf in_X17 rfl (by decide) q1812 rfl dX17_isName_25 (fun x6 hf => ?_)
        refine v_iload C 0 dX17_isName_28 rfl ?_
        refine v_iconst (x := 1) C dX17_isName_30 (by decide) ?_
        refine v_iadd C dX17_isName_31 ?_
        refine v_iaload C hf dX17_isName_32 (fun x7 hf => ?_)
        refine v_iload C 5 dX17_isName_33 rfl ?_
        refine v_icmp_ne C hf (tgt := 89) dX17_isName_35 (by decide) (fun c35 hf => ?_) (fun c35 hf => ?_)
        · refine v_iconst (x := 0) C dX17_isName_89 (by decide) ?_
          obtain ⟨e1, rfl⟩ := mret_inv hf
          subst e1
          exact v_sub (ls' := _) [] rfl Jh3
        · refine v_aload_n C 1 dX17_isName_38 rfl rfl ?_
          refine v_gR (Cn := RX17) (T := TX17) (N := 37) C hf in_X17 rfl (by decide) q1812 rfl dX17_isName_39 (fun x8 hf => ?_)
          refine v_iload C 0 dX17_isName_42 rfl ?_
          refine v_iconst (x := 2) C dX17_isName_44 (by decide) ?_
          refine v_iadd C dX17_isName_45 ?_
          refine v_iaload C hf dX17_isName_46 (fun x9 hf => ?_)
          refine v_iload C 6 dX17_isName_47 rfl ?_
          refine v_icmp_ne C hf (tgt := 89) dX17_isName_49 (by decide) (fun c49 hf => ?_) (fun c49 hf => ?_)
          · refine v_iconst (x := 0) C dX17_isName_89 (by decide) ?_
            obtain ⟨e1, rfl⟩ := mret_inv hf
            subst e1
            exact v_sub (ls' := _) [] rfl Jh3
          · refine v_aload_n C 1 dX17_isName_52 rfl rfl ?_
            refine v_gR (Cn := RX17) (T := TX17) (N := 37) C hf in_X17 rfl (by decide) q1812 rfl dX17_isName_53 (fun x10 hf => ?_)
            refine v_iload C 0 dX17_isName_56 rfl ?_
            refine v_iconst (x := 3) C dX17_isName_58 (by decide) ?_
            refine v_iadd C dX17_isName_59 ?_
            refine v_iaload C hf dX17_isName_60 (fun x11 hf => ?_)
            refine v_iload C 7 dX17_isName_61 rfl ?_
            refine v_icmp_ne C hf (tgt := 89) dX17_isName_63 (by decide) (fun c63 hf => ?_) (fun c63 hf => ?_)
            · refine v_iconst (x := 0) C dX17_isName_89 (by decide) ?_
              obtain ⟨e1, rfl⟩ := mret_inv hf
              subst e1
              exact v_sub (ls' := _) [] rfl Jh3
            · refine v_iload_n C 3 dX17_isName_66 rfl rfl ?_
              refine v_iconst (x := 5) C dX17_isName_67 (by decide) ?_
              refine v_icmp_lt C hf (tgt := 85) dX17_isName_68 (by decide) (fun c68 hf => ?_) (fun c68 hf => ?_)
              · refine v_iconst (x := 1) C dX17_isName_85 (by decide) ?_
                refine v_goto (tgt := 90) C dX17_isName_86 (by decide) ?_
                obtain ⟨e1, rfl⟩ := mret_inv hf
                subst e1
                exact v_sub (ls' := _) [] rfl Jh3
              · refine v_aload_n C 1 dX17_isName_71 rfl rfl ?_
                refine v_gR (Cn := RX17) (T := TX17) (N := 37) C hf in_X17 rfl (by decide) q1812 rfl dX17_isName_72 (fun x12 hf => ?_)
                refine v_iload C 0 dX17_isName_75 rfl ?_
                refine v_iconst (x := 4) C dX17_isName_77 (by decide) ?_
                refine v_iadd C dX17_isName_78 ?_
                refine v_iaload C hf dX17_isName_79 (fun x13 hf => ?_)
                refine v_iload C 8 dX17_isName_80 rfl ?_
                refine v_icmp_ne C hf (tgt := 89) dX17_isName_82 (by decide) (fun c82 hf => ?_) (fun c82 hf => ?_)
                · refine v_iconst (x := 0) C dX17_isName_89 (by decide) ?_
                  obtain ⟨e1, rfl⟩ := mret_inv hf
                  subst e1
                  exact v_sub (ls' := _) [] rfl Jh3
                · refine v_iconst (x := 1) C dX17_isName_85 (by decide) ?_
                  refine v_goto (tgt := 90) C dX17_isName_86 (by decide) ?_
                  obtain ⟨e1, rfl⟩ := mret_inv hf
                  subst e1
                  exact v_sub (ls' := _) [] rfl Jh3
def l_X17_turnsBack_2 (a0 : Nat) : Nat → Int32 → hM (Unit)
  | 0, _ => mfail
  | n + 1, i1 => mi ((24 : Int32) ≤ i1) (mret ()) (mb (gR a0 15 13) fun x1 => mb (gR a0 15 11) fun x2 => mb (aI 1 x2 i1) fun x3 => mb (sI 1 x1 x3 i1) fun _ => l_X17_turnsBack_2 a0 n (i1 + (1 : Int32)))
def l_X17_turnsBack_28 (a0 : Nat) : Nat → Int32 → hM (Unit)
  | 0, _ => mfail
  | n + 1, i1 => mi ((24 : Int32) ≤ i1) (mret ()) (mb (gR a0 15 11) fun x7 => mb (gR a0 15 13) fun x8 => mb (aI 1 x8 i1) fun x9 => mb (sI 1 x7 i1 x9) fun _ => l_X17_turnsBack_28 a0 n (i1 + (1 : Int32)))
def f_X17_turnsBack (a0 : Nat) : hM Unit :=
  mb (l_X17_turnsBack_2 a0 FU (0 : Int32)) fun x5 => mb (l_X17_turnsBack_28 a0 FU (0 : Int32)) fun x11 => mret ()
theorem nd_X17_turnsBack : yX17_turnsBack.cls ≠ "java/lang/invoke/MethodHandle" ∧ yX17_turnsBack.cls ≠ "java/lang/invoke/VarHandle" ∧ (parseMethodDescriptor yX17_turnsBack.desc).map (fun d => d.parameters.length) = some 0 := by decide +kernel
set_option maxHeartbeats 4000000 in
theorem ct_X17_turnsBack (l : Launch) (a0 : Nat) : CT l yX17_turnsBack cX17_turnsBack 2 none 0 0 rv0 [.ref a0] (f_X17_turnsBack a0) := by
  refine CT_of (ls := [(0, .ref a0)]) (by decide) (Nat.le_of_ble_eq_true rfl) rfl ?_
  intro X h he z hX hf C E hnm hh
  have hl := hle.rf he
  subst hX
  have L2 : ∀ (a0 : Nat) (n : Nat) (i1 : Int32) (h h1 : Hp) (o : Unit), (l_X17_turnsBack_2 a0 n i1).1 h = some (o, h1) → hle h1 he → V X h1 26 [(0, .ref a0)] [] → V X h 2 [(0, .ref a0), (1, .int i1)] [] := by
    intro a0 n
    induction n with
    | zero => intro i1 h h1 o hf; exact mfail_inv hf
    | succ n ih =>
      intro i1 h h1 o hf hl J
      rw [l_X17_turnsBack_2] at hf
      refine v_iload_n C 1 dX17_turnsBack_2 rfl rfl ?_
      refine v_bipush (x := 24) C dX17_turnsBack_3 (by decide) ?_
      refine v_icmp_ge C hf (tgt := 26) dX17_turnsBack_5 (by decide) (fun c5 hf => ?_) (fun c5 hf => ?_)
      · obtain ⟨e1, rfl⟩ := mret_inv hf
        subst e1
        exact v_sub (ls' := _) [0] rfl J
      · refine v_aload_n C 0 dX17_turnsBack_8 rfl rfl ?_
        refine v_gR (Cn := RX17) (T := TX17) (N := 37) C hf in_X17 rfl (by decide) q1817 rfl dX17_turnsBack_9 (fun x1 hf => ?_)
        refine v_aload_n C 0 dX17_turnsBack_12 rfl rfl ?_
        refine v_gR (Cn := RX17) (T := TX17) (N := 37) C hf in_X17 rfl (by decide) q1815 rfl dX17_turnsBack_13 (fun x2 hf => ?_)
        refine v_iload_n C 1 dX17_turnsBack_16 rfl rfl ?_
        refine v_iaload C hf dX17_turnsBack_17 (fun x3 hf => ?_)
        refine v_iload_n C 1 dX17_turnsBack_18 rfl rfl ?_
        refine v_iastore C hf dX17_turnsBack_19 (fun h4 hf => ?_)
        refine v_iinc (ls' := [(1, _), (0, _)]) (y := i1 + (1 : Int32)) C 1 dX17_turnsBack_20 rfl rfl (by decide) rfl ?_
        refine v_goto (tgt := 2) C dX17_turnsBack_23 (by decide) ?_
        refine v_sub (ls' := _) [1, 0] rfl (ih (i1 + (1 : Int32)) _ _ _ hf hl J)
  have L28 : ∀ (a0 : Nat) (n : Nat) (i1 : Int32) (h h1 : Hp) (o : Unit), (l_X17_turnsBack_28 a0 n i1).1 h = some (o, h1) → hle h1 he → V X h1 52 [] [] → V X h 28 [(0, .ref a0), (1, .int i1)] [] := by
    intro a0 n
    induction n with
    | zero => intro i1 h h1 o hf; exact mfail_inv hf
    | succ n ih =>
      intro i1 h h1 o hf hl J
      rw [l_X17_turnsBack_28] at hf
      refine v_iload_n C 1 dX17_turnsBack_28 rfl rfl ?_
      refine v_bipush (x := 24) C dX17_turnsBack_29 (by decide) ?_
      refine v_icmp_ge C hf (tgt := 52) dX17_turnsBack_31 (by decide) (fun c31 hf => ?_) (fun c31 hf => ?_)
      · obtain ⟨e1, rfl⟩ := mret_inv hf
        subst e1
        exact v_sub (ls' := _) [] rfl J
      · refine v_aload_n C 0 dX17_turnsBack_34 rfl rfl ?_
        refine v_gR (Cn := RX17) (T := TX17) (N := 37) C hf in_X17 rfl (by decide) q1815 rfl dX17_turnsBack_35 (fun x7 hf => ?_)
        refine v_iload_n C 1 dX17_turnsBack_38 rfl rfl ?_
        refine v_aload_n C 0 dX17_turnsBack_39 rfl rfl ?_
        refine v_gR (Cn := RX17) (T := TX17) (N := 37) C hf in_X17 rfl (by decide) q1817 rfl dX17_turnsBack_40 (fun x8 hf => ?_)
        refine v_iload_n C 1 dX17_turnsBack_43 rfl rfl ?_
        refine v_iaload C hf dX17_turnsBack_44 (fun x9 hf => ?_)
        refine v_iastore C hf dX17_turnsBack_45 (fun h10 hf => ?_)
        refine v_iinc (ls' := [(1, _), (0, _)]) (y := i1 + (1 : Int32)) C 1 dX17_turnsBack_46 rfl rfl (by decide) rfl ?_
        refine v_goto (tgt := 28) C dX17_turnsBack_49 (by decide) ?_
        refine v_sub (ls' := _) [1, 0] rfl (ih (i1 + (1 : Int32)) _ _ _ hf hl J)
  unfold f_X17_turnsBack at hf
  refine v_iconst (x := 0) C dX17_turnsBack_0 (by decide) ?_
  refine v_istore_n (ls' := [(1, _), (0, _)]) C dX17_turnsBack_1 rfl (by decide) rfl ?_
  obtain ⟨x5, h6, eh6, hf, hlh6⟩ := mb_inv hf hl
  refine v_sub (ls' := _) [1, 0] rfl (L2 a0 FU (0 : Int32) _ _ _ eh6 hlh6 ?_)
  refine v_iconst (x := 0) C dX17_turnsBack_26 (by decide) ?_
  refine v_istore_n (ls' := [(1, _), (0, _)]) C dX17_turnsBack_27 rfl (by decide) rfl ?_
  obtain ⟨x11, h12, eh12, hf, hlh12⟩ := mb_inv hf hl
  refine v_sub (ls' := _) [1, 0] rfl (L28 a0 FU (0 : Int32) _ _ _ eh12 hlh12 ?_)
  exact v_vret C E hf dX17_turnsBack_52
def l_X17_closes_2 (a0 : Nat) : Nat → Int32 → hM (Unit)
  | 0, _ => mfail
  | n + 1, i1 => mi ((24 : Int32) ≤ i1) (mret ()) (mb (gR a0 15 11) fun x1 => mb (gR a0 15 12) fun x2 => mb (gI a0 15 14) fun x3 => mb (aI 1 x2 (((24 : Int32) * x3) + i1)) fun x4 => mb (sI 1 x1 i1 x4) fun _ => l_X17_closes_2 a0 n (i1 + (1 : Int32)))
def f_X17_closes (a0 : Nat) : hM Unit :=
  mb (l_X17_closes_2 a0 FU (0 : Int32)) fun x6 => mb (gI a0 15 14) fun x8 => mb (pF a0 15 14 (.int (x8 - (1 : Int32)))) fun _ => mret ()
theorem nd_X17_closes : yX17_closes.cls ≠ "java/lang/invoke/MethodHandle" ∧ yX17_closes.cls ≠ "java/lang/invoke/VarHandle" ∧ (parseMethodDescriptor yX17_closes.desc).map (fun d => d.parameters.length) = some 0 := by decide +kernel
set_option maxHeartbeats 4000000 in
theorem ct_X17_closes (l : Launch) (a0 : Nat) : CT l yX17_closes cX17_closes 2 none 0 0 rv0 [.ref a0] (f_X17_closes a0) := by
  refine CT_of (ls := [(0, .ref a0)]) (by decide) (Nat.le_of_ble_eq_true rfl) rfl ?_
  intro X h he z hX hf C E hnm hh
  have hl := hle.rf he
  subst hX
  have L2 : ∀ (a0 : Nat) (n : Nat) (i1 : Int32) (h h1 : Hp) (o : Unit), (l_X17_closes_2 a0 n i1).1 h = some (o, h1) → hle h1 he → V X h1 34 [(0, .ref a0)] [] → V X h 2 [(0, .ref a0), (1, .int i1)] [] := by
    intro a0 n
    induction n with
    | zero => intro i1 h h1 o hf; exact mfail_inv hf
    | succ n ih =>
      intro i1 h h1 o hf hl J
      rw [l_X17_closes_2] at hf
      refine v_iload_n C 1 dX17_closes_2 rfl rfl ?_
      refine v_bipush (x := 24) C dX17_closes_3 (by decide) ?_
      refine v_icmp_ge C hf (tgt := 34) dX17_closes_5 (by decide) (fun c5 hf => ?_) (fun c5 hf => ?_)
      · obtain ⟨e1, rfl⟩ := mret_inv hf
        subst e1
        exact v_sub (ls' := _) [0] rfl J
      · refine v_aload_n C 0 dX17_closes_8 rfl rfl ?_
        refine v_gR (Cn := RX17) (T := TX17) (N := 37) C hf in_X17 rfl (by decide) q1815 rfl dX17_closes_9 (fun x1 hf => ?_)
        refine v_iload_n C 1 dX17_closes_12 rfl rfl ?_
        refine v_aload_n C 0 dX17_closes_13 rfl rfl ?_
        refine v_gR (Cn := RX17) (T := TX17) (N := 37) C hf in_X17 rfl (by decide) q1816 rfl dX17_closes_14 (fun x2 hf => ?_)
        refine v_bipush (x := 24) C dX17_closes_17 (by decide) ?_
        refine v_aload_n C 0 dX17_closes_19 rfl rfl ?_
        refine v_gI (Cn := RX17) (T := TX17) (N := 37) C hf in_X17 rfl (by decide) q1818 rfl dX17_closes_20 (fun x3 hf => ?_)
        refine v_imul C dX17_closes_23 ?_
        refine v_iload_n C 1 dX17_closes_24 rfl rfl ?_
        refine v_iadd C dX17_closes_25 ?_
        refine v_iaload C hf dX17_closes_26 (fun x4 hf => ?_)
        refine v_iastore C hf dX17_closes_27 (fun h5 hf => ?_)
        refine v_iinc (ls' := [(1, _), (0, _)]) (y := i1 + (1 : Int32)) C 1 dX17_closes_28 rfl rfl (by decide) rfl ?_
        refine v_goto (tgt := 2) C dX17_closes_31 (by decide) ?_
        refine v_sub (ls' := _) [1, 0] rfl (ih (i1 + (1 : Int32)) _ _ _ hf hl J)
  unfold f_X17_closes at hf
  refine v_iconst (x := 0) C dX17_closes_0 (by decide) ?_
  refine v_istore_n (ls' := [(1, _), (0, _)]) C dX17_closes_1 rfl (by decide) rfl ?_
  obtain ⟨x6, h7, eh7, hf, hlh7⟩ := mb_inv hf hl
  refine v_sub (ls' := _) [1, 0] rfl (L2 a0 FU (0 : Int32) _ _ _ eh7 hlh7 ?_)
  refine v_aload_n C 0 dX17_closes_34 rfl rfl ?_
  refine v_dup C dX17_closes_35 rfl ?_
  refine v_gI (Cn := RX17) (T := TX17) (N := 37) C hf in_X17 rfl (by decide) q1818 rfl dX17_closes_36 (fun x8 hf => ?_)
  refine v_iconst (x := 1) C dX17_closes_39 (by decide) ?_
  refine v_isub C dX17_closes_40 ?_
  refine v_putv (Cn := RX17) (T := TX17) (N := 37) (ty0 := tyX17) C hf in_X17 tyX17_ok nmX17 rfl (by decide) q1818 rfl rfl rfl rfl dX17_closes_41 (fun h9 hf => ?_)
  exact v_vret C E hf dX17_closes_44
def l_X17_notes_47 (a0 : Nat) : Nat → Int32 → hM (Unit)
  | 0, _ => mfail
  | n + 1, i1 => mi ((122 : Int32) ≤ i1) (mret ()) (mb (gR a0 15 27) fun x3 => mb (gI a0 15 28) fun x4 => mb (gR a0 15 0) fun x5 => mb (aI 1 x5 i1) fun x6 => mb (sI 1 x3 (((122 : Int32) * x4) + i1) x6) fun _ => l_X17_notes_47 a0 n (i1 + (1 : Int32)))
def l_X17_notes_12 (a0 : Nat) : Nat → Int32 → hM (Unit)
  | 0, _ => mfail
  | n + 1, i1 => mi ((732 : Int32) ≤ i1) (mret ()) (mb (gR a0 15 27) fun x12 => mb (gR a0 15 27) fun x13 => mb (aI 1 x13 i1) fun x14 => mb (sI 1 x12 (i1 - (122 : Int32)) x14) fun _ => l_X17_notes_12 a0 n (i1 + (1 : Int32)))
def f_X17_notes (a0 : Nat) : hM Unit :=
  mb (gI a0 15 28) fun x1 => mb (mi (¬ x1 = (6 : Int32)) (mret ()) (mb (l_X17_notes_12 a0 FU (122 : Int32)) fun x16 => mb (pF a0 15 28 (.int (5 : Int32))) fun _ => mret ())) fun _ => mb (l_X17_notes_47 a0 FU (0 : Int32)) fun x8 => mb (gI a0 15 28) fun x10 => mb (pF a0 15 28 (.int (x10 + (1 : Int32)))) fun _ => mret ()
theorem nd_X17_notes : yX17_notes.cls ≠ "java/lang/invoke/MethodHandle" ∧ yX17_notes.cls ≠ "java/lang/invoke/VarHandle" ∧ (parseMethodDescriptor yX17_notes.desc).map (fun d => d.parameters.length) = some 0 := by decide +kernel
set_option maxHeartbeats 4000000 in
theorem ct_X17_notes (l : Launch) (a0 : Nat) : CT l yX17_notes cX17_notes 2 none 0 0 rv0 [.ref a0] (f_X17_notes a0) := by
  refine CT_of (ls := [(0, .ref a0)]) (by decide) (Nat.le_of_ble_eq_true rfl) rfl ?_
  intro X h he z hX hf C E hnm hh
  have hl := hle.rf he
  subst hX
  have L47 : ∀ (a0 : Nat) (n : Nat) (i1 : Int32) (h h1 : Hp) (o : Unit), (l_X17_notes_47 a0 n i1).1 h = some (o, h1) → hle h1 he → V X h1 79 [(0, .ref a0)] [] → V X h 47 [(0, .ref a0), (1, .int i1)] [] := by
    intro a0 n
    induction n with
    | zero => intro i1 h h1 o hf; exact mfail_inv hf
    | succ n ih =>
      intro i1 h h1 o hf hl J
      rw [l_X17_notes_47] at hf
      refine v_iload_n C 1 dX17_notes_47 rfl rfl ?_
      refine v_bipush (x := 122) C dX17_notes_48 (by decide) ?_
      refine v_icmp_ge C hf (tgt := 79) dX17_notes_50 (by decide) (fun c50 hf => ?_) (fun c50 hf => ?_)
      · obtain ⟨e1, rfl⟩ := mret_inv hf
        subst e1
        exact v_sub (ls' := _) [0] rfl J
      · refine v_aload_n C 0 dX17_notes_53 rfl rfl ?_
        refine v_gR (Cn := RX17) (T := TX17) (N := 37) C hf in_X17 rfl (by decide) q1831 rfl dX17_notes_54 (fun x3 hf => ?_)
        refine v_bipush (x := 122) C dX17_notes_57 (by decide) ?_
        refine v_aload_n C 0 dX17_notes_59 rfl rfl ?_
        refine v_gI (Cn := RX17) (T := TX17) (N := 37) C hf in_X17 rfl (by decide) q1832 rfl dX17_notes_60 (fun x4 hf => ?_)
        refine v_imul C dX17_notes_63 ?_
        refine v_iload_n C 1 dX17_notes_64 rfl rfl ?_
        refine v_iadd C dX17_notes_65 ?_
        refine v_aload_n C 0 dX17_notes_66 rfl rfl ?_
        refine v_gR (Cn := RX17) (T := TX17) (N := 37) C hf in_X17 rfl (by decide) q1804 rfl dX17_notes_67 (fun x5 hf => ?_)
        refine v_iload_n C 1 dX17_notes_70 rfl rfl ?_
        refine v_iaload C hf dX17_notes_71 (fun x6 hf => ?_)
        refine v_iastore C hf dX17_notes_72 (fun h7 hf => ?_)
        refine v_iinc (ls' := [(1, _), (0, _)]) (y := i1 + (1 : Int32)) C 1 dX17_notes_73 rfl rfl (by decide) rfl ?_
        refine v_goto (tgt := 47) C dX17_notes_76 (by decide) ?_
        refine v_sub (ls' := _) [1, 0] rfl (ih (i1 + (1 : Int32)) _ _ _ hf hl J)
  have L12 : ∀ (a0 : Nat) (n : Nat) (i1 : Int32) (h h1 : Hp) (o : Unit), (l_X17_notes_12 a0 n i1).1 h = some (o, h1) → hle h1 he → V X h1 40 [(0, .ref a0)] [] → V X h 12 [(0, .ref a0), (1, .int i1)] [] := by
    intro a0 n
    induction n with
    | zero => intro i1 h h1 o hf; exact mfail_inv hf
    | succ n ih =>
      intro i1 h h1 o hf hl J
      rw [l_X17_notes_12] at hf
      refine v_iload_n C 1 dX17_notes_12 rfl rfl ?_
      refine v_sipush (x := 732) C dX17_notes_13 (by decide) ?_
      refine v_icmp_ge C hf (tgt := 40) dX17_notes_16 (by decide) (fun c16 hf => ?_) (fun c16 hf => ?_)
      · obtain ⟨e1, rfl⟩ := mret_inv hf
        subst e1
        exact v_sub (ls' := _) [0] rfl J
      · refine v_aload_n C 0 dX17_notes_19 rfl rfl ?_
        refine v_gR (Cn := RX17) (T := TX17) (N := 37) C hf in_X17 rfl (by decide) q1831 rfl dX17_notes_20 (fun x12 hf => ?_)
        refine v_iload_n C 1 dX17_notes_23 rfl rfl ?_
        refine v_bipush (x := 122) C dX17_notes_24 (by decide) ?_
        refine v_isub C dX17_notes_26 ?_
        refine v_aload_n C 0 dX17_notes_27 rfl rfl ?_
        refine v_gR (Cn := RX17) (T := TX17) (N := 37) C hf in_X17 rfl (by decide) q1831 rfl dX17_notes_28 (fun x13 hf => ?_)
        refine v_iload_n C 1 dX17_notes_31 rfl rfl ?_
        refine v_iaload C hf dX17_notes_32 (fun x14 hf => ?_)
        refine v_iastore C hf dX17_notes_33 (fun h15 hf => ?_)
        refine v_iinc (ls' := [(1, _), (0, _)]) (y := i1 + (1 : Int32)) C 1 dX17_notes_34 rfl rfl (by decide) rfl ?_
        refine v_goto (tgt := 12) C dX17_notes_37 (by decide) ?_
        refine v_sub (ls' := _) [1, 0] rfl (ih (i1 + (1 : Int32)) _ _ _ hf hl J)
  unfold f_X17_notes at hf
  refine v_aload_n C 0 dX17_notes_0 rfl rfl ?_
  refine v_gI (Cn := RX17) (T := TX17) (N := 37) C hf in_X17 rfl (by decide) q1832 rfl dX17_notes_1 (fun x1 hf => ?_)
  refine v_bipush (x := 6) C dX17_notes_4 (by decide) ?_
  obtain ⟨_u, h2, hAh2, hf, hlh2⟩ := mb_inv hf hl
  refine v_cut (h1 := h2) (pc1 := 45) (ls1 := [(0, .ref a0)]) (st1 := []) ?_ (fun Jh2 => ?_)
  · clear hAh2 hlh2
    refine v_iconst (x := 0) C dX17_notes_45 (by decide) ?_
    refine v_istore_n (ls' := [(1, _), (0, _)]) C dX17_notes_46 rfl (by decide) rfl ?_
    obtain ⟨x8, h9, eh9, hf, hlh9⟩ := mb_inv hf hl
    refine v_sub (ls' := _) [1, 0] rfl (L47 a0 FU (0 : Int32) _ _ _ eh9 hlh9 ?_)
    refine v_aload_n C 0 dX17_notes_79 rfl rfl ?_
    refine v_dup C dX17_notes_80 rfl ?_
    refine v_gI (Cn := RX17) (T := TX17) (N := 37) C hf in_X17 rfl (by decide) q1832 rfl dX17_notes_81 (fun x10 hf => ?_)
    refine v_iconst (x := 1) C dX17_notes_84 (by decide) ?_
    refine v_iadd C dX17_notes_85 ?_
    refine v_putv (Cn := RX17) (T := TX17) (N := 37) (ty0 := tyX17) C hf in_X17 tyX17_ok nmX17 rfl (by decide) q1832 rfl rfl rfl rfl dX17_notes_86 (fun h11 hf => ?_)
    exact v_vret C E hf dX17_notes_89
  · clear hf
    have hf := hAh2
    have hl := hlh2
    refine v_icmp_ne C hf (tgt := 45) dX17_notes_6 (by decide) (fun c6 hf => ?_) (fun c6 hf => ?_)
    · obtain ⟨e1, rfl⟩ := mret_inv hf
      exact v_sub (ls' := _) [0] rfl Jh2
    · refine v_bipush (x := 122) C dX17_notes_9 (by decide) ?_
      refine v_istore_n (ls' := [(1, _), (0, _)]) C dX17_notes_11 rfl (by decide) rfl ?_
      obtain ⟨x16, h17, eh17, hf, hlh17⟩ := mb_inv hf hl
      refine v_sub (ls' := _) [1, 0] rfl (L12 a0 FU (122 : Int32) _ _ _ eh17 hlh17 ?_)
      refine v_aload_n C 0 dX17_notes_40 rfl rfl ?_
      refine v_iconst (x := 5) C dX17_notes_41 (by decide) ?_
      refine v_putv (Cn := RX17) (T := TX17) (N := 37) (ty0 := tyX17) C hf in_X17 tyX17_ok nmX17 rfl (by decide) q1832 rfl rfl rfl rfl dX17_notes_42 (fun h18 hf => ?_)
      obtain ⟨e1, rfl⟩ := mret_inv hf
      exact v_sub (ls' := _) [0] rfl Jh2
def f_X17_isGroup (i0 : Int32) : hM Int32 :=
  mb (f_X17_in i0.toInt64 (0 : Int64) (15 : Int64)) fun x1 => mrt .boolean x1
theorem nd_X17_isGroup : yX17_isGroup.cls ≠ "java/lang/invoke/MethodHandle" ∧ yX17_isGroup.cls ≠ "java/lang/invoke/VarHandle" ∧ (parseMethodDescriptor yX17_isGroup.desc).map (fun d => d.parameters.length) = some 1 := by decide +kernel
set_option maxHeartbeats 4000000 in
theorem ct_X17_isGroup (l : Launch) (i0 : Int32) : CT l yX17_isGroup cX17_isGroup 1 (some .boolean) 1 25 rvI [.int i0] (f_X17_isGroup i0) := by
  refine CT_of (ls := [(0, .int i0)]) (by decide) (Nat.le_of_ble_eq_true rfl) rfl ?_
  intro X h he z hX hf C E hnm hh
  have hl := hle.rf he
  subst hX
  unfold f_X17_isGroup at hf
  refine v_iload_n C 0 dX17_isGroup_0 rfl rfl ?_
  refine v_i2l C dX17_isGroup_1 ?_
  refine v_lconst (x := 0) C dX17_isGroup_2 (by decide) ?_
  refine v_ldc2 (x := 15) C q2142 dX17_isGroup_3 ?_
  refine v_callS (stk := fun b => .int b :: []) C (ct_X17_in _ i0.toInt64 (0 : Int64) (15 : Int64)) nd_X17_in rfl (Nat.le_of_ble_eq_true rfl) (Nat.le_of_ble_eq_true rfl) [] (Nat.le_of_ble_eq_true rfl) (fun _ => rfl) rfl q1779 q1780 q127 q1781 hf hl dX17_isGroup_6 (fun x1 h2 hf => ?_)
  exact v_zret C E hf dX17_isGroup_9
def l_X17_allKeep_4 (a0 : Nat) (i1 : Int32) : Nat → Int32 → Int32 → hM (Int32)
  | 0, _, _ => mfail
  | n + 1, i2, i3 => mi ((4 : Int32) ≤ i3) (mret i2) (mb (mi (i2 = 0) (mret (0 : Int32)) (mb (f_X17_has i1 i3) fun x3 => mi (x3 = 0) (mret (1 : Int32)) (mb (mat a0 15 (f_X17_keeps a0 i3)) fun x5 => mi (x5 = 0) (mret (0 : Int32)) (mret (1 : Int32))))) fun x1 => l_X17_allKeep_4 a0 i1 n x1 (i3 + (1 : Int32)))
def f_X17_allKeep (a0 : Nat) (i1 : Int32) : hM Int32 :=
  mb (l_X17_allKeep_4 a0 i1 FU (1 : Int32) (0 : Int32)) fun x7 => mrt .boolean x7
theorem nd_X17_allKeep : yX17_allKeep.cls ≠ "java/lang/invoke/MethodHandle" ∧ yX17_allKeep.cls ≠ "java/lang/invoke/VarHandle" ∧ (parseMethodDescriptor yX17_allKeep.desc).map (fun d => d.parameters.length) = some 1 := by decide +kernel
set_option maxHeartbeats 4000000 in
theorem ct_X17_allKeep (l : Launch) (a0 : Nat) (i1 : Int32) : CT l yX17_allKeep cX17_allKeep 4 (some .boolean) 4 89 rvI [.ref a0, .int i1] (f_X17_allKeep a0 i1) := by
  refine CT_of (ls := [(0, .ref a0), (1, .int i1)]) (by decide) (Nat.le_of_ble_eq_true rfl) rfl ?_
  intro X h he z hX hf C E hnm hh
  have hl := hle.rf he
  subst hX
  have L4 : ∀ (a0 : Nat) (i1 : Int32) (n : Nat) (i2 : Int32) (i3 : Int32) (h h1 : Hp) (o : Int32), (l_X17_allKeep_4 a0 i1 n i2 i3).1 h = some (o, h1) → hle h1 he → V X h1 41 [(2, .int o)] [] → V X h 4 [(0, .ref a0), (1, .int i1), (2, .int i2), (3, .int i3)] [] := by
    intro a0 i1 n
    induction n with
    | zero => intro i2 i3 h h1 o hf; exact mfail_inv hf
    | succ n ih =>
      intro i2 i3 h h1 o hf hl J
      rw [l_X17_allKeep_4] at hf
      refine v_iload_n C 3 dX17_allKeep_4 rfl rfl ?_
      refine v_iconst (x := 4) C dX17_allKeep_5 (by decide) ?_
      refine v_icmp_ge C hf (tgt := 41) dX17_allKeep_6 (by decide) (fun c6 hf => ?_) (fun c6 hf => ?_)
      · obtain ⟨e1, rfl⟩ := mret_inv hf
        subst e1
        exact v_sub (ls' := _) [2] rfl J
      · refine v_iload_n C 2 dX17_allKeep_9 rfl rfl ?_
        obtain ⟨x1, h2, hAh2, hf, hlh2⟩ := mb_inv hf hl
        refine v_cut (h1 := h2) (pc1 := 34) (ls1 := [(0, .ref a0), (1, .int i1), (3, .int i3)]) (st1 := [.int x1]) ?_ (fun Jh2 => ?_)
        · clear hAh2 hlh2
          refine v_istore_n (ls' := [(2, _), (0, _), (1, _), (3, _)]) C dX17_allKeep_34 rfl (by decide) rfl ?_
          refine v_iinc (ls' := [(3, _), (2, _), (0, _), (1, _)]) (y := i3 + (1 : Int32)) C 3 dX17_allKeep_35 rfl rfl (by decide) rfl ?_
          refine v_goto (tgt := 4) C dX17_allKeep_38 (by decide) ?_
          refine v_sub (ls' := _) [2, 3, 1, 0] rfl (ih x1 (i3 + (1 : Int32)) _ _ _ hf hl J)
        · clear hf
          have hf := hAh2
          have hl := hlh2
          refine v_if_eq C hf (tgt := 33) dX17_allKeep_10 (by decide) (fun c10 hf => ?_) (fun c10 hf => ?_)
          · refine v_iconst (x := 0) C dX17_allKeep_33 (by decide) ?_
            obtain ⟨e1, rfl⟩ := mret_inv hf
            subst e1
            exact v_sub (ls' := _) [0, 1, 3] rfl Jh2
          · refine v_iload_n C 1 dX17_allKeep_13 rfl rfl ?_
            refine v_iload_n C 3 dX17_allKeep_14 rfl rfl ?_
            refine v_callS (stk := fun b => .int b :: []) C (ct_X17_has _ i1 i3) nd_X17_has rfl (Nat.le_of_ble_eq_true rfl) (Nat.le_of_ble_eq_true rfl) [] (Nat.le_of_ble_eq_true rfl) (fun _ => rfl) rfl q1783 q1784 q127 q1785 hf hl dX17_allKeep_15 (fun x3 h4 hf => ?_)
            refine v_if_eq C hf (tgt := 29) dX17_allKeep_18 (by decide) (fun c18 hf => ?_) (fun c18 hf => ?_)
            · refine v_iconst (x := 1) C dX17_allKeep_29 (by decide) ?_
              refine v_goto (tgt := 34) C dX17_allKeep_30 (by decide) ?_
              obtain ⟨e1, rfl⟩ := mret_inv hf
              subst e1
              exact v_sub (ls' := _) [0, 1, 3] rfl Jh2
            · refine v_aload_n C 0 dX17_allKeep_21 rfl rfl ?_
              refine v_iload_n C 3 dX17_allKeep_22 rfl rfl ?_
              refine v_callV (stk := fun b => .int b :: []) C (ct_X17_keeps _ a0 i3) rfl ⟨rfl, nd_X17_keeps⟩ rfl (Nat.le_of_ble_eq_true rfl) (Nat.le_of_ble_eq_true rfl) [] (Nat.le_of_ble_eq_true rfl) (fun _ => rfl) rfl q2013 q2015 qs47 q127 q2016 hf hl dX17_allKeep_23 (fun x5 h6 hf => ?_)
              refine v_if_eq C hf (tgt := 33) dX17_allKeep_26 (by decide) (fun c26 hf => ?_) (fun c26 hf => ?_)
              · refine v_iconst (x := 0) C dX17_allKeep_33 (by decide) ?_
                obtain ⟨e1, rfl⟩ := mret_inv hf
                subst e1
                exact v_sub (ls' := _) [0, 1, 3] rfl Jh2
              · refine v_iconst (x := 1) C dX17_allKeep_29 (by decide) ?_
                refine v_goto (tgt := 34) C dX17_allKeep_30 (by decide) ?_
                obtain ⟨e1, rfl⟩ := mret_inv hf
                subst e1
                exact v_sub (ls' := _) [0, 1, 3] rfl Jh2
  unfold f_X17_allKeep at hf
  refine v_iconst (x := 1) C dX17_allKeep_0 (by decide) ?_
  refine v_istore_n (ls' := [(2, _), (0, _), (1, _)]) C dX17_allKeep_1 rfl (by decide) rfl ?_
  refine v_iconst (x := 0) C dX17_allKeep_2 (by decide) ?_
  refine v_istore_n (ls' := [(3, _), (2, _), (0, _), (1, _)]) C dX17_allKeep_3 rfl (by decide) rfl ?_
  obtain ⟨x7, h8, eh8, hf, hlh8⟩ := mb_inv hf hl
  refine v_sub (ls' := _) [2, 3, 1, 0] rfl (L4 a0 i1 FU (1 : Int32) (0 : Int32) _ _ _ eh8 hlh8 ?_)
  refine v_iload_n C 0 dX17_allKeep_41 rfl rfl ?_
  exact v_zret C E hf dX17_allKeep_42
def l_X17_stands_25 (a0 : Nat) : Nat → Int32 → Int32 → hM (Int32)
  | 0, _, _ => mfail
  | n + 1, i3, i4 => mi ((96 : Int32) ≤ i4) (mret i3) (mi (i3 = 0) (mret i3) (mb (gR a0 15 23) fun x4 => mb (aI 1 x4 i4) fun x5 => mb (gR a0 15 0) fun x6 => mb (aI 1 x6 i4) fun x7 => mb (mi (¬ x5 = x7) (mret (0 : Int32)) (mret (1 : Int32))) fun x8 => l_X17_stands_25 a0 n x8 (i4 + (1 : Int32))))
def f_X17_stands (a0 : Nat) (i1 : Int32) (i2 : Int32) : hM Int32 :=
  mb (gI a0 15 21) fun x1 => mb (mi (¬ x1 = i1) (mret (0 : Int32)) (mb (gI a0 15 22) fun x12 => mi (¬ x12 = i2) (mret (0 : Int32)) (mret (1 : Int32)))) fun x2 => mb (l_X17_stands_25 a0 FU x2 (0 : Int32)) fun x10 => mrt .boolean x10
theorem nd_X17_stands : yX17_stands.cls ≠ "java/lang/invoke/MethodHandle" ∧ yX17_stands.cls ≠ "java/lang/invoke/VarHandle" ∧ (parseMethodDescriptor yX17_stands.desc).map (fun d => d.parameters.length) = some 2 := by decide +kernel
set_option maxHeartbeats 4000000 in
theorem ct_X17_stands (l : Launch) (a0 : Nat) (i1 : Int32) (i2 : Int32) : CT l yX17_stands cX17_stands 5 (some .boolean) 0 0 rvI [.ref a0, .int i1, .int i2] (f_X17_stands a0 i1 i2) := by
  refine CT_of (ls := [(0, .ref a0), (1, .int i1), (2, .int i2)]) (by decide) (Nat.le_of_ble_eq_true rfl) rfl ?_
  intro X h he z hX hf C E hnm hh
  have hl := hle.rf he
  subst hX
  have L25 : ∀ (a0 : Nat) (n : Nat) (i3 : Int32) (i4 : Int32) (h h1 : Hp) (o : Int32), (l_X17_stands_25 a0 n i3 i4).1 h = some (o, h1) → hle h1 he → V X h1 65 [(3, .int o)] [] → V X h 25 [(0, .ref a0), (3, .int i3), (4, .int i4)] [] := by
    intro a0 n
    induction n with
    | zero => intro i3 i4 h h1 o hf; exact mfail_inv hf
    | succ n ih =>
      intro i3 i4 h h1 o hf hl J
      rw [l_X17_stands_25] at hf
      refine v_iload C 2 dX17_stands_25 rfl ?_
      refine v_bipush (x := 96) C dX17_stands_27 (by decide) ?_
      refine v_icmp_ge C hf (tgt := 65) dX17_stands_29 (by decide) (fun c29 hf => ?_) (fun c29 hf => ?_)
      · obtain ⟨e1, rfl⟩ := mret_inv hf
        subst e1
        exact v_sub (ls' := _) [1] rfl J
      · refine v_iload_n C 1 dX17_stands_32 rfl rfl ?_
        refine v_if_eq C hf (tgt := 65) dX17_stands_33 (by decide) (fun c33 hf => ?_) (fun c33 hf => ?_)
        · obtain ⟨e1, rfl⟩ := mret_inv hf
          subst e1
          exact v_sub (ls' := _) [1] rfl J
        · refine v_aload_n C 0 dX17_stands_36 rfl rfl ?_
          refine v_gR (Cn := RX17) (T := TX17) (N := 37) C hf in_X17 rfl (by decide) q1827 rfl dX17_stands_37 (fun x4 hf => ?_)
          refine v_iload C 2 dX17_stands_40 rfl ?_
          refine v_iaload C hf dX17_stands_42 (fun x5 hf => ?_)
          refine v_aload_n C 0 dX17_stands_43 rfl rfl ?_
          refine v_gR (Cn := RX17) (T := TX17) (N := 37) C hf in_X17 rfl (by decide) q1804 rfl dX17_stands_44 (fun x6 hf => ?_)
          refine v_iload C 2 dX17_stands_47 rfl ?_
          refine v_iaload C hf dX17_stands_49 (fun x7 hf => ?_)
          obtain ⟨x8, h9, hAh9, hf, hlh9⟩ := mb_inv hf hl
          refine v_cut (h1 := h9) (pc1 := 58) (ls1 := [(0, .ref a0), (4, .int i4)]) (st1 := [.int x8]) ?_ (fun Jh9 => ?_)
          · clear hAh9 hlh9
            refine v_istore_n (ls' := [(3, _), (0, _), (4, _)]) C dX17_stands_58 rfl (by decide) rfl ?_
            refine v_iinc (ls' := [(4, _), (3, _), (0, _)]) (y := i4 + (1 : Int32)) C 2 dX17_stands_59 rfl rfl (by decide) rfl ?_
            refine v_goto (tgt := 25) C dX17_stands_62 (by decide) ?_
            refine v_sub (ls' := _) [2, 1, 0] rfl (ih x8 (i4 + (1 : Int32)) _ _ _ hf hl J)
          · clear hf
            have hf := hAh9
            have hl := hlh9
            refine v_icmp_ne C hf (tgt := 57) dX17_stands_50 (by decide) (fun c50 hf => ?_) (fun c50 hf => ?_)
            · refine v_iconst (x := 0) C dX17_stands_57 (by decide) ?_
              obtain ⟨e1, rfl⟩ := mret_inv hf
              subst e1
              exact v_sub (ls' := _) [0, 2] rfl Jh9
            · refine v_iconst (x := 1) C dX17_stands_53 (by decide) ?_
              refine v_goto (tgt := 58) C dX17_stands_54 (by decide) ?_
              obtain ⟨e1, rfl⟩ := mret_inv hf
              subst e1
              exact v_sub (ls' := _) [0, 2] rfl Jh9
  unfold f_X17_stands at hf
  refine v_aload_n C 0 dX17_stands_0 rfl rfl ?_
  refine v_gI (Cn := RX17) (T := TX17) (N := 37) C hf in_X17 rfl (by decide) q1825 rfl dX17_stands_1 (fun x1 hf => ?_)
  refine v_iload_n C 1 dX17_stands_4 rfl rfl ?_
  obtain ⟨x2, h3, hAh3, hf, hlh3⟩ := mb_inv hf hl
  refine v_cut (h1 := h3) (pc1 := 21) (ls1 := [(0, .ref a0)]) (st1 := [.int x2]) ?_ (fun Jh3 => ?_)
  · clear hAh3 hlh3
    refine v_istore_n (ls' := [(3, _), (0, _)]) C dX17_stands_21 rfl (by decide) rfl ?_
    refine v_iconst (x := 0) C dX17_stands_22 (by decide) ?_
    refine v_istore (ls' := [(4, _), (3, _), (0, _)]) C dX17_stands_23 (by decide) rfl ?_
    obtain ⟨x10, h11, eh11, hf, hlh11⟩ := mb_inv hf hl
    refine v_sub (ls' := _) [2, 1, 0] rfl (L25 a0 FU x2 (0 : Int32) _ _ _ eh11 hlh11 ?_)
    refine v_iload_n C 0 dX17_stands_65 rfl rfl ?_
    exact v_zret C E hf dX17_stands_66
  · clear hf
    have hf := hAh3
    have hl := hlh3
    refine v_icmp_ne C hf (tgt := 20) dX17_stands_5 (by decide) (fun c5 hf => ?_) (fun c5 hf => ?_)
    · refine v_iconst (x := 0) C dX17_stands_20 (by decide) ?_
      obtain ⟨e1, rfl⟩ := mret_inv hf
      subst e1
      exact v_sub (ls' := _) [0] rfl Jh3
    · refine v_aload_n C 0 dX17_stands_8 rfl rfl ?_
      refine v_gI (Cn := RX17) (T := TX17) (N := 37) C hf in_X17 rfl (by decide) q1826 rfl dX17_stands_9 (fun x12 hf => ?_)
      refine v_iload_n C 2 dX17_stands_12 rfl rfl ?_
      refine v_icmp_ne C hf (tgt := 20) dX17_stands_13 (by decide) (fun c13 hf => ?_) (fun c13 hf => ?_)
      · refine v_iconst (x := 0) C dX17_stands_20 (by decide) ?_
        obtain ⟨e1, rfl⟩ := mret_inv hf
        subst e1
        exact v_sub (ls' := _) [0] rfl Jh3
      · refine v_iconst (x := 1) C dX17_stands_16 (by decide) ?_
        refine v_goto (tgt := 21) C dX17_stands_17 (by decide) ?_
        obtain ⟨e1, rfl⟩ := mret_inv hf
        subst e1
        exact v_sub (ls' := _) [0] rfl Jh3
def l_X17_bases_4 (a0 : Nat) (i1 : Int32) : Nat → Int32 → Int32 → hM (Unit)
  | 0, _, _ => mfail
  | n + 1, i2, i3 => mi ((48 : Int32) ≤ i3) (mret ()) (mb (mrem i3 (24 : Int32)) fun x1 => mb (f_X17_has i1 x1) fun x2 => mb (mi ((24 : Int32) ≤ i3) (mret (0 : Int32)) (mret (1 : Int32))) fun x4 => mb (mi (¬ x2 = x4) (mret i2) (mb (gR a0 15 15) fun x8 => mb (mrem i3 (24 : Int32)) fun x9 => mb (sI 1 x8 i2 x9) fun _ => mret (i2 + (1 : Int32)))) fun x6 => l_X17_bases_4 a0 i1 n x6 (i3 + (1 : Int32)))
def f_X17_bases (a0 : Nat) (i1 : Int32) : hM Unit :=
  mb (l_X17_bases_4 a0 i1 FU (0 : Int32) (0 : Int32)) fun x11 => mret ()
theorem nd_X17_bases : yX17_bases.cls ≠ "java/lang/invoke/MethodHandle" ∧ yX17_bases.cls ≠ "java/lang/invoke/VarHandle" ∧ (parseMethodDescriptor yX17_bases.desc).map (fun d => d.parameters.length) = some 1 := by decide +kernel
set_option maxHeartbeats 4000000 in
theorem ct_X17_bases (l : Launch) (a0 : Nat) (i1 : Int32) : CT l yX17_bases cX17_bases 4 none 1 21 rv0 [.ref a0, .int i1] (f_X17_bases a0 i1) := by
  refine CT_of (ls := [(0, .ref a0), (1, .int i1)]) (by decide) (Nat.le_of_ble_eq_true rfl) rfl ?_
  intro X h he z hX hf C E hnm hh
  have hl := hle.rf he
  subst hX
  have L4 : ∀ (a0 : Nat) (i1 : Int32) (n : Nat) (i2 : Int32) (i3 : Int32) (h h1 : Hp) (o : Unit), (l_X17_bases_4 a0 i1 n i2 i3).1 h = some (o, h1) → hle h1 he → V X h1 51 [] [] → V X h 4 [(0, .ref a0), (1, .int i1), (2, .int i2), (3, .int i3)] [] := by
    intro a0 i1 n
    induction n with
    | zero => intro i2 i3 h h1 o hf; exact mfail_inv hf
    | succ n ih =>
      intro i2 i3 h h1 o hf hl J
      rw [l_X17_bases_4] at hf
      refine v_iload_n C 3 dX17_bases_4 rfl rfl ?_
      refine v_bipush (x := 48) C dX17_bases_5 (by decide) ?_
      refine v_icmp_ge C hf (tgt := 51) dX17_bases_7 (by decide) (fun c7 hf => ?_) (fun c7 hf => ?_)
      · obtain ⟨e1, rfl⟩ := mret_inv hf
        subst e1
        exact v_sub (ls' := _) [] rfl J
      · refine v_iload_n C 1 dX17_bases_10 rfl rfl ?_
        refine v_iload_n C 3 dX17_bases_11 rfl rfl ?_
        refine v_bipush (x := 24) C dX17_bases_12 (by decide) ?_
        refine v_irem C hf dX17_bases_14 (fun x1 hf => ?_)
        refine v_callS (stk := fun b => .int b :: []) C (ct_X17_has _ i1 x1) nd_X17_has rfl (Nat.le_of_ble_eq_true rfl) (Nat.le_of_ble_eq_true rfl) [] (Nat.le_of_ble_eq_true rfl) (fun _ => rfl) rfl q1783 q1784 q127 q1785 hf hl dX17_bases_15 (fun x2 h3 hf => ?_)
        refine v_iload_n C 3 dX17_bases_18 rfl rfl ?_
        refine v_bipush (x := 24) C dX17_bases_19 (by decide) ?_
        obtain ⟨x4, h5, hAh5, hf, hlh5⟩ := mb_inv hf hl
        refine v_cut (h1 := h5) (pc1 := 29) (ls1 := [(0, .ref a0), (1, .int i1), (2, .int i2), (3, .int i3)]) (st1 := [.int x4, .int x2]) ?_ (fun Jh5 => ?_)
        · clear hAh5 hlh5
          obtain ⟨x6, h7, hAh7, hf, hlh7⟩ := mb_inv hf hl
          refine v_cut (h1 := h7) (pc1 := 45) (ls1 := [(0, .ref a0), (1, .int i1), (2, .int x6), (3, .int i3)]) (st1 := []) ?_ (fun Jh7 => ?_)
          · clear hAh7 hlh7
            refine v_iinc (ls' := [(3, _), (0, _), (1, _), (2, _)]) (y := i3 + (1 : Int32)) C 3 dX17_bases_45 rfl rfl (by decide) rfl ?_
            refine v_goto (tgt := 4) C dX17_bases_48 (by decide) ?_
            refine v_sub (ls' := _) [1, 2, 3, 0] rfl (ih x6 (i3 + (1 : Int32)) _ _ _ hf hl J)
          · clear hf
            have hf := hAh7
            have hl := hlh7
            refine v_icmp_ne C hf (tgt := 45) dX17_bases_29 (by decide) (fun c29 hf => ?_) (fun c29 hf => ?_)
            · obtain ⟨e1, rfl⟩ := mret_inv hf
              subst e1
              exact v_sub (ls' := _) [0, 1, 2, 3] rfl Jh7
            · refine v_aload_n C 0 dX17_bases_32 rfl rfl ?_
              refine v_gR (Cn := RX17) (T := TX17) (N := 37) C hf in_X17 rfl (by decide) q1819 rfl dX17_bases_33 (fun x8 hf => ?_)
              refine v_iload_n C 2 dX17_bases_36 rfl rfl ?_
              refine v_iload_n C 3 dX17_bases_37 rfl rfl ?_
              refine v_bipush (x := 24) C dX17_bases_38 (by decide) ?_
              refine v_irem C hf dX17_bases_40 (fun x9 hf => ?_)
              refine v_iastore C hf dX17_bases_41 (fun h10 hf => ?_)
              refine v_iinc (ls' := [(2, _), (0, _), (1, _), (3, _)]) (y := i2 + (1 : Int32)) C 2 dX17_bases_42 rfl rfl (by decide) rfl ?_
              obtain ⟨e1, rfl⟩ := mret_inv hf
              subst e1
              exact v_sub (ls' := _) [1, 2, 0, 3] rfl Jh7
        · clear hf
          have hf := hAh5
          have hl := hlh5
          refine v_icmp_ge C hf (tgt := 28) dX17_bases_21 (by decide) (fun c21 hf => ?_) (fun c21 hf => ?_)
          · refine v_iconst (x := 0) C dX17_bases_28 (by decide) ?_
            obtain ⟨e1, rfl⟩ := mret_inv hf
            subst e1
            exact v_sub (ls' := _) [0, 1, 2, 3] rfl Jh5
          · refine v_iconst (x := 1) C dX17_bases_24 (by decide) ?_
            refine v_goto (tgt := 29) C dX17_bases_25 (by decide) ?_
            obtain ⟨e1, rfl⟩ := mret_inv hf
            subst e1
            exact v_sub (ls' := _) [0, 1, 2, 3] rfl Jh5
  unfold f_X17_bases at hf
  refine v_iconst (x := 0) C dX17_bases_0 (by decide) ?_
  refine v_istore_n (ls' := [(2, _), (0, _), (1, _)]) C dX17_bases_1 rfl (by decide) rfl ?_
  refine v_iconst (x := 0) C dX17_bases_2 (by decide) ?_
  refine v_istore_n (ls' := [(3, _), (2, _), (0, _), (1, _)]) C dX17_bases_3 rfl (by decide) rfl ?_
  obtain ⟨x11, h12, eh12, hf, hlh12⟩ := mb_inv hf hl
  refine v_sub (ls' := _) [2, 3, 1, 0] rfl (L4 a0 i1 FU (0 : Int32) (0 : Int32) _ _ _ eh12 hlh12 ?_)
  exact v_vret C E hf dX17_bases_51
def l_X17_takesBack_2 (a0 : Nat) (i1 : Int32) : Nat → Int32 → hM (Unit)
  | 0, _ => mfail
  | n + 1, i2 => mi ((24 : Int32) ≤ i2) (mret ()) (mb (gR a0 15 13) fun x1 => mb (gR a0 15 17) fun x2 => mb (aI 1 x2 (((24 : Int32) * i1) + i2)) fun x3 => mb (sI 1 x1 x3 i2) fun _ => l_X17_takesBack_2 a0 i1 n (i2 + (1 : Int32)))
def l_X17_takesBack_33 (a0 : Nat) : Nat → Int32 → hM (Unit)
  | 0, _ => mfail
  | n + 1, i2 => mi ((24 : Int32) ≤ i2) (mret ()) (mb (gR a0 15 20) fun x7 => mb (gR a0 15 13) fun x8 => mb (gR a0 15 20) fun x9 => mb (aI 1 x9 i2) fun x10 => mb (aI 1 x8 x10) fun x11 => mb (sI 1 x7 i2 x11) fun _ => l_X17_takesBack_33 a0 n (i2 + (1 : Int32)))
def f_X17_takesBack (a0 : Nat) (i1 : Int32) : hM Unit :=
  mb (l_X17_takesBack_2 a0 i1 FU (0 : Int32)) fun x5 => mb (l_X17_takesBack_33 a0 FU (0 : Int32)) fun x13 => mret ()
theorem nd_X17_takesBack : yX17_takesBack.cls ≠ "java/lang/invoke/MethodHandle" ∧ yX17_takesBack.cls ≠ "java/lang/invoke/VarHandle" ∧ (parseMethodDescriptor yX17_takesBack.desc).map (fun d => d.parameters.length) = some 1 := by decide +kernel
set_option maxHeartbeats 4000000 in
theorem ct_X17_takesBack (l : Launch) (a0 : Nat) (i1 : Int32) : CT l yX17_takesBack cX17_takesBack 3 none 0 0 rv0 [.ref a0, .int i1] (f_X17_takesBack a0 i1) := by
  refine CT_of (ls := [(0, .ref a0), (1, .int i1)]) (by decide) (Nat.le_of_ble_eq_true rfl) rfl ?_
  intro X h he z hX hf C E hnm hh
  have hl := hle.rf he
  subst hX
  have L2 : ∀ (a0 : Nat) (i1 : Int32) (n : Nat) (i2 : Int32) (h h1 : Hp) (o : Unit), (l_X17_takesBack_2 a0 i1 n i2).1 h = some (o, h1) → hle h1 he → V X h1 31 [(0, .ref a0)] [] → V X h 2 [(0, .ref a0), (1, .int i1), (2, .int i2)] [] := by
    intro a0 i1 n
    induction n with
    | zero => intro i2 h h1 o hf; exact mfail_inv hf
    | succ n ih =>
      intro i2 h h1 o hf hl J
      rw [l_X17_takesBack_2] at hf
      refine v_iload_n C 2 dX17_takesBack_2 rfl rfl ?_
      refine v_bipush (x := 24) C dX17_takesBack_3 (by decide) ?_
      refine v_icmp_ge C hf (tgt := 31) dX17_takesBack_5 (by decide) (fun c5 hf => ?_) (fun c5 hf => ?_)
      · obtain ⟨e1, rfl⟩ := mret_inv hf
        subst e1
        exact v_sub (ls' := _) [0] rfl J
      · refine v_aload_n C 0 dX17_takesBack_8 rfl rfl ?_
        refine v_gR (Cn := RX17) (T := TX17) (N := 37) C hf in_X17 rfl (by decide) q1817 rfl dX17_takesBack_9 (fun x1 hf => ?_)
        refine v_aload_n C 0 dX17_takesBack_12 rfl rfl ?_
        refine v_gR (Cn := RX17) (T := TX17) (N := 37) C hf in_X17 rfl (by decide) q1821 rfl dX17_takesBack_13 (fun x2 hf => ?_)
        refine v_bipush (x := 24) C dX17_takesBack_16 (by decide) ?_
        refine v_iload_n C 1 dX17_takesBack_18 rfl rfl ?_
        refine v_imul C dX17_takesBack_19 ?_
        refine v_iload_n C 2 dX17_takesBack_20 rfl rfl ?_
        refine v_iadd C dX17_takesBack_21 ?_
        refine v_iaload C hf dX17_takesBack_22 (fun x3 hf => ?_)
        refine v_iload_n C 2 dX17_takesBack_23 rfl rfl ?_
        refine v_iastore C hf dX17_takesBack_24 (fun h4 hf => ?_)
        refine v_iinc (ls' := [(2, _), (0, _), (1, _)]) (y := i2 + (1 : Int32)) C 2 dX17_takesBack_25 rfl rfl (by decide) rfl ?_
        refine v_goto (tgt := 2) C dX17_takesBack_28 (by decide) ?_
        refine v_sub (ls' := _) [1, 2, 0] rfl (ih (i2 + (1 : Int32)) _ _ _ hf hl J)
  have L33 : ∀ (a0 : Nat) (n : Nat) (i2 : Int32) (h h1 : Hp) (o : Unit), (l_X17_takesBack_33 a0 n i2).1 h = some (o, h1) → hle h1 he → V X h1 62 [] [] → V X h 33 [(0, .ref a0), (2, .int i2)] [] := by
    intro a0 n
    induction n with
    | zero => intro i2 h h1 o hf; exact mfail_inv hf
    | succ n ih =>
      intro i2 h h1 o hf hl J
      rw [l_X17_takesBack_33] at hf
      refine v_iload_n C 1 dX17_takesBack_33 rfl rfl ?_
      refine v_bipush (x := 24) C dX17_takesBack_34 (by decide) ?_
      refine v_icmp_ge C hf (tgt := 62) dX17_takesBack_36 (by decide) (fun c36 hf => ?_) (fun c36 hf => ?_)
      · obtain ⟨e1, rfl⟩ := mret_inv hf
        subst e1
        exact v_sub (ls' := _) [] rfl J
      · refine v_aload_n C 0 dX17_takesBack_39 rfl rfl ?_
        refine v_gR (Cn := RX17) (T := TX17) (N := 37) C hf in_X17 rfl (by decide) q1824 rfl dX17_takesBack_40 (fun x7 hf => ?_)
        refine v_iload_n C 1 dX17_takesBack_43 rfl rfl ?_
        refine v_aload_n C 0 dX17_takesBack_44 rfl rfl ?_
        refine v_gR (Cn := RX17) (T := TX17) (N := 37) C hf in_X17 rfl (by decide) q1817 rfl dX17_takesBack_45 (fun x8 hf => ?_)
        refine v_aload_n C 0 dX17_takesBack_48 rfl rfl ?_
        refine v_gR (Cn := RX17) (T := TX17) (N := 37) C hf in_X17 rfl (by decide) q1824 rfl dX17_takesBack_49 (fun x9 hf => ?_)
        refine v_iload_n C 1 dX17_takesBack_52 rfl rfl ?_
        refine v_iaload C hf dX17_takesBack_53 (fun x10 hf => ?_)
        refine v_iaload C hf dX17_takesBack_54 (fun x11 hf => ?_)
        refine v_iastore C hf dX17_takesBack_55 (fun h12 hf => ?_)
        refine v_iinc (ls' := [(2, _), (0, _)]) (y := i2 + (1 : Int32)) C 1 dX17_takesBack_56 rfl rfl (by decide) rfl ?_
        refine v_goto (tgt := 33) C dX17_takesBack_59 (by decide) ?_
        refine v_sub (ls' := _) [1, 0] rfl (ih (i2 + (1 : Int32)) _ _ _ hf hl J)
  unfold f_X17_takesBack at hf
  refine v_iconst (x := 0) C dX17_takesBack_0 (by decide) ?_
  refine v_istore_n (ls' := [(2, _), (0, _), (1, _)]) C dX17_takesBack_1 rfl (by decide) rfl ?_
  obtain ⟨x5, h6, eh6, hf, hlh6⟩ := mb_inv hf hl
  refine v_sub (ls' := _) [1, 2, 0] rfl (L2 a0 i1 FU (0 : Int32) _ _ _ eh6 hlh6 ?_)
  refine v_iconst (x := 0) C dX17_takesBack_31 (by decide) ?_
  refine v_istore_n (ls' := [(2, _), (0, _)]) C dX17_takesBack_32 rfl (by decide) rfl ?_
  obtain ⟨x13, h14, eh14, hf, hlh14⟩ := mb_inv hf hl
  refine v_sub (ls' := _) [1, 0] rfl (L33 a0 FU (0 : Int32) _ _ _ eh14 hlh14 ?_)
  exact v_vret C E hf dX17_takesBack_62
def l_X17_manyFrom_16 (a0 : Nat) (i2 : Int32) (i3 : Int32) : Nat → Int32 → Int32 → hM (Int32)
  | 0, _, _ => mfail
  | n + 1, i4, i5 => mi ((24 : Int32) ≤ i5) (mret i4) (mb (gR a0 15 16) fun x1 => mb (aI 1 x1 (((24 : Int32) * i3) + i5)) fun x2 => mb (mi (x2 < 0) (mret (0 : Int32)) (mret (1 : Int32))) fun x3 => l_X17_manyFrom_16 a0 i2 i3 n (i4 + x3) (i5 + (1 : Int32)))
def l_X17_manyFrom_4 (a0 : Nat) : Nat → Int32 → Int32 → hM (Int32)
  | 0, _, _ => mfail
  | n + 1, i2, i3 => mi ((24 : Int32) ≤ i3) (mret i2) (mb (l_X17_manyFrom_16 a0 i2 i3 FU (1 : Int32) (0 : Int32)) fun x5 => l_X17_manyFrom_4 a0 n (i2 * x5) (i3 + (1 : Int32)))
def f_X17_manyFrom (a0 : Nat) (i1 : Int32) : hM Int32 :=
  mb (l_X17_manyFrom_4 a0 FU (1 : Int32) i1) fun x7 => mret x7
theorem nd_X17_manyFrom : yX17_manyFrom.cls ≠ "java/lang/invoke/MethodHandle" ∧ yX17_manyFrom.cls ≠ "java/lang/invoke/VarHandle" ∧ (parseMethodDescriptor yX17_manyFrom.desc).map (fun d => d.parameters.length) = some 1 := by decide +kernel
set_option maxHeartbeats 4000000 in
theorem ct_X17_manyFrom (l : Launch) (a0 : Nat) (i1 : Int32) : CT l yX17_manyFrom cX17_manyFrom 6 (some .int) 0 0 rvI [.ref a0, .int i1] (f_X17_manyFrom a0 i1) := by
  refine CT_of (ls := [(0, .ref a0), (1, .int i1)]) (by decide) (Nat.le_of_ble_eq_true rfl) rfl ?_
  intro X h he z hX hf C E hnm hh
  have hl := hle.rf he
  subst hX
  have L16 : ∀ (a0 : Nat) (i2 : Int32) (i3 : Int32) (n : Nat) (i4 : Int32) (i5 : Int32) (h h1 : Hp) (o : Int32), (l_X17_manyFrom_16 a0 i2 i3 n i4 i5).1 h = some (o, h1) → hle h1 he → V X h1 54 [(0, .ref a0), (2, .int i2), (3, .int i3), (4, .int o)] [] → V X h 16 [(0, .ref a0), (2, .int i2), (3, .int i3), (4, .int i4), (5, .int i5)] [] := by
    intro a0 i2 i3 n
    induction n with
    | zero => intro i4 i5 h h1 o hf; exact mfail_inv hf
    | succ n ih =>
      intro i4 i5 h h1 o hf hl J
      rw [l_X17_manyFrom_16] at hf
      refine v_iload C 4 dX17_manyFrom_16 rfl ?_
      refine v_bipush (x := 24) C dX17_manyFrom_18 (by decide) ?_
      refine v_icmp_ge C hf (tgt := 54) dX17_manyFrom_20 (by decide) (fun c20 hf => ?_) (fun c20 hf => ?_)
      · obtain ⟨e1, rfl⟩ := mret_inv hf
        subst e1
        exact v_sub (ls' := _) [0, 1, 2, 3] rfl J
      · refine v_iload C 3 dX17_manyFrom_23 rfl ?_
        refine v_aload_n C 0 dX17_manyFrom_25 rfl rfl ?_
        refine v_gR (Cn := RX17) (T := TX17) (N := 37) C hf in_X17 rfl (by decide) q1820 rfl dX17_manyFrom_26 (fun x1 hf => ?_)
        refine v_bipush (x := 24) C dX17_manyFrom_29 (by decide) ?_
        refine v_iload_n C 2 dX17_manyFrom_31 rfl rfl ?_
        refine v_imul C dX17_manyFrom_32 ?_
        refine v_iload C 4 dX17_manyFrom_33 rfl ?_
        refine v_iadd C dX17_manyFrom_35 ?_
        refine v_iaload C hf dX17_manyFrom_36 (fun x2 hf => ?_)
        obtain ⟨x3, h4, hAh4, hf, hlh4⟩ := mb_inv hf hl
        refine v_cut (h1 := h4) (pc1 := 45) (ls1 := [(0, .ref a0), (2, .int i2), (3, .int i3), (5, .int i5)]) (st1 := [.int x3, .int i4]) ?_ (fun Jh4 => ?_)
        · clear hAh4 hlh4
          refine v_iadd C dX17_manyFrom_45 ?_
          refine v_istore (ls' := [(4, _), (0, _), (2, _), (3, _), (5, _)]) C dX17_manyFrom_46 (by decide) rfl ?_
          refine v_iinc (ls' := [(5, _), (4, _), (0, _), (2, _), (3, _)]) (y := i5 + (1 : Int32)) C 4 dX17_manyFrom_48 rfl rfl (by decide) rfl ?_
          refine v_goto (tgt := 16) C dX17_manyFrom_51 (by decide) ?_
          refine v_sub (ls' := _) [2, 3, 4, 1, 0] rfl (ih (i4 + x3) (i5 + (1 : Int32)) _ _ _ hf hl J)
        · clear hf
          have hf := hAh4
          have hl := hlh4
          refine v_if_lt C hf (tgt := 44) dX17_manyFrom_37 (by decide) (fun c37 hf => ?_) (fun c37 hf => ?_)
          · refine v_iconst (x := 0) C dX17_manyFrom_44 (by decide) ?_
            obtain ⟨e1, rfl⟩ := mret_inv hf
            subst e1
            exact v_sub (ls' := _) [0, 1, 2, 4] rfl Jh4
          · refine v_iconst (x := 1) C dX17_manyFrom_40 (by decide) ?_
            refine v_goto (tgt := 45) C dX17_manyFrom_41 (by decide) ?_
            obtain ⟨e1, rfl⟩ := mret_inv hf
            subst e1
            exact v_sub (ls' := _) [0, 1, 2, 4] rfl Jh4
  have L4 : ∀ (a0 : Nat) (n : Nat) (i2 : Int32) (i3 : Int32) (h h1 : Hp) (o : Int32), (l_X17_manyFrom_4 a0 n i2 i3).1 h = some (o, h1) → hle h1 he → V X h1 65 [(2, .int o)] [] → V X h 4 [(0, .ref a0), (2, .int i2), (3, .int i3)] [] := by
    intro a0 n
    induction n with
    | zero => intro i2 i3 h h1 o hf; exact mfail_inv hf
    | succ n ih =>
      intro i2 i3 h h1 o hf hl J
      rw [l_X17_manyFrom_4] at hf
      refine v_iload_n C 2 dX17_manyFrom_4 rfl rfl ?_
      refine v_bipush (x := 24) C dX17_manyFrom_5 (by decide) ?_
      refine v_icmp_ge C hf (tgt := 65) dX17_manyFrom_7 (by decide) (fun c7 hf => ?_) (fun c7 hf => ?_)
      · obtain ⟨e1, rfl⟩ := mret_inv hf
        subst e1
        exact v_sub (ls' := _) [1] rfl J
      · refine v_iconst (x := 1) C dX17_manyFrom_10 (by decide) ?_
        refine v_istore (ls' := [(4, _), (0, _), (2, _), (3, _)]) C dX17_manyFrom_11 (by decide) rfl ?_
        refine v_iconst (x := 0) C dX17_manyFrom_13 (by decide) ?_
        refine v_istore (ls' := [(5, _), (4, _), (0, _), (2, _), (3, _)]) C dX17_manyFrom_14 (by decide) rfl ?_
        obtain ⟨x5, h6, eh6, hf, hlh6⟩ := mb_inv hf hl
        refine v_sub (ls' := _) [2, 3, 4, 1, 0] rfl (L16 a0 i2 i3 FU (1 : Int32) (0 : Int32) _ _ _ eh6 hlh6 ?_)
        refine v_iload_n C 1 dX17_manyFrom_54 rfl rfl ?_
        refine v_iload C 3 dX17_manyFrom_55 rfl ?_
        refine v_imul C dX17_manyFrom_57 ?_
        refine v_istore_n (ls' := [(2, _), (0, _), (3, _), (4, _)]) C dX17_manyFrom_58 rfl (by decide) rfl ?_
        refine v_iinc (ls' := [(3, _), (2, _), (0, _), (4, _)]) (y := i3 + (1 : Int32)) C 2 dX17_manyFrom_59 rfl rfl (by decide) rfl ?_
        refine v_goto (tgt := 4) C dX17_manyFrom_62 (by decide) ?_
        refine v_sub (ls' := _) [2, 1, 0] rfl (ih (i2 * x5) (i3 + (1 : Int32)) _ _ _ hf hl J)
  unfold f_X17_manyFrom at hf
  refine v_iconst (x := 1) C dX17_manyFrom_0 (by decide) ?_
  refine v_istore_n (ls' := [(2, _), (0, _), (1, _)]) C dX17_manyFrom_1 rfl (by decide) rfl ?_
  refine v_iload_n C 2 dX17_manyFrom_2 rfl rfl ?_
  refine v_istore_n (ls' := [(3, _), (2, _), (0, _), (1, _)]) C dX17_manyFrom_3 rfl (by decide) rfl ?_
  obtain ⟨x7, h8, eh8, hf, hlh8⟩ := mb_inv hf hl
  refine v_sub (ls' := _) [2, 1, 0] rfl (L4 a0 FU (1 : Int32) i1 _ _ _ eh8 hlh8 ?_)
  refine v_iload_n C 0 dX17_manyFrom_65 rfl rfl ?_
  exact v_iret C E hf dX17_manyFrom_66
def l_X17_reaches_27 (a0 : Nat) (i1 : Int32) (i4 : Int32) (i5 : Int32) : Nat → Int32 → Int32 → hM (Int32)
  | 0, _, _ => mfail
  | n + 1, i3, i6 => mi ((4 : Int32) ≤ i6) (mret i3) (mb (f_X17_has i1 i6) fun x1 => mb (mi (x1 = 0) (mret (0 : Int32)) (mb (mat a0 15 (f_X17_goes a0 i6 i3)) fun x5 => mret x5)) fun x3 => l_X17_reaches_27 a0 i1 i4 i5 n (i3 ||| x3) (i6 + (1 : Int32)))
def l_X17_reaches_8 (a0 : Nat) (i1 : Int32) : Nat → Int32 → Int32 → Int32 → hM (Int32)
  | 0, _, _, _ => mfail
  | n + 1, i3, i4, i5 => mi ((25 : Int32) ≤ i5) (mret i3) (mi (i4 = i3) (mret i3) (mb (l_X17_reaches_27 a0 i1 i3 i5 FU i3 (0 : Int32)) fun x7 => l_X17_reaches_8 a0 i1 n x7 i3 (i5 + (1 : Int32))))
def f_X17_reaches (a0 : Nat) (i1 : Int32) (i2 : Int32) : hM Int32 :=
  mb (l_X17_reaches_8 a0 i1 FU i2 (0 : Int32) (0 : Int32)) fun x9 => mret x9
theorem nd_X17_reaches : yX17_reaches.cls ≠ "java/lang/invoke/MethodHandle" ∧ yX17_reaches.cls ≠ "java/lang/invoke/VarHandle" ∧ (parseMethodDescriptor yX17_reaches.desc).map (fun d => d.parameters.length) = some 2 := by decide +kernel
set_option maxHeartbeats 4000000 in
theorem ct_X17_reaches (l : Launch) (a0 : Nat) (i1 : Int32) (i2 : Int32) : CT l yX17_reaches cX17_reaches 7 (some .int) 2 46 rvI [.ref a0, .int i1, .int i2] (f_X17_reaches a0 i1 i2) := by
  refine CT_of (ls := [(0, .ref a0), (1, .int i1), (2, .int i2)]) (by decide) (Nat.le_of_ble_eq_true rfl) rfl ?_
  intro X h he z hX hf C E hnm hh
  have hl := hle.rf he
  subst hX
  have L27 : ∀ (a0 : Nat) (i1 : Int32) (i4 : Int32) (i5 : Int32) (n : Nat) (i3 : Int32) (i6 : Int32) (h h1 : Hp) (o : Int32), (l_X17_reaches_27 a0 i1 i4 i5 n i3 i6).1 h = some (o, h1) → hle h1 he → V X h1 62 [(0, .ref a0), (1, .int i1), (3, .int o), (4, .int i4), (5, .int i5)] [] → V X h 27 [(0, .ref a0), (1, .int i1), (3, .int i3), (4, .int i4), (5, .int i5), (6, .int i6)] [] := by
    intro a0 i1 i4 i5 n
    induction n with
    | zero => intro i3 i6 h h1 o hf; exact mfail_inv hf
    | succ n ih =>
      intro i3 i6 h h1 o hf hl J
      rw [l_X17_reaches_27] at hf
      refine v_iload C 5 dX17_reaches_27 rfl ?_
      refine v_iconst (x := 4) C dX17_reaches_29 (by decide) ?_
      refine v_icmp_ge C hf (tgt := 62) dX17_reaches_30 (by decide) (fun c30 hf => ?_) (fun c30 hf => ?_)
      · obtain ⟨e1, rfl⟩ := mret_inv hf
        subst e1
        exact v_sub (ls' := _) [0, 1, 2, 3, 4] rfl J
      · refine v_iload_n C 2 dX17_reaches_33 rfl rfl ?_
        refine v_iload_n C 1 dX17_reaches_34 rfl rfl ?_
        refine v_iload C 5 dX17_reaches_35 rfl ?_
        refine v_callS (stk := fun b => .int b :: [.int i3]) C (ct_X17_has _ i1 i6) nd_X17_has rfl (Nat.le_of_ble_eq_true rfl) (Nat.le_of_ble_eq_true rfl) [.int i3] (Nat.le_of_ble_eq_true rfl) (fun _ => rfl) rfl q1783 q1784 q127 q1785 hf hl dX17_reaches_37 (fun x1 h2 hf => ?_)
        obtain ⟨x3, h4, hAh4, hf, hlh4⟩ := mb_inv hf hl
        refine v_cut (h1 := h4) (pc1 := 54) (ls1 := [(0, .ref a0), (1, .int i1), (4, .int i4), (5, .int i5), (6, .int i6)]) (st1 := [.int x3, .int i3]) ?_ (fun Jh4 => ?_)
        · clear hAh4 hlh4
          refine v_ior C dX17_reaches_54 ?_
          refine v_istore_n (ls' := [(3, _), (0, _), (1, _), (4, _), (5, _), (6, _)]) C dX17_reaches_55 rfl (by decide) rfl ?_
          refine v_iinc (ls' := [(6, _), (3, _), (0, _), (1, _), (4, _), (5, _)]) (y := i6 + (1 : Int32)) C 5 dX17_reaches_56 rfl rfl (by decide) rfl ?_
          refine v_goto (tgt := 27) C dX17_reaches_59 (by decide) ?_
          refine v_sub (ls' := _) [2, 3, 1, 4, 5, 0] rfl (ih (i3 ||| x3) (i6 + (1 : Int32)) _ _ _ hf hl J)
        · clear hf
          have hf := hAh4
          have hl := hlh4
          refine v_if_eq C hf (tgt := 53) dX17_reaches_40 (by decide) (fun c40 hf => ?_) (fun c40 hf => ?_)
          · refine v_iconst (x := 0) C dX17_reaches_53 (by decide) ?_
            obtain ⟨e1, rfl⟩ := mret_inv hf
            subst e1
            exact v_sub (ls' := _) [0, 1, 3, 4, 5] rfl Jh4
          · refine v_aload_n C 0 dX17_reaches_43 rfl rfl ?_
            refine v_iload C 5 dX17_reaches_44 rfl ?_
            refine v_iload_n C 2 dX17_reaches_46 rfl rfl ?_
            refine v_callV (stk := fun b => .int b :: [.int i3]) C (ct_X17_goes _ a0 i6 i3) rfl ⟨rfl, nd_X17_goes⟩ rfl (Nat.le_of_ble_eq_true rfl) (Nat.le_of_ble_eq_true rfl) [.int i3] (Nat.le_of_ble_eq_true rfl) (fun _ => rfl) rfl q2005 q2007 qs46 q127 q2008 hf hl dX17_reaches_47 (fun x5 h6 hf => ?_)
            refine v_goto (tgt := 54) C dX17_reaches_50 (by decide) ?_
            obtain ⟨e1, rfl⟩ := mret_inv hf
            subst e1
            exact v_sub (ls' := _) [0, 1, 3, 4, 5] rfl Jh4
  have L8 : ∀ (a0 : Nat) (i1 : Int32) (n : Nat) (i3 : Int32) (i4 : Int32) (i5 : Int32) (h h1 : Hp) (o : Int32), (l_X17_reaches_8 a0 i1 n i3 i4 i5).1 h = some (o, h1) → hle h1 he → V X h1 68 [(3, .int o)] [] → V X h 8 [(0, .ref a0), (1, .int i1), (3, .int i3), (4, .int i4), (5, .int i5)] [] := by
    intro a0 i1 n
    induction n with
    | zero => intro i3 i4 i5 h h1 o hf; exact mfail_inv hf
    | succ n ih =>
      intro i3 i4 i5 h h1 o hf hl J
      rw [l_X17_reaches_8] at hf
      refine v_iload C 4 dX17_reaches_8 rfl ?_
      refine v_bipush (x := 25) C dX17_reaches_10 (by decide) ?_
      refine v_icmp_ge C hf (tgt := 68) dX17_reaches_12 (by decide) (fun c12 hf => ?_) (fun c12 hf => ?_)
      · obtain ⟨e1, rfl⟩ := mret_inv hf
        subst e1
        exact v_sub (ls' := _) [2] rfl J
      · refine v_iload C 3 dX17_reaches_15 rfl ?_
        refine v_iload_n C 2 dX17_reaches_17 rfl rfl ?_
        refine v_icmp_eq C hf (tgt := 68) dX17_reaches_18 (by decide) (fun c18 hf => ?_) (fun c18 hf => ?_)
        · obtain ⟨e1, rfl⟩ := mret_inv hf
          subst e1
          exact v_sub (ls' := _) [2] rfl J
        · refine v_iload_n C 2 dX17_reaches_21 rfl rfl ?_
          refine v_istore (ls' := [(4, _), (0, _), (1, _), (3, _), (5, _)]) C dX17_reaches_22 (by decide) rfl ?_
          refine v_iconst (x := 0) C dX17_reaches_24 (by decide) ?_
          refine v_istore (ls' := [(6, _), (4, _), (0, _), (1, _), (3, _), (5, _)]) C dX17_reaches_25 (by decide) rfl ?_
          obtain ⟨x7, h8, eh8, hf, hlh8⟩ := mb_inv hf hl
          refine v_sub (ls' := _) [2, 3, 4, 1, 5, 0] rfl (L27 a0 i1 i3 i5 FU i3 (0 : Int32) _ _ _ eh8 hlh8 ?_)
          refine v_iinc (ls' := [(5, _), (0, _), (1, _), (3, _), (4, _)]) (y := i5 + (1 : Int32)) C 4 dX17_reaches_62 rfl rfl (by decide) rfl ?_
          refine v_goto (tgt := 8) C dX17_reaches_65 (by decide) ?_
          refine v_sub (ls' := _) [1, 2, 3, 4, 0] rfl (ih x7 i3 (i5 + (1 : Int32)) _ _ _ hf hl J)
  unfold f_X17_reaches at hf
  refine v_iload_n C 2 dX17_reaches_0 rfl rfl ?_
  refine v_istore_n (ls' := [(3, _), (0, _), (1, _), (2, _)]) C dX17_reaches_1 rfl (by decide) rfl ?_
  refine v_iconst (x := 0) C dX17_reaches_2 (by decide) ?_
  refine v_istore (ls' := [(4, _), (3, _), (0, _), (1, _), (2, _)]) C dX17_reaches_3 (by decide) rfl ?_
  refine v_iconst (x := 0) C dX17_reaches_5 (by decide) ?_
  refine v_istore (ls' := [(5, _), (4, _), (3, _), (0, _), (1, _), (2, _)]) C dX17_reaches_6 (by decide) rfl ?_
  obtain ⟨x9, h10, eh10, hf, hlh10⟩ := mb_inv hf hl
  refine v_sub (ls' := _) [3, 4, 2, 1, 0] rfl (L8 a0 i1 FU i2 (0 : Int32) (0 : Int32) _ _ _ eh10 hlh10 ?_)
  refine v_iload_n C 0 dX17_reaches_68 rfl rfl ?_
  exact v_iret C E hf dX17_reaches_69
def l_X17_unmarks_2 (a0 : Nat) : Nat → Int32 → hM (Unit)
  | 0, _ => mfail
  | n + 1, i1 => mi ((4096 : Int32) ≤ i1) (mret ()) (mb (gR a0 15 25) fun x1 => mb (sI 2 x1 i1 (0 : Int32)) fun _ => l_X17_unmarks_2 a0 n (i1 + (1 : Int32)))
def f_X17_unmarks (a0 : Nat) : hM Unit :=
  mb (l_X17_unmarks_2 a0 FU (0 : Int32)) fun x3 => mret ()
theorem nd_X17_unmarks : yX17_unmarks.cls ≠ "java/lang/invoke/MethodHandle" ∧ yX17_unmarks.cls ≠ "java/lang/invoke/VarHandle" ∧ (parseMethodDescriptor yX17_unmarks.desc).map (fun d => d.parameters.length) = some 0 := by decide +kernel
set_option maxHeartbeats 4000000 in
theorem ct_X17_unmarks (l : Launch) (a0 : Nat) : CT l yX17_unmarks cX17_unmarks 2 none 0 0 rv0 [.ref a0] (f_X17_unmarks a0) := by
  refine CT_of (ls := [(0, .ref a0)]) (by decide) (Nat.le_of_ble_eq_true rfl) rfl ?_
  intro X h he z hX hf C E hnm hh
  have hl := hle.rf he
  subst hX
  have L2 : ∀ (a0 : Nat) (n : Nat) (i1 : Int32) (h h1 : Hp) (o : Unit), (l_X17_unmarks_2 a0 n i1).1 h = some (o, h1) → hle h1 he → V X h1 22 [] [] → V X h 2 [(0, .ref a0), (1, .int i1)] [] := by
    intro a0 n
    induction n with
    | zero => intro i1 h h1 o hf; exact mfail_inv hf
    | succ n ih =>
      intro i1 h h1 o hf hl J
      rw [l_X17_unmarks_2] at hf
      refine v_iload_n C 1 dX17_unmarks_2 rfl rfl ?_
      refine v_sipush (x := 4096) C dX17_unmarks_3 (by decide) ?_
      refine v_icmp_ge C hf (tgt := 22) dX17_unmarks_6 (by decide) (fun c6 hf => ?_) (fun c6 hf => ?_)
      · obtain ⟨e1, rfl⟩ := mret_inv hf
        subst e1
        exact v_sub (ls' := _) [] rfl J
      · refine v_aload_n C 0 dX17_unmarks_9 rfl rfl ?_
        refine v_gR (Cn := RX17) (T := TX17) (N := 37) C hf in_X17 rfl (by decide) q1829 rfl dX17_unmarks_10 (fun x1 hf => ?_)
        refine v_iload_n C 1 dX17_unmarks_13 rfl rfl ?_
        refine v_iconst (x := 0) C dX17_unmarks_14 (by decide) ?_
        refine v_zastore C hf dX17_unmarks_15 (fun h2 hf => ?_)
        refine v_iinc (ls' := [(1, _), (0, _)]) (y := i1 + (1 : Int32)) C 1 dX17_unmarks_16 rfl rfl (by decide) rfl ?_
        refine v_goto (tgt := 2) C dX17_unmarks_19 (by decide) ?_
        refine v_sub (ls' := _) [1, 0] rfl (ih (i1 + (1 : Int32)) _ _ _ hf hl J)
  unfold f_X17_unmarks at hf
  refine v_iconst (x := 0) C dX17_unmarks_0 (by decide) ?_
  refine v_istore_n (ls' := [(1, _), (0, _)]) C dX17_unmarks_1 rfl (by decide) rfl ?_
  obtain ⟨x3, h4, eh4, hf, hlh4⟩ := mb_inv hf hl
  refine v_sub (ls' := _) [1, 0] rfl (L2 a0 FU (0 : Int32) _ _ _ eh4 hlh4 ?_)
  exact v_vret C E hf dX17_unmarks_22
def f_X17_rankOf (i0 : Int32) : hM Int32 :=
  mb (f_X17_lowest (i0 &&& (i0 - (1 : Int32)))) fun x1 => mb (f_X17_lowest ((i0 &&& (-2 : Int32)) &&& (((1 : Int32) <<< (x1 &&& 31)) ^^^ (-1 : Int32)))) fun x3 => mb (f_X17_highest i0) fun x5 => mb (mdiv (((x5 - (1 : Int32)) * (x5 - (2 : Int32))) * (x5 - (3 : Int32))) (6 : Int32)) fun x7 => mb (mdiv ((x3 - (1 : Int32)) * (x3 - (2 : Int32))) (2 : Int32)) fun x8 => mret (((x7 + x8) + x1) - (1 : Int32))
theorem nd_X17_rankOf : yX17_rankOf.cls ≠ "java/lang/invoke/MethodHandle" ∧ yX17_rankOf.cls ≠ "java/lang/invoke/VarHandle" ∧ (parseMethodDescriptor yX17_rankOf.desc).map (fun d => d.parameters.length) = some 1 := by decide +kernel
set_option maxHeartbeats 4000000 in
theorem ct_X17_rankOf (l : Launch) (i0 : Int32) : CT l yX17_rankOf cX17_rankOf 4 (some .int) 2 42 rvI [.int i0] (f_X17_rankOf i0) := by
  refine CT_of (ls := [(0, .int i0)]) (by decide) (Nat.le_of_ble_eq_true rfl) rfl ?_
  intro X h he z hX hf C E hnm hh
  have hl := hle.rf he
  subst hX
  unfold f_X17_rankOf at hf
  refine v_iload_n C 0 dX17_rankOf_0 rfl rfl ?_
  refine v_iload_n C 0 dX17_rankOf_1 rfl rfl ?_
  refine v_iconst (x := 1) C dX17_rankOf_2 (by decide) ?_
  refine v_isub C dX17_rankOf_3 ?_
  refine v_iand C dX17_rankOf_4 ?_
  refine v_callS (stk := fun b => .int b :: []) C (ct_X17_lowest _ (i0 &&& (i0 - (1 : Int32)))) nd_X17_lowest rfl (Nat.le_of_ble_eq_true rfl) (Nat.le_of_ble_eq_true rfl) [] (Nat.le_of_ble_eq_true rfl) (fun _ => rfl) rfl q1798 q1799 q127 q1800 hf hl dX17_rankOf_5 (fun x1 h2 hf => ?_)
  refine v_istore_n (ls' := [(1, _), (0, _)]) C dX17_rankOf_8 rfl (by decide) rfl ?_
  refine v_iload_n C 1 dX17_rankOf_9 rfl rfl ?_
  refine v_bipush (x := (-2)) C dX17_rankOf_10 (by decide) ?_
  refine v_iand C dX17_rankOf_12 ?_
  refine v_iconst (x := 1) C dX17_rankOf_13 (by decide) ?_
  refine v_iload_n C 0 dX17_rankOf_14 rfl rfl ?_
  refine v_ishl C dX17_rankOf_15 ?_
  refine v_iconst (x := (-1)) C dX17_rankOf_16 (by decide) ?_
  refine v_ixor C dX17_rankOf_17 ?_
  refine v_iand C dX17_rankOf_18 ?_
  refine v_callS (stk := fun b => .int b :: []) C (ct_X17_lowest _ ((i0 &&& (-2 : Int32)) &&& (((1 : Int32) <<< (x1 &&& 31)) ^^^ (-1 : Int32)))) nd_X17_lowest rfl (Nat.le_of_ble_eq_true rfl) (Nat.le_of_ble_eq_true rfl) [] (Nat.le_of_ble_eq_true rfl) (fun _ => rfl) rfl q1798 q1799 q127 q1800 hf hl dX17_rankOf_19 (fun x3 h4 hf => ?_)
  refine v_istore_n (ls' := [(2, _), (1, _), (0, _)]) C dX17_rankOf_22 rfl (by decide) rfl ?_
  refine v_iload_n C 2 dX17_rankOf_23 rfl rfl ?_
  refine v_callS (stk := fun b => .int b :: []) C (ct_X17_highest _ i0) nd_X17_highest rfl (Nat.le_of_ble_eq_true rfl) (Nat.le_of_ble_eq_true rfl) [] (Nat.le_of_ble_eq_true rfl) (fun _ => rfl) rfl q1795 q1796 q127 q1797 hf hl dX17_rankOf_24 (fun x5 h6 hf => ?_)
  refine v_istore_n (ls' := [(3, _), (2, _), (1, _), (0, _)]) C dX17_rankOf_27 rfl (by decide) rfl ?_
  refine v_iload_n C 0 dX17_rankOf_28 rfl rfl ?_
  refine v_iconst (x := 1) C dX17_rankOf_29 (by decide) ?_
  refine v_isub C dX17_rankOf_30 ?_
  refine v_iload_n C 0 dX17_rankOf_31 rfl rfl ?_
  refine v_iconst (x := 2) C dX17_rankOf_32 (by decide) ?_
  refine v_isub C dX17_rankOf_33 ?_
  refine v_imul C dX17_rankOf_34 ?_
  refine v_iload_n C 0 dX17_rankOf_35 rfl rfl ?_
  refine v_iconst (x := 3) C dX17_rankOf_36 (by decide) ?_
  refine v_isub C dX17_rankOf_37 ?_
  refine v_imul C dX17_rankOf_38 ?_
  refine v_bipush (x := 6) C dX17_rankOf_39 (by decide) ?_
  refine v_idiv C hf dX17_rankOf_41 (fun x7 hf => ?_)
  refine v_iload_n C 1 dX17_rankOf_42 rfl rfl ?_
  refine v_iconst (x := 1) C dX17_rankOf_43 (by decide) ?_
  refine v_isub C dX17_rankOf_44 ?_
  refine v_iload_n C 1 dX17_rankOf_45 rfl rfl ?_
  refine v_iconst (x := 2) C dX17_rankOf_46 (by decide) ?_
  refine v_isub C dX17_rankOf_47 ?_
  refine v_imul C dX17_rankOf_48 ?_
  refine v_iconst (x := 2) C dX17_rankOf_49 (by decide) ?_
  refine v_idiv C hf dX17_rankOf_50 (fun x8 hf => ?_)
  refine v_iadd C dX17_rankOf_51 ?_
  refine v_iload_n C 2 dX17_rankOf_52 rfl rfl ?_
  refine v_iadd C dX17_rankOf_53 ?_
  refine v_iconst (x := 1) C dX17_rankOf_54 (by decide) ?_
  refine v_isub C dX17_rankOf_55 ?_
  exact v_iret C E hf dX17_rankOf_56
def f_X17_fourBy (a0 : Nat) (i1 : Int32) (i2 : Int32) : hM Int32 :=
  mb (mat a0 15 (f_X17_goes a0 i1 i2)) fun x1 => mb (mat a0 15 (f_X17_tetradAt a0 x1 (0 : Int32))) fun x3 => mret x3
theorem nd_X17_fourBy : yX17_fourBy.cls ≠ "java/lang/invoke/MethodHandle" ∧ yX17_fourBy.cls ≠ "java/lang/invoke/VarHandle" ∧ (parseMethodDescriptor yX17_fourBy.desc).map (fun d => d.parameters.length) = some 2 := by decide +kernel
set_option maxHeartbeats 4000000 in
theorem ct_X17_fourBy (l : Launch) (a0 : Nat) (i1 : Int32) (i2 : Int32) : CT l yX17_fourBy cX17_fourBy 3 (some .int) 2 46 rvI [.ref a0, .int i1, .int i2] (f_X17_fourBy a0 i1 i2) := by
  refine CT_of (ls := [(0, .ref a0), (1, .int i1), (2, .int i2)]) (by decide) (Nat.le_of_ble_eq_true rfl) rfl ?_
  intro X h he z hX hf C E hnm hh
  have hl := hle.rf he
  subst hX
  unfold f_X17_fourBy at hf
  refine v_aload_n C 0 dX17_fourBy_0 rfl rfl ?_
  refine v_aload_n C 0 dX17_fourBy_1 rfl rfl ?_
  refine v_iload_n C 1 dX17_fourBy_2 rfl rfl ?_
  refine v_iload_n C 2 dX17_fourBy_3 rfl rfl ?_
  refine v_callV (stk := fun b => .int b :: [.ref a0]) C (ct_X17_goes _ a0 i1 i2) rfl ⟨rfl, nd_X17_goes⟩ rfl (Nat.le_of_ble_eq_true rfl) (Nat.le_of_ble_eq_true rfl) [.ref a0] (Nat.le_of_ble_eq_true rfl) (fun _ => rfl) rfl q2005 q2007 qs46 q127 q2008 hf hl dX17_fourBy_4 (fun x1 h2 hf => ?_)
  refine v_iconst (x := 0) C dX17_fourBy_7 (by decide) ?_
  refine v_callV (stk := fun b => .int b :: []) C (ct_X17_tetradAt _ a0 x1 (0 : Int32)) rfl ⟨rfl, nd_X17_tetradAt⟩ rfl (Nat.le_of_ble_eq_true rfl) (Nat.le_of_ble_eq_true rfl) [] (Nat.le_of_ble_eq_true rfl) (fun _ => rfl) rfl q1968 q1970 qs43 q127 q1971 hf hl dX17_fourBy_8 (fun x3 h4 hf => ?_)
  exact v_iret C E hf dX17_fourBy_11
def l_X17_imagesOf_9 (a0 : Nat) (i1 : Int32) (i2 : Int32) : Nat → Int32 → hM (Unit)
  | 0, _ => mfail
  | n + 1, i3 => mi ((12 : Int32) ≤ i3) (mret ()) (mb (gR a0 15 24) fun x1 => mb (f_X17_has i1 i2) fun x2 => mb (mi (x2 = 0) (mret ((1 : Int32) <<< (i3 &&& 31))) (mb (f_X17_basic i3) fun x7 => mb (mat a0 15 (f_X17_goes a0 i2 x7)) fun x9 => mb (mat a0 15 (f_X17_numberOf a0 x9)) fun x11 => mret x11)) fun x4 => mb (sI 1 x1 (((12 : Int32) * i2) + i3) x4) fun _ => l_X17_imagesOf_9 a0 i1 i2 n (i3 + (1 : Int32)))
def l_X17_imagesOf_2 (a0 : Nat) (i1 : Int32) : Nat → Int32 → hM (Unit)
  | 0, _ => mfail
  | n + 1, i2 => mi ((4 : Int32) ≤ i2) (mret ()) (mb (l_X17_imagesOf_9 a0 i1 i2 FU (0 : Int32)) fun x13 => l_X17_imagesOf_2 a0 i1 n (i2 + (1 : Int32)))
def f_X17_imagesOf (a0 : Nat) (i1 : Int32) : hM Unit :=
  mb (l_X17_imagesOf_2 a0 i1 FU (0 : Int32)) fun x15 => mret ()
theorem nd_X17_imagesOf : yX17_imagesOf.cls ≠ "java/lang/invoke/MethodHandle" ∧ yX17_imagesOf.cls ≠ "java/lang/invoke/VarHandle" ∧ (parseMethodDescriptor yX17_imagesOf.desc).map (fun d => d.parameters.length) = some 1 := by decide +kernel
set_option maxHeartbeats 4000000 in
theorem ct_X17_imagesOf (l : Launch) (a0 : Nat) (i1 : Int32) : CT l yX17_imagesOf cX17_imagesOf 4 none 3 66 rv0 [.ref a0, .int i1] (f_X17_imagesOf a0 i1) := by
  refine CT_of (ls := [(0, .ref a0), (1, .int i1)]) (by decide) (Nat.le_of_ble_eq_true rfl) rfl ?_
  intro X h he z hX hf C E hnm hh
  have hl := hle.rf he
  subst hX
  have L9 : ∀ (a0 : Nat) (i1 : Int32) (i2 : Int32) (n : Nat) (i3 : Int32) (h h1 : Hp) (o : Unit), (l_X17_imagesOf_9 a0 i1 i2 n i3).1 h = some (o, h1) → hle h1 he → V X h1 59 [(0, .ref a0), (1, .int i1), (2, .int i2)] [] → V X h 9 [(0, .ref a0), (1, .int i1), (2, .int i2), (3, .int i3)] [] := by
    intro a0 i1 i2 n
    induction n with
    | zero => intro i3 h h1 o hf; exact mfail_inv hf
    | succ n ih =>
      intro i3 h h1 o hf hl J
      rw [l_X17_imagesOf_9] at hf
      refine v_iload_n C 3 dX17_imagesOf_9 rfl rfl ?_
      refine v_bipush (x := 12) C dX17_imagesOf_10 (by decide) ?_
      refine v_icmp_ge C hf (tgt := 59) dX17_imagesOf_12 (by decide) (fun c12 hf => ?_) (fun c12 hf => ?_)
      · obtain ⟨e1, rfl⟩ := mret_inv hf
        subst e1
        exact v_sub (ls' := _) [0, 1, 2] rfl J
      · refine v_aload_n C 0 dX17_imagesOf_15 rfl rfl ?_
        refine v_gR (Cn := RX17) (T := TX17) (N := 37) C hf in_X17 rfl (by decide) q1828 rfl dX17_imagesOf_16 (fun x1 hf => ?_)
        refine v_bipush (x := 12) C dX17_imagesOf_19 (by decide) ?_
        refine v_iload_n C 2 dX17_imagesOf_21 rfl rfl ?_
        refine v_imul C dX17_imagesOf_22 ?_
        refine v_iload_n C 3 dX17_imagesOf_23 rfl rfl ?_
        refine v_iadd C dX17_imagesOf_24 ?_
        refine v_iload_n C 1 dX17_imagesOf_25 rfl rfl ?_
        refine v_iload_n C 2 dX17_imagesOf_26 rfl rfl ?_
        refine v_callS (stk := fun b => .int b :: [.int (((12 : Int32) * i2) + i3), .ref x1]) C (ct_X17_has _ i1 i2) nd_X17_has rfl (Nat.le_of_ble_eq_true rfl) (Nat.le_of_ble_eq_true rfl) [.int (((12 : Int32) * i2) + i3), .ref x1] (Nat.le_of_ble_eq_true rfl) (fun _ => rfl) rfl q1783 q1784 q127 q1785 hf hl dX17_imagesOf_27 (fun x2 h3 hf => ?_)
        obtain ⟨x4, h5, hAh5, hf, hlh5⟩ := mb_inv hf hl
        refine v_cut (h1 := h5) (pc1 := 52) (ls1 := [(0, .ref a0), (1, .int i1), (2, .int i2), (3, .int i3)]) (st1 := [.int x4, .int (((12 : Int32) * i2) + i3), .ref x1]) ?_ (fun Jh5 => ?_)
        · clear hAh5 hlh5
          refine v_iastore C hf dX17_imagesOf_52 (fun h6 hf => ?_)
          refine v_iinc (ls' := [(3, _), (0, _), (1, _), (2, _)]) (y := i3 + (1 : Int32)) C 3 dX17_imagesOf_53 rfl rfl (by decide) rfl ?_
          refine v_goto (tgt := 9) C dX17_imagesOf_56 (by decide) ?_
          refine v_sub (ls' := _) [1, 2, 3, 0] rfl (ih (i3 + (1 : Int32)) _ _ _ hf hl J)
        · clear hf
          have hf := hAh5
          have hl := hlh5
          refine v_if_eq C hf (tgt := 49) dX17_imagesOf_30 (by decide) (fun c30 hf => ?_) (fun c30 hf => ?_)
          · refine v_iconst (x := 1) C dX17_imagesOf_49 (by decide) ?_
            refine v_iload_n C 3 dX17_imagesOf_50 rfl rfl ?_
            refine v_ishl C dX17_imagesOf_51 ?_
            obtain ⟨e1, rfl⟩ := mret_inv hf
            subst e1
            exact v_sub (ls' := _) [0, 1, 2, 3] rfl Jh5
          · refine v_aload_n C 0 dX17_imagesOf_33 rfl rfl ?_
            refine v_aload_n C 0 dX17_imagesOf_34 rfl rfl ?_
            refine v_iload_n C 2 dX17_imagesOf_35 rfl rfl ?_
            refine v_iload_n C 3 dX17_imagesOf_36 rfl rfl ?_
            refine v_callS (stk := fun b => .int b :: [.int i2, .ref a0, .ref a0, .int (((12 : Int32) * i2) + i3), .ref x1]) C (ct_X17_basic _ i3) nd_X17_basic rfl (Nat.le_of_ble_eq_true rfl) (Nat.le_of_ble_eq_true rfl) [.int i2, .ref a0, .ref a0, .int (((12 : Int32) * i2) + i3), .ref x1] (Nat.le_of_ble_eq_true rfl) (fun _ => rfl) rfl q1786 q1787 q127 q1788 hf hl dX17_imagesOf_37 (fun x7 h8 hf => ?_)
            refine v_callV (stk := fun b => .int b :: [.ref a0, .int (((12 : Int32) * i2) + i3), .ref x1]) C (ct_X17_goes _ a0 i2 x7) rfl ⟨rfl, nd_X17_goes⟩ rfl (Nat.le_of_ble_eq_true rfl) (Nat.le_of_ble_eq_true rfl) [.ref a0, .int (((12 : Int32) * i2) + i3), .ref x1] (Nat.le_of_ble_eq_true rfl) (fun _ => rfl) rfl q2005 q2007 qs46 q127 q2008 hf hl dX17_imagesOf_40 (fun x9 h10 hf => ?_)
            refine v_callV (stk := fun b => .int b :: [.int (((12 : Int32) * i2) + i3), .ref x1]) C (ct_X17_numberOf _ a0 x9) rfl ⟨rfl, nd_X17_numberOf⟩ rfl (Nat.le_of_ble_eq_true rfl) (Nat.le_of_ble_eq_true rfl) [.int (((12 : Int32) * i2) + i3), .ref x1] (Nat.le_of_ble_eq_true rfl) (fun _ => rfl) rfl q1924 q1926 qs37 q127 q1927 hf hl dX17_imagesOf_43 (fun x11 h12 hf => ?_)
            refine v_goto (tgt := 52) C dX17_imagesOf_46 (by decide) ?_
            obtain ⟨e1, rfl⟩ := mret_inv hf
            subst e1
            exact v_sub (ls' := _) [0, 1, 2, 3] rfl Jh5
  have L2 : ∀ (a0 : Nat) (i1 : Int32) (n : Nat) (i2 : Int32) (h h1 : Hp) (o : Unit), (l_X17_imagesOf_2 a0 i1 n i2).1 h = some (o, h1) → hle h1 he → V X h1 65 [] [] → V X h 2 [(0, .ref a0), (1, .int i1), (2, .int i2)] [] := by
    intro a0 i1 n
    induction n with
    | zero => intro i2 h h1 o hf; exact mfail_inv hf
    | succ n ih =>
      intro i2 h h1 o hf hl J
      rw [l_X17_imagesOf_2] at hf
      refine v_iload_n C 2 dX17_imagesOf_2 rfl rfl ?_
      refine v_iconst (x := 4) C dX17_imagesOf_3 (by decide) ?_
      refine v_icmp_ge C hf (tgt := 65) dX17_imagesOf_4 (by decide) (fun c4 hf => ?_) (fun c4 hf => ?_)
      · obtain ⟨e1, rfl⟩ := mret_inv hf
        subst e1
        exact v_sub (ls' := _) [] rfl J
      · refine v_iconst (x := 0) C dX17_imagesOf_7 (by decide) ?_
        refine v_istore_n (ls' := [(3, _), (0, _), (1, _), (2, _)]) C dX17_imagesOf_8 rfl (by decide) rfl ?_
        obtain ⟨x13, h14, eh14, hf, hlh14⟩ := mb_inv hf hl
        refine v_sub (ls' := _) [1, 2, 3, 0] rfl (L9 a0 i1 i2 FU (0 : Int32) _ _ _ eh14 hlh14 ?_)
        refine v_iinc (ls' := [(2, _), (0, _), (1, _)]) (y := i2 + (1 : Int32)) C 2 dX17_imagesOf_59 rfl rfl (by decide) rfl ?_
        refine v_goto (tgt := 2) C dX17_imagesOf_62 (by decide) ?_
        refine v_sub (ls' := _) [1, 2, 0] rfl (ih (i2 + (1 : Int32)) _ _ _ hf hl J)
  unfold f_X17_imagesOf at hf
  refine v_iconst (x := 0) C dX17_imagesOf_0 (by decide) ?_
  refine v_istore_n (ls' := [(2, _), (0, _), (1, _)]) C dX17_imagesOf_1 rfl (by decide) rfl ?_
  obtain ⟨x15, h16, eh16, hf, hlh16⟩ := mb_inv hf hl
  refine v_sub (ls' := _) [1, 2, 0] rfl (L2 a0 i1 FU (0 : Int32) _ _ _ eh16 hlh16 ?_)
  exact v_vret C E hf dX17_imagesOf_65
def l_X17_imageOf_5 (a0 : Nat) (i1 : Int32) (i2 : Int32) : Nat → Int32 → Int32 → hM (Int32)
  | 0, _, _ => mfail
  | n + 1, i3, i4 => mi ((12 : Int32) ≤ i4) (mret i3) (mb (f_X17_has i2 i4) fun x1 => mb (mi (x1 = 0) (mret (0 : Int32)) (mb (gR a0 15 24) fun x5 => mb (aI 1 x5 (((12 : Int32) * i1) + i4)) fun x6 => mret x6)) fun x3 => l_X17_imageOf_5 a0 i1 i2 n (i3 ^^^ x3) (i4 + (1 : Int32)))
def f_X17_imageOf (a0 : Nat) (i1 : Int32) (i2 : Int32) : hM Int32 :=
  mb (l_X17_imageOf_5 a0 i1 i2 FU (0 : Int32) (0 : Int32)) fun x7 => mret x7
theorem nd_X17_imageOf : yX17_imageOf.cls ≠ "java/lang/invoke/MethodHandle" ∧ yX17_imageOf.cls ≠ "java/lang/invoke/VarHandle" ∧ (parseMethodDescriptor yX17_imageOf.desc).map (fun d => d.parameters.length) = some 2 := by decide +kernel
set_option maxHeartbeats 4000000 in
theorem ct_X17_imageOf (l : Launch) (a0 : Nat) (i1 : Int32) (i2 : Int32) : CT l yX17_imageOf cX17_imageOf 5 (some .int) 1 21 rvI [.ref a0, .int i1, .int i2] (f_X17_imageOf a0 i1 i2) := by
  refine CT_of (ls := [(0, .ref a0), (1, .int i1), (2, .int i2)]) (by decide) (Nat.le_of_ble_eq_true rfl) rfl ?_
  intro X h he z hX hf C E hnm hh
  have hl := hle.rf he
  subst hX
  have L5 : ∀ (a0 : Nat) (i1 : Int32) (i2 : Int32) (n : Nat) (i3 : Int32) (i4 : Int32) (h h1 : Hp) (o : Int32), (l_X17_imageOf_5 a0 i1 i2 n i3 i4).1 h = some (o, h1) → hle h1 he → V X h1 46 [(3, .int o)] [] → V X h 5 [(0, .ref a0), (1, .int i1), (2, .int i2), (3, .int i3), (4, .int i4)] [] := by
    intro a0 i1 i2 n
    induction n with
    | zero => intro i3 i4 h h1 o hf; exact mfail_inv hf
    | succ n ih =>
      intro i3 i4 h h1 o hf hl J
      rw [l_X17_imageOf_5] at hf
      refine v_iload C 4 dX17_imageOf_5 rfl ?_
      refine v_bipush (x := 12) C dX17_imageOf_7 (by decide) ?_
      refine v_icmp_ge C hf (tgt := 46) dX17_imageOf_9 (by decide) (fun c9 hf => ?_) (fun c9 hf => ?_)
      · obtain ⟨e1, rfl⟩ := mret_inv hf
        subst e1
        exact v_sub (ls' := _) [3] rfl J
      · refine v_iload_n C 3 dX17_imageOf_12 rfl rfl ?_
        refine v_iload_n C 2 dX17_imageOf_13 rfl rfl ?_
        refine v_iload C 4 dX17_imageOf_14 rfl ?_
        refine v_callS (stk := fun b => .int b :: [.int i3]) C (ct_X17_has _ i2 i4) nd_X17_has rfl (Nat.le_of_ble_eq_true rfl) (Nat.le_of_ble_eq_true rfl) [.int i3] (Nat.le_of_ble_eq_true rfl) (fun _ => rfl) rfl q1783 q1784 q127 q1785 hf hl dX17_imageOf_16 (fun x1 h2 hf => ?_)
        obtain ⟨x3, h4, hAh4, hf, hlh4⟩ := mb_inv hf hl
        refine v_cut (h1 := h4) (pc1 := 38) (ls1 := [(0, .ref a0), (1, .int i1), (2, .int i2), (4, .int i4)]) (st1 := [.int x3, .int i3]) ?_ (fun Jh4 => ?_)
        · clear hAh4 hlh4
          refine v_ixor C dX17_imageOf_38 ?_
          refine v_istore_n (ls' := [(3, _), (0, _), (1, _), (2, _), (4, _)]) C dX17_imageOf_39 rfl (by decide) rfl ?_
          refine v_iinc (ls' := [(4, _), (3, _), (0, _), (1, _), (2, _)]) (y := i4 + (1 : Int32)) C 4 dX17_imageOf_40 rfl rfl (by decide) rfl ?_
          refine v_goto (tgt := 5) C dX17_imageOf_43 (by decide) ?_
          refine v_sub (ls' := _) [2, 3, 4, 1, 0] rfl (ih (i3 ^^^ x3) (i4 + (1 : Int32)) _ _ _ hf hl J)
        · clear hf
          have hf := hAh4
          have hl := hlh4
          refine v_if_eq C hf (tgt := 37) dX17_imageOf_19 (by decide) (fun c19 hf => ?_) (fun c19 hf => ?_)
          · refine v_iconst (x := 0) C dX17_imageOf_37 (by decide) ?_
            obtain ⟨e1, rfl⟩ := mret_inv hf
            subst e1
            exact v_sub (ls' := _) [0, 1, 2, 4] rfl Jh4
          · refine v_aload_n C 0 dX17_imageOf_22 rfl rfl ?_
            refine v_gR (Cn := RX17) (T := TX17) (N := 37) C hf in_X17 rfl (by decide) q1828 rfl dX17_imageOf_23 (fun x5 hf => ?_)
            refine v_bipush (x := 12) C dX17_imageOf_26 (by decide) ?_
            refine v_iload_n C 1 dX17_imageOf_28 rfl rfl ?_
            refine v_imul C dX17_imageOf_29 ?_
            refine v_iload C 4 dX17_imageOf_30 rfl ?_
            refine v_iadd C dX17_imageOf_32 ?_
            refine v_iaload C hf dX17_imageOf_33 (fun x6 hf => ?_)
            refine v_goto (tgt := 38) C dX17_imageOf_34 (by decide) ?_
            obtain ⟨e1, rfl⟩ := mret_inv hf
            subst e1
            exact v_sub (ls' := _) [0, 1, 2, 4] rfl Jh4
  unfold f_X17_imageOf at hf
  refine v_iconst (x := 0) C dX17_imageOf_0 (by decide) ?_
  refine v_istore_n (ls' := [(3, _), (0, _), (1, _), (2, _)]) C dX17_imageOf_1 rfl (by decide) rfl ?_
  refine v_iconst (x := 0) C dX17_imageOf_2 (by decide) ?_
  refine v_istore (ls' := [(4, _), (3, _), (0, _), (1, _), (2, _)]) C dX17_imageOf_3 (by decide) rfl ?_
  obtain ⟨x7, h8, eh8, hf, hlh8⟩ := mb_inv hf hl
  refine v_sub (ls' := _) [2, 3, 4, 1, 0] rfl (L5 a0 i1 i2 FU (0 : Int32) (0 : Int32) _ _ _ eh8 hlh8 ?_)
  refine v_iload_n C 0 dX17_imageOf_46 rfl rfl ?_
  exact v_iret C E hf dX17_imageOf_47
def f_X17_choose (a0 : Nat) (i1 : Int32) : hM Int32 :=
  mb (f_X17_isSet i1) fun x1 => mi (¬ x1 = 0) (mb (gR a0 15 0) fun x3 => mb (aI 1 x3 (120 : Int32)) fun x4 => mb (f_X17_bits i1) fun x5 => mi (¬ x5 = (12 : Int32)) (mret (-2 : Int32)) (mb (mat a0 15 (f_X17_numberOf a0 i1)) fun x7 => mi (x7 < 0) (mret (-2 : Int32)) (mi (¬ i1 = x4) (mb (mat a0 15 (f_X17_notes a0)) fun _ => mb (gR a0 15 0) fun x11 => mb (sI 1 x11 (120 : Int32) i1) fun _ => mret x4) (mret (-2 : Int32))))) (mret (-1 : Int32))
theorem nd_X17_choose : yX17_choose.cls ≠ "java/lang/invoke/MethodHandle" ∧ yX17_choose.cls ≠ "java/lang/invoke/VarHandle" ∧ (parseMethodDescriptor yX17_choose.desc).map (fun d => d.parameters.length) = some 1 := by decide +kernel
set_option maxHeartbeats 4000000 in
theorem ct_X17_choose (l : Launch) (a0 : Nat) (i1 : Int32) : CT l yX17_choose cX17_choose 3 (some .int) 3 66 rvI [.ref a0, .int i1] (f_X17_choose a0 i1) := by
  refine CT_of (ls := [(0, .ref a0), (1, .int i1)]) (by decide) (Nat.le_of_ble_eq_true rfl) rfl ?_
  intro X h he z hX hf C E hnm hh
  have hl := hle.rf he
  subst hX
  unfold f_X17_choose at hf
  refine v_iload_n C 1 dX17_choose_0 rfl rfl ?_
  refine v_callS (stk := fun b => .int b :: []) C (ct_X17_isSet _ i1) nd_X17_isSet rfl (Nat.le_of_ble_eq_true rfl) (Nat.le_of_ble_eq_true rfl) [] (Nat.le_of_ble_eq_true rfl) (fun _ => rfl) rfl q1920 q1921 q127 q1922 hf hl dX17_choose_1 (fun x1 h2 hf => ?_)
  refine v_if_ne C hf (tgt := 9) dX17_choose_4 (by decide) (fun c4 hf => ?_) (fun c4 hf => ?_)
  · refine v_aload_n C 0 dX17_choose_9 rfl rfl ?_
    refine v_gR (Cn := RX17) (T := TX17) (N := 37) C hf in_X17 rfl (by decide) q1804 rfl dX17_choose_10 (fun x3 hf => ?_)
    refine v_bipush (x := 120) C dX17_choose_13 (by decide) ?_
    refine v_iaload C hf dX17_choose_15 (fun x4 hf => ?_)
    refine v_istore_n (ls' := [(2, _), (0, _), (1, _)]) C dX17_choose_16 rfl (by decide) rfl ?_
    refine v_iload_n C 2 dX17_choose_17 rfl rfl ?_
    refine v_callS (stk := fun b => .int b :: []) C (ct_X17_bits _ i1) nd_X17_bits rfl (Nat.le_of_ble_eq_true rfl) (Nat.le_of_ble_eq_true rfl) [] (Nat.le_of_ble_eq_true rfl) (fun _ => rfl) rfl q1801 q1802 q127 q1803 hf hl dX17_choose_18 (fun x5 h6 hf => ?_)
    refine v_bipush (x := 12) C dX17_choose_21 (by decide) ?_
    refine v_icmp_ne C hf (tgt := 39) dX17_choose_23 (by decide) (fun c23 hf => ?_) (fun c23 hf => ?_)
    · refine v_bipush (x := (-2)) C dX17_choose_39 (by decide) ?_
      exact v_iret C E hf dX17_choose_41
    · refine v_aload_n C 1 dX17_choose_26 rfl rfl ?_
      refine v_iload_n C 2 dX17_choose_27 rfl rfl ?_
      refine v_callV (stk := fun b => .int b :: []) C (ct_X17_numberOf _ a0 i1) rfl ⟨rfl, nd_X17_numberOf⟩ rfl (Nat.le_of_ble_eq_true rfl) (Nat.le_of_ble_eq_true rfl) [] (Nat.le_of_ble_eq_true rfl) (fun _ => rfl) rfl q1924 q1926 qs37 q127 q1927 hf hl dX17_choose_28 (fun x7 h8 hf => ?_)
      refine v_if_lt C hf (tgt := 39) dX17_choose_31 (by decide) (fun c31 hf => ?_) (fun c31 hf => ?_)
      · refine v_bipush (x := (-2)) C dX17_choose_39 (by decide) ?_
        exact v_iret C E hf dX17_choose_41
      · refine v_iload_n C 2 dX17_choose_34 rfl rfl ?_
        refine v_iload_n C 0 dX17_choose_35 rfl rfl ?_
        refine v_icmp_ne C hf (tgt := 42) dX17_choose_36 (by decide) (fun c36 hf => ?_) (fun c36 hf => ?_)
        · refine v_aload_n C 1 dX17_choose_42 rfl rfl ?_
          refine v_callV (stk := fun _ => []) C (ct_X17_notes _ a0) rfl ⟨rfl, nd_X17_notes⟩ rfl (Nat.le_of_ble_eq_true rfl) (Nat.le_of_ble_eq_true rfl) [] (Nat.le_of_ble_eq_true rfl) (fun _ => rfl) rfl q2131 q2133 qs70 q127 q2134 hf hl dX17_choose_43 (fun x9 h10 hf => ?_)
          refine v_aload_n C 1 dX17_choose_46 rfl rfl ?_
          refine v_gR (Cn := RX17) (T := TX17) (N := 37) C hf in_X17 rfl (by decide) q1804 rfl dX17_choose_47 (fun x11 hf => ?_)
          refine v_bipush (x := 120) C dX17_choose_50 (by decide) ?_
          refine v_iload_n C 2 dX17_choose_52 rfl rfl ?_
          refine v_iastore C hf dX17_choose_53 (fun h12 hf => ?_)
          refine v_iload_n C 0 dX17_choose_54 rfl rfl ?_
          exact v_iret C E hf dX17_choose_55
        · refine v_bipush (x := (-2)) C dX17_choose_39 (by decide) ?_
          exact v_iret C E hf dX17_choose_41
  · refine v_iconst (x := (-1)) C dX17_choose_7 (by decide) ?_
    exact v_iret C E hf dX17_choose_8
def f_X17_hexad (a0 : Nat) (i1 : Int32) : hM Int32 :=
  mb (f_X17_isSet i1) fun x1 => mi (¬ x1 = 0) (mb (f_X17_bits i1) fun x3 => mb (mi (¬ x3 = (5 : Int32)) (mret (-2 : Int32)) (mb (gR a0 15 0) fun x7 => mb (aI 1 x7 (120 : Int32)) fun x8 => mi ((i1 &&& (x8 ^^^ (-1 : Int32))) = 0) (mb (mat a0 15 (f_X17_octadOf a0 i1)) fun x9 => mb (gR a0 15 0) fun x11 => mb (aI 1 x11 (120 : Int32)) fun x12 => mret (x9 &&& x12)) (mret (-2 : Int32)))) fun x5 => mret x5) (mret (-1 : Int32))
theorem nd_X17_hexad : yX17_hexad.cls ≠ "java/lang/invoke/MethodHandle" ∧ yX17_hexad.cls ≠ "java/lang/invoke/VarHandle" ∧ (parseMethodDescriptor yX17_hexad.desc).map (fun d => d.parameters.length) = some 1 := by decide +kernel
set_option maxHeartbeats 4000000 in
theorem ct_X17_hexad (l : Launch) (a0 : Nat) (i1 : Int32) : CT l yX17_hexad cX17_hexad 2 (some .int) 2 45 rvI [.ref a0, .int i1] (f_X17_hexad a0 i1) := by
  refine CT_of (ls := [(0, .ref a0), (1, .int i1)]) (by decide) (Nat.le_of_ble_eq_true rfl) rfl ?_
  intro X h he z hX hf C E hnm hh
  have hl := hle.rf he
  subst hX
  unfold f_X17_hexad at hf
  refine v_iload_n C 1 dX17_hexad_0 rfl rfl ?_
  refine v_callS (stk := fun b => .int b :: []) C (ct_X17_isSet _ i1) nd_X17_isSet rfl (Nat.le_of_ble_eq_true rfl) (Nat.le_of_ble_eq_true rfl) [] (Nat.le_of_ble_eq_true rfl) (fun _ => rfl) rfl q1920 q1921 q127 q1922 hf hl dX17_hexad_1 (fun x1 h2 hf => ?_)
  refine v_if_ne C hf (tgt := 9) dX17_hexad_4 (by decide) (fun c4 hf => ?_) (fun c4 hf => ?_)
  · refine v_iload_n C 1 dX17_hexad_9 rfl rfl ?_
    refine v_callS (stk := fun b => .int b :: []) C (ct_X17_bits _ i1) nd_X17_bits rfl (Nat.le_of_ble_eq_true rfl) (Nat.le_of_ble_eq_true rfl) [] (Nat.le_of_ble_eq_true rfl) (fun _ => rfl) rfl q1801 q1802 q127 q1803 hf hl dX17_hexad_10 (fun x3 h4 hf => ?_)
    refine v_iconst (x := 5) C dX17_hexad_13 (by decide) ?_
    obtain ⟨x5, h6, hAh6, hf, hlh6⟩ := mb_inv hf hl
    refine v_cut (h1 := h6) (pc1 := 49) (ls1 := []) (st1 := [.int x5]) ?_ (fun Jh6 => ?_)
    · clear hAh6 hlh6
      exact v_iret C E hf dX17_hexad_49
    · clear hf
      have hf := hAh6
      have hl := hlh6
      refine v_icmp_ne C hf (tgt := 31) dX17_hexad_14 (by decide) (fun c14 hf => ?_) (fun c14 hf => ?_)
      · refine v_bipush (x := (-2)) C dX17_hexad_31 (by decide) ?_
        refine v_goto (tgt := 49) C dX17_hexad_33 (by decide) ?_
        obtain ⟨e1, rfl⟩ := mret_inv hf
        subst e1
        exact v_sub (ls' := _) [] rfl Jh6
      · refine v_iload_n C 1 dX17_hexad_17 rfl rfl ?_
        refine v_aload_n C 0 dX17_hexad_18 rfl rfl ?_
        refine v_gR (Cn := RX17) (T := TX17) (N := 37) C hf in_X17 rfl (by decide) q1804 rfl dX17_hexad_19 (fun x7 hf => ?_)
        refine v_bipush (x := 120) C dX17_hexad_22 (by decide) ?_
        refine v_iaload C hf dX17_hexad_24 (fun x8 hf => ?_)
        refine v_iconst (x := (-1)) C dX17_hexad_25 (by decide) ?_
        refine v_ixor C dX17_hexad_26 ?_
        refine v_iand C dX17_hexad_27 ?_
        refine v_if_eq C hf (tgt := 36) dX17_hexad_28 (by decide) (fun c28 hf => ?_) (fun c28 hf => ?_)
        · refine v_aload_n C 0 dX17_hexad_36 rfl rfl ?_
          refine v_iload_n C 1 dX17_hexad_37 rfl rfl ?_
          refine v_callV (stk := fun b => .int b :: []) C (ct_X17_octadOf _ a0 i1) rfl ⟨rfl, nd_X17_octadOf⟩ rfl (Nat.le_of_ble_eq_true rfl) (Nat.le_of_ble_eq_true rfl) [] (Nat.le_of_ble_eq_true rfl) (fun _ => rfl) rfl q1958 q1960 qs42 q127 q1961 hf hl dX17_hexad_38 (fun x9 h10 hf => ?_)
          refine v_aload_n C 0 dX17_hexad_41 rfl rfl ?_
          refine v_gR (Cn := RX17) (T := TX17) (N := 37) C hf in_X17 rfl (by decide) q1804 rfl dX17_hexad_42 (fun x11 hf => ?_)
          refine v_bipush (x := 120) C dX17_hexad_45 (by decide) ?_
          refine v_iaload C hf dX17_hexad_47 (fun x12 hf => ?_)
          refine v_iand C dX17_hexad_48 ?_
          obtain ⟨e1, rfl⟩ := mret_inv hf
          subst e1
          exact v_sub (ls' := _) [] rfl Jh6
        · refine v_bipush (x := (-2)) C dX17_hexad_31 (by decide) ?_
          refine v_goto (tgt := 49) C dX17_hexad_33 (by decide) ?_
          obtain ⟨e1, rfl⟩ := mret_inv hf
          subst e1
          exact v_sub (ls' := _) [] rfl Jh6
  · refine v_iconst (x := (-1)) C dX17_hexad_7 (by decide) ?_
    exact v_iret C E hf dX17_hexad_8
def l_X17_turn_53 (a0 : Nat) (i3 : Int32) : Nat → Int32 → Int32 → hM (Int32)
  | 0, _, _ => mfail
  | n + 1, i4, i5 => mi ((759 : Int32) ≤ i5) (mret i4) (mb (gR a0 15 5) fun x7 => mb (aI 1 x7 i5) fun x8 => mb (gR a0 15 0) fun x9 => mb (aI 1 x9 (120 : Int32)) fun x10 => mb (mi (¬ (x8 &&& (x10 ^^^ (-1 : Int32))) = i3) (mret (0 : Int32)) (mb (gR a0 15 5) fun x17 => mb (aI 1 x17 i5) fun x18 => mb (gR a0 15 0) fun x19 => mb (aI 1 x19 (120 : Int32)) fun x20 => mb (f_X17_lowest x20) fun x21 => mb (f_X17_has x18 x21) fun x23 => mi (x23 = 0) (mret (0 : Int32)) (mret (1 : Int32)))) fun x11 => mb (mi (x11 = 0) (mret i4) (mb (gR a0 15 5) fun x15 => mb (aI 1 x15 i5) fun x16 => mret (x16 &&& (i3 ^^^ (-1 : Int32))))) fun x13 => l_X17_turn_53 a0 i3 n x13 (i5 + (1 : Int32)))
def f_X17_turn (a0 : Nat) (i1 : Int32) (i2 : Int32) : hM Int32 :=
  mb (f_X17_isPlace i1.toInt64) fun x1 => mi (x1 = 0) (mret (-1 : Int32)) (mb (f_X17_isPlace i2.toInt64) fun x3 => mi (¬ x3 = 0) (mi (i1 = i2) (mret (-2 : Int32)) (mb (gR a0 15 0) fun x5 => mb (aI 1 x5 (120 : Int32)) fun x6 => mi (((((1 : Int32) <<< (i1 &&& 31)) ||| ((1 : Int32) <<< (i2 &&& 31))) &&& x6) = 0) (mb (l_X17_turn_53 a0 (((1 : Int32) <<< (i1 &&& 31)) ||| ((1 : Int32) <<< (i2 &&& 31))) FU (-4 : Int32) (0 : Int32)) fun x25 => mret x25) (mret (-2 : Int32)))) (mret (-1 : Int32)))
theorem nd_X17_turn : yX17_turn.cls ≠ "java/lang/invoke/MethodHandle" ∧ yX17_turn.cls ≠ "java/lang/invoke/VarHandle" ∧ (parseMethodDescriptor yX17_turn.desc).map (fun d => d.parameters.length) = some 2 := by decide +kernel
set_option maxHeartbeats 4000000 in
theorem ct_X17_turn (l : Launch) (a0 : Nat) (i1 : Int32) (i2 : Int32) : CT l yX17_turn cX17_turn 7 (some .int) 2 46 rvI [.ref a0, .int i1, .int i2] (f_X17_turn a0 i1 i2) := by
  refine CT_of (ls := [(0, .ref a0), (1, .int i1), (2, .int i2)]) (by decide) (Nat.le_of_ble_eq_true rfl) rfl ?_
  intro X h he z hX hf C E hnm hh
  have hl := hle.rf he
  subst hX
  have L53 : ∀ (a0 : Nat) (i3 : Int32) (n : Nat) (i4 : Int32) (i5 : Int32) (h h1 : Hp) (o : Int32), (l_X17_turn_53 a0 i3 n i4 i5).1 h = some (o, h1) → hle h1 he → V X h1 141 [(4, .int o)] [] → V X h 53 [(0, .ref a0), (3, .int i3), (4, .int i4), (5, .int i5)] [] := by
    intro a0 i3 n
    induction n with
    | zero => intro i4 i5 h h1 o hf; exact mfail_inv hf
    | succ n ih =>
      intro i4 i5 h h1 o hf hl J
      rw [l_X17_turn_53] at hf
      refine v_iload C 3 dX17_turn_53 rfl ?_
      refine v_sipush (x := 759) C dX17_turn_55 (by decide) ?_
      refine v_icmp_ge C hf (tgt := 141) dX17_turn_58 (by decide) (fun c58 hf => ?_) (fun c58 hf => ?_)
      · obtain ⟨e1, rfl⟩ := mret_inv hf
        subst e1
        exact v_sub (ls' := _) [2] rfl J
      · refine v_aload_n C 0 dX17_turn_61 rfl rfl ?_
        refine v_gR (Cn := RX17) (T := TX17) (N := 37) C hf in_X17 rfl (by decide) q1809 rfl dX17_turn_62 (fun x7 hf => ?_)
        refine v_iload C 3 dX17_turn_65 rfl ?_
        refine v_iaload C hf dX17_turn_67 (fun x8 hf => ?_)
        refine v_aload_n C 0 dX17_turn_68 rfl rfl ?_
        refine v_gR (Cn := RX17) (T := TX17) (N := 37) C hf in_X17 rfl (by decide) q1804 rfl dX17_turn_69 (fun x9 hf => ?_)
        refine v_bipush (x := 120) C dX17_turn_72 (by decide) ?_
        refine v_iaload C hf dX17_turn_74 (fun x10 hf => ?_)
        refine v_iconst (x := (-1)) C dX17_turn_75 (by decide) ?_
        refine v_ixor C dX17_turn_76 ?_
        refine v_iand C dX17_turn_77 ?_
        refine v_iload_n C 1 dX17_turn_78 rfl rfl ?_
        obtain ⟨x11, h12, hAh12, hf, hlh12⟩ := mb_inv hf hl
        refine v_cut (h1 := h12) (pc1 := 110) (ls1 := [(0, .ref a0), (3, .int i3), (4, .int i4), (5, .int i5)]) (st1 := [.int x11]) ?_ (fun Jh12 => ?_)
        · clear hAh12 hlh12
          refine v_istore (ls' := [(6, _), (0, _), (3, _), (4, _), (5, _)]) C dX17_turn_110 (by decide) rfl ?_
          refine v_iload C 0 dX17_turn_112 rfl ?_
          obtain ⟨x13, h14, hAh14, hf, hlh14⟩ := mb_inv hf hl
          refine v_cut (h1 := h14) (pc1 := 133) (ls1 := [(0, .ref a0), (3, .int i3), (5, .int i5)]) (st1 := [.int x13]) ?_ (fun Jh14 => ?_)
          · clear hAh14 hlh14
            refine v_istore (ls' := [(4, _), (0, _), (3, _), (5, _)]) C dX17_turn_133 (by decide) rfl ?_
            refine v_iinc (ls' := [(5, _), (4, _), (0, _), (3, _)]) (y := i5 + (1 : Int32)) C 3 dX17_turn_135 rfl rfl (by decide) rfl ?_
            refine v_goto (tgt := 53) C dX17_turn_138 (by decide) ?_
            refine v_sub (ls' := _) [2, 3, 1, 0] rfl (ih x13 (i5 + (1 : Int32)) _ _ _ hf hl J)
          · clear hf
            have hf := hAh14
            have hl := hlh14
            refine v_if_eq C hf (tgt := 131) dX17_turn_114 (by decide) (fun c114 hf => ?_) (fun c114 hf => ?_)
            · refine v_iload C 3 dX17_turn_131 rfl ?_
              obtain ⟨e1, rfl⟩ := mret_inv hf
              subst e1
              exact v_sub (ls' := _) [1, 2, 4] rfl Jh14
            · refine v_aload_n C 1 dX17_turn_117 rfl rfl ?_
              refine v_gR (Cn := RX17) (T := TX17) (N := 37) C hf in_X17 rfl (by decide) q1809 rfl dX17_turn_118 (fun x15 hf => ?_)
              refine v_iload C 4 dX17_turn_121 rfl ?_
              refine v_iaload C hf dX17_turn_123 (fun x16 hf => ?_)
              refine v_iload_n C 2 dX17_turn_124 rfl rfl ?_
              refine v_iconst (x := (-1)) C dX17_turn_125 (by decide) ?_
              refine v_ixor C dX17_turn_126 ?_
              refine v_iand C dX17_turn_127 ?_
              refine v_goto (tgt := 133) C dX17_turn_128 (by decide) ?_
              obtain ⟨e1, rfl⟩ := mret_inv hf
              subst e1
              exact v_sub (ls' := _) [1, 2, 4] rfl Jh14
        · clear hf
          have hf := hAh12
          have hl := hlh12
          refine v_icmp_ne C hf (tgt := 109) dX17_turn_79 (by decide) (fun c79 hf => ?_) (fun c79 hf => ?_)
          · refine v_iconst (x := 0) C dX17_turn_109 (by decide) ?_
            obtain ⟨e1, rfl⟩ := mret_inv hf
            subst e1
            exact v_sub (ls' := _) [0, 1, 2, 3] rfl Jh12
          · refine v_aload_n C 0 dX17_turn_82 rfl rfl ?_
            refine v_gR (Cn := RX17) (T := TX17) (N := 37) C hf in_X17 rfl (by decide) q1809 rfl dX17_turn_83 (fun x17 hf => ?_)
            refine v_iload C 3 dX17_turn_86 rfl ?_
            refine v_iaload C hf dX17_turn_88 (fun x18 hf => ?_)
            refine v_aload_n C 0 dX17_turn_89 rfl rfl ?_
            refine v_gR (Cn := RX17) (T := TX17) (N := 37) C hf in_X17 rfl (by decide) q1804 rfl dX17_turn_90 (fun x19 hf => ?_)
            refine v_bipush (x := 120) C dX17_turn_93 (by decide) ?_
            refine v_iaload C hf dX17_turn_95 (fun x20 hf => ?_)
            refine v_callS (stk := fun b => .int b :: [.int x18]) C (ct_X17_lowest _ x20) nd_X17_lowest rfl (Nat.le_of_ble_eq_true rfl) (Nat.le_of_ble_eq_true rfl) [.int x18] (Nat.le_of_ble_eq_true rfl) (fun _ => rfl) rfl q1798 q1799 q127 q1800 hf hl dX17_turn_96 (fun x21 h22 hf => ?_)
            refine v_callS (stk := fun b => .int b :: []) C (ct_X17_has _ x18 x21) nd_X17_has rfl (Nat.le_of_ble_eq_true rfl) (Nat.le_of_ble_eq_true rfl) [] (Nat.le_of_ble_eq_true rfl) (fun _ => rfl) rfl q1783 q1784 q127 q1785 hf hl dX17_turn_99 (fun x23 h24 hf => ?_)
            refine v_if_eq C hf (tgt := 109) dX17_turn_102 (by decide) (fun c102 hf => ?_) (fun c102 hf => ?_)
            · refine v_iconst (x := 0) C dX17_turn_109 (by decide) ?_
              obtain ⟨e1, rfl⟩ := mret_inv hf
              subst e1
              exact v_sub (ls' := _) [0, 1, 2, 3] rfl Jh12
            · refine v_iconst (x := 1) C dX17_turn_105 (by decide) ?_
              refine v_goto (tgt := 110) C dX17_turn_106 (by decide) ?_
              obtain ⟨e1, rfl⟩ := mret_inv hf
              subst e1
              exact v_sub (ls' := _) [0, 1, 2, 3] rfl Jh12
  unfold f_X17_turn at hf
  refine v_iload_n C 1 dX17_turn_0 rfl rfl ?_
  refine v_i2l C dX17_turn_1 ?_
  refine v_callS (stk := fun b => .int b :: []) C (ct_X17_isPlace _ i1.toInt64) nd_X17_isPlace rfl (Nat.le_of_ble_eq_true rfl) (Nat.le_of_ble_eq_true rfl) [] (Nat.le_of_ble_eq_true rfl) (fun _ => rfl) rfl q1993 q1994 q127 q1995 hf hl dX17_turn_2 (fun x1 h2 hf => ?_)
  refine v_if_eq C hf (tgt := 16) dX17_turn_5 (by decide) (fun c5 hf => ?_) (fun c5 hf => ?_)
  · refine v_iconst (x := (-1)) C dX17_turn_16 (by decide) ?_
    exact v_iret C E hf dX17_turn_17
  · refine v_iload_n C 2 dX17_turn_8 rfl rfl ?_
    refine v_i2l C dX17_turn_9 ?_
    refine v_callS (stk := fun b => .int b :: []) C (ct_X17_isPlace _ i2.toInt64) nd_X17_isPlace rfl (Nat.le_of_ble_eq_true rfl) (Nat.le_of_ble_eq_true rfl) [] (Nat.le_of_ble_eq_true rfl) (fun _ => rfl) rfl q1993 q1994 q127 q1995 hf hl dX17_turn_10 (fun x3 h4 hf => ?_)
    refine v_if_ne C hf (tgt := 18) dX17_turn_13 (by decide) (fun c13 hf => ?_) (fun c13 hf => ?_)
    · refine v_iconst (x := 1) C dX17_turn_18 (by decide) ?_
      refine v_iload_n C 1 dX17_turn_19 rfl rfl ?_
      refine v_ishl C dX17_turn_20 ?_
      refine v_iconst (x := 1) C dX17_turn_21 (by decide) ?_
      refine v_iload_n C 2 dX17_turn_22 rfl rfl ?_
      refine v_ishl C dX17_turn_23 ?_
      refine v_ior C dX17_turn_24 ?_
      refine v_istore_n (ls' := [(3, _), (0, _), (1, _), (2, _)]) C dX17_turn_25 rfl (by decide) rfl ?_
      refine v_iload_n C 2 dX17_turn_26 rfl rfl ?_
      refine v_iload_n C 3 dX17_turn_27 rfl rfl ?_
      refine v_icmp_eq C hf (tgt := 43) dX17_turn_28 (by decide) (fun c28 hf => ?_) (fun c28 hf => ?_)
      · refine v_bipush (x := (-2)) C dX17_turn_43 (by decide) ?_
        exact v_iret C E hf dX17_turn_45
      · refine v_iload_n C 0 dX17_turn_31 rfl rfl ?_
        refine v_aload_n C 1 dX17_turn_32 rfl rfl ?_
        refine v_gR (Cn := RX17) (T := TX17) (N := 37) C hf in_X17 rfl (by decide) q1804 rfl dX17_turn_33 (fun x5 hf => ?_)
        refine v_bipush (x := 120) C dX17_turn_36 (by decide) ?_
        refine v_iaload C hf dX17_turn_38 (fun x6 hf => ?_)
        refine v_iand C dX17_turn_39 ?_
        refine v_if_eq C hf (tgt := 46) dX17_turn_40 (by decide) (fun c40 hf => ?_) (fun c40 hf => ?_)
        · refine v_bipush (x := (-4)) C dX17_turn_46 (by decide) ?_
          refine v_istore (ls' := [(4, _), (3, _), (0, _), (1, _), (2, _)]) C dX17_turn_48 (by decide) rfl ?_
          refine v_iconst (x := 0) C dX17_turn_50 (by decide) ?_
          refine v_istore (ls' := [(5, _), (4, _), (3, _), (0, _), (1, _), (2, _)]) C dX17_turn_51 (by decide) rfl ?_
          obtain ⟨x25, h26, eh26, hf, hlh26⟩ := mb_inv hf hl
          refine v_sub (ls' := _) [3, 2, 1, 0] rfl (L53 a0 (((1 : Int32) <<< (i1 &&& 31)) ||| ((1 : Int32) <<< (i2 &&& 31))) FU (-4 : Int32) (0 : Int32) _ _ _ eh26 hlh26 ?_)
          refine v_iload C 0 dX17_turn_141 rfl ?_
          exact v_iret C E hf dX17_turn_143
        · refine v_bipush (x := (-2)) C dX17_turn_43 (by decide) ?_
          exact v_iret C E hf dX17_turn_45
    · refine v_iconst (x := (-1)) C dX17_turn_16 (by decide) ?_
      exact v_iret C E hf dX17_turn_17
def l_X17_pair_14 (a0 : Nat) (i1 : Int32) : Nat → Int32 → Int32 → hM (Int32)
  | 0, _, _ => mfail
  | n + 1, i2, i3 => mi ((759 : Int32) ≤ i3) (mret i2) (mb (f_X17_bits i1) fun x3 => mb (mi (¬ x3 = (6 : Int32)) (mret i2) (mb (gR a0 15 5) fun x7 => mb (aI 1 x7 i3) fun x8 => mb (gR a0 15 0) fun x9 => mb (aI 1 x9 (120 : Int32)) fun x10 => mi (¬ (x8 &&& x10) = i1) (mret i2) (mb (gR a0 15 5) fun x11 => mb (aI 1 x11 i3) fun x12 => mret (x12 &&& (i1 ^^^ (-1 : Int32)))))) fun x5 => l_X17_pair_14 a0 i1 n x5 (i3 + (1 : Int32)))
def f_X17_pair (a0 : Nat) (i1 : Int32) : hM Int32 :=
  mb (f_X17_isSet i1) fun x1 => mi (¬ x1 = 0) (mb (l_X17_pair_14 a0 i1 FU (-2 : Int32) (0 : Int32)) fun x13 => mret x13) (mret (-1 : Int32))
theorem nd_X17_pair : yX17_pair.cls ≠ "java/lang/invoke/MethodHandle" ∧ yX17_pair.cls ≠ "java/lang/invoke/VarHandle" ∧ (parseMethodDescriptor yX17_pair.desc).map (fun d => d.parameters.length) = some 1 := by decide +kernel
set_option maxHeartbeats 4000000 in
theorem ct_X17_pair (l : Launch) (a0 : Nat) (i1 : Int32) : CT l yX17_pair cX17_pair 4 (some .int) 2 45 rvI [.ref a0, .int i1] (f_X17_pair a0 i1) := by
  refine CT_of (ls := [(0, .ref a0), (1, .int i1)]) (by decide) (Nat.le_of_ble_eq_true rfl) rfl ?_
  intro X h he z hX hf C E hnm hh
  have hl := hle.rf he
  subst hX
  have L14 : ∀ (a0 : Nat) (i1 : Int32) (n : Nat) (i2 : Int32) (i3 : Int32) (h h1 : Hp) (o : Int32), (l_X17_pair_14 a0 i1 n i2 i3).1 h = some (o, h1) → hle h1 he → V X h1 69 [(2, .int o)] [] → V X h 14 [(0, .ref a0), (1, .int i1), (2, .int i2), (3, .int i3)] [] := by
    intro a0 i1 n
    induction n with
    | zero => intro i2 i3 h h1 o hf; exact mfail_inv hf
    | succ n ih =>
      intro i2 i3 h h1 o hf hl J
      rw [l_X17_pair_14] at hf
      refine v_iload_n C 3 dX17_pair_14 rfl rfl ?_
      refine v_sipush (x := 759) C dX17_pair_15 (by decide) ?_
      refine v_icmp_ge C hf (tgt := 69) dX17_pair_18 (by decide) (fun c18 hf => ?_) (fun c18 hf => ?_)
      · obtain ⟨e1, rfl⟩ := mret_inv hf
        subst e1
        exact v_sub (ls' := _) [2] rfl J
      · refine v_iload_n C 1 dX17_pair_21 rfl rfl ?_
        refine v_callS (stk := fun b => .int b :: []) C (ct_X17_bits _ i1) nd_X17_bits rfl (Nat.le_of_ble_eq_true rfl) (Nat.le_of_ble_eq_true rfl) [] (Nat.le_of_ble_eq_true rfl) (fun _ => rfl) rfl q1801 q1802 q127 q1803 hf hl dX17_pair_22 (fun x3 h4 hf => ?_)
        refine v_bipush (x := 6) C dX17_pair_25 (by decide) ?_
        obtain ⟨x5, h6, hAh6, hf, hlh6⟩ := mb_inv hf hl
        refine v_cut (h1 := h6) (pc1 := 62) (ls1 := [(0, .ref a0), (1, .int i1), (3, .int i3)]) (st1 := [.int x5]) ?_ (fun Jh6 => ?_)
        · clear hAh6 hlh6
          refine v_istore_n (ls' := [(2, _), (0, _), (1, _), (3, _)]) C dX17_pair_62 rfl (by decide) rfl ?_
          refine v_iinc (ls' := [(3, _), (2, _), (0, _), (1, _)]) (y := i3 + (1 : Int32)) C 3 dX17_pair_63 rfl rfl (by decide) rfl ?_
          refine v_goto (tgt := 14) C dX17_pair_66 (by decide) ?_
          refine v_sub (ls' := _) [2, 3, 1, 0] rfl (ih x5 (i3 + (1 : Int32)) _ _ _ hf hl J)
        · clear hf
          have hf := hAh6
          have hl := hlh6
          refine v_icmp_ne C hf (tgt := 61) dX17_pair_27 (by decide) (fun c27 hf => ?_) (fun c27 hf => ?_)
          · refine v_iload_n C 2 dX17_pair_61 rfl rfl ?_
            obtain ⟨e1, rfl⟩ := mret_inv hf
            subst e1
            exact v_sub (ls' := _) [0, 1, 3] rfl Jh6
          · refine v_aload_n C 0 dX17_pair_30 rfl rfl ?_
            refine v_gR (Cn := RX17) (T := TX17) (N := 37) C hf in_X17 rfl (by decide) q1809 rfl dX17_pair_31 (fun x7 hf => ?_)
            refine v_iload_n C 3 dX17_pair_34 rfl rfl ?_
            refine v_iaload C hf dX17_pair_35 (fun x8 hf => ?_)
            refine v_aload_n C 0 dX17_pair_36 rfl rfl ?_
            refine v_gR (Cn := RX17) (T := TX17) (N := 37) C hf in_X17 rfl (by decide) q1804 rfl dX17_pair_37 (fun x9 hf => ?_)
            refine v_bipush (x := 120) C dX17_pair_40 (by decide) ?_
            refine v_iaload C hf dX17_pair_42 (fun x10 hf => ?_)
            refine v_iand C dX17_pair_43 ?_
            refine v_iload_n C 1 dX17_pair_44 rfl rfl ?_
            refine v_icmp_ne C hf (tgt := 61) dX17_pair_45 (by decide) (fun c45 hf => ?_) (fun c45 hf => ?_)
            · refine v_iload_n C 2 dX17_pair_61 rfl rfl ?_
              obtain ⟨e1, rfl⟩ := mret_inv hf
              subst e1
              exact v_sub (ls' := _) [0, 1, 3] rfl Jh6
            · refine v_aload_n C 0 dX17_pair_48 rfl rfl ?_
              refine v_gR (Cn := RX17) (T := TX17) (N := 37) C hf in_X17 rfl (by decide) q1809 rfl dX17_pair_49 (fun x11 hf => ?_)
              refine v_iload_n C 3 dX17_pair_52 rfl rfl ?_
              refine v_iaload C hf dX17_pair_53 (fun x12 hf => ?_)
              refine v_iload_n C 1 dX17_pair_54 rfl rfl ?_
              refine v_iconst (x := (-1)) C dX17_pair_55 (by decide) ?_
              refine v_ixor C dX17_pair_56 ?_
              refine v_iand C dX17_pair_57 ?_
              refine v_goto (tgt := 62) C dX17_pair_58 (by decide) ?_
              obtain ⟨e1, rfl⟩ := mret_inv hf
              subst e1
              exact v_sub (ls' := _) [0, 1, 3] rfl Jh6
  unfold f_X17_pair at hf
  refine v_iload_n C 1 dX17_pair_0 rfl rfl ?_
  refine v_callS (stk := fun b => .int b :: []) C (ct_X17_isSet _ i1) nd_X17_isSet rfl (Nat.le_of_ble_eq_true rfl) (Nat.le_of_ble_eq_true rfl) [] (Nat.le_of_ble_eq_true rfl) (fun _ => rfl) rfl q1920 q1921 q127 q1922 hf hl dX17_pair_1 (fun x1 h2 hf => ?_)
  refine v_if_ne C hf (tgt := 9) dX17_pair_4 (by decide) (fun c4 hf => ?_) (fun c4 hf => ?_)
  · refine v_bipush (x := (-2)) C dX17_pair_9 (by decide) ?_
    refine v_istore_n (ls' := [(2, _), (0, _), (1, _)]) C dX17_pair_11 rfl (by decide) rfl ?_
    refine v_iconst (x := 0) C dX17_pair_12 (by decide) ?_
    refine v_istore_n (ls' := [(3, _), (2, _), (0, _), (1, _)]) C dX17_pair_13 rfl (by decide) rfl ?_
    obtain ⟨x13, h14, eh14, hf, hlh14⟩ := mb_inv hf hl
    refine v_sub (ls' := _) [2, 3, 1, 0] rfl (L14 a0 i1 FU (-2 : Int32) (0 : Int32) _ _ _ eh14 hlh14 ?_)
    refine v_iload_n C 0 dX17_pair_69 rfl rfl ?_
    exact v_iret C E hf dX17_pair_70
  · refine v_iconst (x := (-1)) C dX17_pair_7 (by decide) ?_
    exact v_iret C E hf dX17_pair_8
def l_X17_undo_22 (a0 : Nat) : Nat → Int32 → hM (Unit)
  | 0, _ => mfail
  | n + 1, i1 => mi ((122 : Int32) ≤ i1) (mret ()) (mb (gR a0 15 0) fun x4 => mb (gR a0 15 27) fun x5 => mb (gI a0 15 28) fun x6 => mb (aI 1 x5 (((122 : Int32) * x6) + i1)) fun x7 => mb (sI 1 x4 i1 x7) fun _ => l_X17_undo_22 a0 n (i1 + (1 : Int32)))
def f_X17_undo (a0 : Nat) : hM Int32 :=
  mb (gI a0 15 28) fun x1 => mi (¬ x1 = 0) (mb (gI a0 15 28) fun x2 => mb (pF a0 15 28 (.int (x2 - (1 : Int32)))) fun _ => mb (l_X17_undo_22 a0 FU (0 : Int32)) fun x9 => mb (gI a0 15 28) fun x11 => mret x11) (mret (-4 : Int32))
theorem nd_X17_undo : yX17_undo.cls ≠ "java/lang/invoke/MethodHandle" ∧ yX17_undo.cls ≠ "java/lang/invoke/VarHandle" ∧ (parseMethodDescriptor yX17_undo.desc).map (fun d => d.parameters.length) = some 0 := by decide +kernel
set_option maxHeartbeats 4000000 in
theorem ct_X17_undo (l : Launch) (a0 : Nat) : CT l yX17_undo cX17_undo 2 (some .int) 0 0 rvI [.ref a0] (f_X17_undo a0) := by
  refine CT_of (ls := [(0, .ref a0)]) (by decide) (Nat.le_of_ble_eq_true rfl) rfl ?_
  intro X h he z hX hf C E hnm hh
  have hl := hle.rf he
  subst hX
  have L22 : ∀ (a0 : Nat) (n : Nat) (i1 : Int32) (h h1 : Hp) (o : Unit), (l_X17_undo_22 a0 n i1).1 h = some (o, h1) → hle h1 he → V X h1 54 [(0, .ref a0)] [] → V X h 22 [(0, .ref a0), (1, .int i1)] [] := by
    intro a0 n
    induction n with
    | zero => intro i1 h h1 o hf; exact mfail_inv hf
    | succ n ih =>
      intro i1 h h1 o hf hl J
      rw [l_X17_undo_22] at hf
      refine v_iload_n C 1 dX17_undo_22 rfl rfl ?_
      refine v_bipush (x := 122) C dX17_undo_23 (by decide) ?_
      refine v_icmp_ge C hf (tgt := 54) dX17_undo_25 (by decide) (fun c25 hf => ?_) (fun c25 hf => ?_)
      · obtain ⟨e1, rfl⟩ := mret_inv hf
        subst e1
        exact v_sub (ls' := _) [0] rfl J
      · refine v_aload_n C 0 dX17_undo_28 rfl rfl ?_
        refine v_gR (Cn := RX17) (T := TX17) (N := 37) C hf in_X17 rfl (by decide) q1804 rfl dX17_undo_29 (fun x4 hf => ?_)
        refine v_iload_n C 1 dX17_undo_32 rfl rfl ?_
        refine v_aload_n C 0 dX17_undo_33 rfl rfl ?_
        refine v_gR (Cn := RX17) (T := TX17) (N := 37) C hf in_X17 rfl (by decide) q1831 rfl dX17_undo_34 (fun x5 hf => ?_)
        refine v_bipush (x := 122) C dX17_undo_37 (by decide) ?_
        refine v_aload_n C 0 dX17_undo_39 rfl rfl ?_
        refine v_gI (Cn := RX17) (T := TX17) (N := 37) C hf in_X17 rfl (by decide) q1832 rfl dX17_undo_40 (fun x6 hf => ?_)
        refine v_imul C dX17_undo_43 ?_
        refine v_iload_n C 1 dX17_undo_44 rfl rfl ?_
        refine v_iadd C dX17_undo_45 ?_
        refine v_iaload C hf dX17_undo_46 (fun x7 hf => ?_)
        refine v_iastore C hf dX17_undo_47 (fun h8 hf => ?_)
        refine v_iinc (ls' := [(1, _), (0, _)]) (y := i1 + (1 : Int32)) C 1 dX17_undo_48 rfl rfl (by decide) rfl ?_
        refine v_goto (tgt := 22) C dX17_undo_51 (by decide) ?_
        refine v_sub (ls' := _) [1, 0] rfl (ih (i1 + (1 : Int32)) _ _ _ hf hl J)
  unfold f_X17_undo at hf
  refine v_aload_n C 0 dX17_undo_0 rfl rfl ?_
  refine v_gI (Cn := RX17) (T := TX17) (N := 37) C hf in_X17 rfl (by decide) q1832 rfl dX17_undo_1 (fun x1 hf => ?_)
  refine v_if_ne C hf (tgt := 10) dX17_undo_4 (by decide) (fun c4 hf => ?_) (fun c4 hf => ?_)
  · refine v_aload_n C 0 dX17_undo_10 rfl rfl ?_
    refine v_dup C dX17_undo_11 rfl ?_
    refine v_gI (Cn := RX17) (T := TX17) (N := 37) C hf in_X17 rfl (by decide) q1832 rfl dX17_undo_12 (fun x2 hf => ?_)
    refine v_iconst (x := 1) C dX17_undo_15 (by decide) ?_
    refine v_isub C dX17_undo_16 ?_
    refine v_putv (Cn := RX17) (T := TX17) (N := 37) (ty0 := tyX17) C hf in_X17 tyX17_ok nmX17 rfl (by decide) q1832 rfl rfl rfl rfl dX17_undo_17 (fun h3 hf => ?_)
    refine v_iconst (x := 0) C dX17_undo_20 (by decide) ?_
    refine v_istore_n (ls' := [(1, _), (0, _)]) C dX17_undo_21 rfl (by decide) rfl ?_
    obtain ⟨x9, h10, eh10, hf, hlh10⟩ := mb_inv hf hl
    refine v_sub (ls' := _) [1, 0] rfl (L22 a0 FU (0 : Int32) _ _ _ eh10 hlh10 ?_)
    refine v_aload_n C 0 dX17_undo_54 rfl rfl ?_
    refine v_gI (Cn := RX17) (T := TX17) (N := 37) C hf in_X17 rfl (by decide) q1832 rfl dX17_undo_55 (fun x11 hf => ?_)
    exact v_iret C E hf dX17_undo_58
  · refine v_bipush (x := (-4)) C dX17_undo_7 (by decide) ?_
    exact v_iret C E hf dX17_undo_9
def l_X17_doubles_2 (a0 : Nat) (i1 : Int32) (i2 : Int32) : Nat → Int32 → hM (Unit)
  | 0, _ => mfail
  | n + 1, i3 => mi ((24 : Int32) ≤ i3) (mret ()) (mb (gR a0 15 13) fun x1 => mb (mat a0 15 (f_X17_to a0 i1 i3)) fun x2 => mb (mat a0 15 (f_X17_to a0 i2 x2)) fun x4 => mb (sI 1 x1 i3 x4) fun _ => l_X17_doubles_2 a0 i1 i2 n (i3 + (1 : Int32)))
def l_X17_doubles_33 (a0 : Nat) (i1 : Int32) : Nat → Int32 → hM (Unit)
  | 0, _ => mfail
  | n + 1, i3 => mi ((24 : Int32) ≤ i3) (mret ()) (mb (gR a0 15 0) fun x9 => mb (gR a0 15 13) fun x10 => mb (aI 1 x10 i3) fun x11 => mb (sI 1 x9 (((24 : Int32) * i1) + i3) x11) fun _ => l_X17_doubles_33 a0 i1 n (i3 + (1 : Int32)))
def f_X17_doubles (a0 : Nat) (i1 : Int32) (i2 : Int32) : hM Unit :=
  mb (l_X17_doubles_2 a0 i1 i2 FU (0 : Int32)) fun x7 => mb (l_X17_doubles_33 a0 i1 FU (0 : Int32)) fun x13 => mret ()
theorem nd_X17_doubles : yX17_doubles.cls ≠ "java/lang/invoke/MethodHandle" ∧ yX17_doubles.cls ≠ "java/lang/invoke/VarHandle" ∧ (parseMethodDescriptor yX17_doubles.desc).map (fun d => d.parameters.length) = some 2 := by decide +kernel
set_option maxHeartbeats 4000000 in
theorem ct_X17_doubles (l : Launch) (a0 : Nat) (i1 : Int32) (i2 : Int32) : CT l yX17_doubles cX17_doubles 4 none 1 22 rv0 [.ref a0, .int i1, .int i2] (f_X17_doubles a0 i1 i2) := by
  refine CT_of (ls := [(0, .ref a0), (1, .int i1), (2, .int i2)]) (by decide) (Nat.le_of_ble_eq_true rfl) rfl ?_
  intro X h he z hX hf C E hnm hh
  have hl := hle.rf he
  subst hX
  have L2 : ∀ (a0 : Nat) (i1 : Int32) (i2 : Int32) (n : Nat) (i3 : Int32) (h h1 : Hp) (o : Unit), (l_X17_doubles_2 a0 i1 i2 n i3).1 h = some (o, h1) → hle h1 he → V X h1 31 [(0, .ref a0), (1, .int i1)] [] → V X h 2 [(0, .ref a0), (1, .int i1), (2, .int i2), (3, .int i3)] [] := by
    intro a0 i1 i2 n
    induction n with
    | zero => intro i3 h h1 o hf; exact mfail_inv hf
    | succ n ih =>
      intro i3 h h1 o hf hl J
      rw [l_X17_doubles_2] at hf
      refine v_iload_n C 3 dX17_doubles_2 rfl rfl ?_
      refine v_bipush (x := 24) C dX17_doubles_3 (by decide) ?_
      refine v_icmp_ge C hf (tgt := 31) dX17_doubles_5 (by decide) (fun c5 hf => ?_) (fun c5 hf => ?_)
      · obtain ⟨e1, rfl⟩ := mret_inv hf
        subst e1
        exact v_sub (ls' := _) [0, 1] rfl J
      · refine v_aload_n C 0 dX17_doubles_8 rfl rfl ?_
        refine v_gR (Cn := RX17) (T := TX17) (N := 37) C hf in_X17 rfl (by decide) q1817 rfl dX17_doubles_9 (fun x1 hf => ?_)
        refine v_iload_n C 3 dX17_doubles_12 rfl rfl ?_
        refine v_aload_n C 0 dX17_doubles_13 rfl rfl ?_
        refine v_iload_n C 2 dX17_doubles_14 rfl rfl ?_
        refine v_aload_n C 0 dX17_doubles_15 rfl rfl ?_
        refine v_iload_n C 1 dX17_doubles_16 rfl rfl ?_
        refine v_iload_n C 3 dX17_doubles_17 rfl rfl ?_
        refine v_callV (stk := fun b => .int b :: [.int i2, .ref a0, .int i3, .ref x1]) C (ct_X17_to _ a0 i1 i3) rfl ⟨rfl, nd_X17_to⟩ rfl (Nat.le_of_ble_eq_true rfl) (Nat.le_of_ble_eq_true rfl) [.int i2, .ref a0, .int i3, .ref x1] (Nat.le_of_ble_eq_true rfl) (fun _ => rfl) rfl q1997 q1999 qs45 q127 q2000 hf hl dX17_doubles_18 (fun x2 h3 hf => ?_)
        refine v_callV (stk := fun b => .int b :: [.int i3, .ref x1]) C (ct_X17_to _ a0 i2 x2) rfl ⟨rfl, nd_X17_to⟩ rfl (Nat.le_of_ble_eq_true rfl) (Nat.le_of_ble_eq_true rfl) [.int i3, .ref x1] (Nat.le_of_ble_eq_true rfl) (fun _ => rfl) rfl q1997 q1999 qs45 q127 q2000 hf hl dX17_doubles_21 (fun x4 h5 hf => ?_)
        refine v_iastore C hf dX17_doubles_24 (fun h6 hf => ?_)
        refine v_iinc (ls' := [(3, _), (0, _), (1, _), (2, _)]) (y := i3 + (1 : Int32)) C 3 dX17_doubles_25 rfl rfl (by decide) rfl ?_
        refine v_goto (tgt := 2) C dX17_doubles_28 (by decide) ?_
        refine v_sub (ls' := _) [1, 2, 3, 0] rfl (ih (i3 + (1 : Int32)) _ _ _ hf hl J)
  have L33 : ∀ (a0 : Nat) (i1 : Int32) (n : Nat) (i3 : Int32) (h h1 : Hp) (o : Unit), (l_X17_doubles_33 a0 i1 n i3).1 h = some (o, h1) → hle h1 he → V X h1 62 [] [] → V X h 33 [(0, .ref a0), (1, .int i1), (3, .int i3)] [] := by
    intro a0 i1 n
    induction n with
    | zero => intro i3 h h1 o hf; exact mfail_inv hf
    | succ n ih =>
      intro i3 h h1 o hf hl J
      rw [l_X17_doubles_33] at hf
      refine v_iload_n C 2 dX17_doubles_33 rfl rfl ?_
      refine v_bipush (x := 24) C dX17_doubles_34 (by decide) ?_
      refine v_icmp_ge C hf (tgt := 62) dX17_doubles_36 (by decide) (fun c36 hf => ?_) (fun c36 hf => ?_)
      · obtain ⟨e1, rfl⟩ := mret_inv hf
        subst e1
        exact v_sub (ls' := _) [] rfl J
      · refine v_aload_n C 0 dX17_doubles_39 rfl rfl ?_
        refine v_gR (Cn := RX17) (T := TX17) (N := 37) C hf in_X17 rfl (by decide) q1804 rfl dX17_doubles_40 (fun x9 hf => ?_)
        refine v_bipush (x := 24) C dX17_doubles_43 (by decide) ?_
        refine v_iload_n C 1 dX17_doubles_45 rfl rfl ?_
        refine v_imul C dX17_doubles_46 ?_
        refine v_iload_n C 2 dX17_doubles_47 rfl rfl ?_
        refine v_iadd C dX17_doubles_48 ?_
        refine v_aload_n C 0 dX17_doubles_49 rfl rfl ?_
        refine v_gR (Cn := RX17) (T := TX17) (N := 37) C hf in_X17 rfl (by decide) q1817 rfl dX17_doubles_50 (fun x10 hf => ?_)
        refine v_iload_n C 2 dX17_doubles_53 rfl rfl ?_
        refine v_iaload C hf dX17_doubles_54 (fun x11 hf => ?_)
        refine v_iastore C hf dX17_doubles_55 (fun h12 hf => ?_)
        refine v_iinc (ls' := [(3, _), (0, _), (1, _)]) (y := i3 + (1 : Int32)) C 2 dX17_doubles_56 rfl rfl (by decide) rfl ?_
        refine v_goto (tgt := 33) C dX17_doubles_59 (by decide) ?_
        refine v_sub (ls' := _) [1, 2, 0] rfl (ih (i3 + (1 : Int32)) _ _ _ hf hl J)
  unfold f_X17_doubles at hf
  refine v_iconst (x := 0) C dX17_doubles_0 (by decide) ?_
  refine v_istore_n (ls' := [(3, _), (0, _), (1, _), (2, _)]) C dX17_doubles_1 rfl (by decide) rfl ?_
  obtain ⟨x7, h8, eh8, hf, hlh8⟩ := mb_inv hf hl
  refine v_sub (ls' := _) [1, 2, 3, 0] rfl (L2 a0 i1 i2 FU (0 : Int32) _ _ _ eh8 hlh8 ?_)
  refine v_iconst (x := 0) C dX17_doubles_31 (by decide) ?_
  refine v_istore_n (ls' := [(3, _), (0, _), (1, _)]) C dX17_doubles_32 rfl (by decide) rfl ?_
  obtain ⟨x13, h14, eh14, hf, hlh14⟩ := mb_inv hf hl
  refine v_sub (ls' := _) [1, 2, 0] rfl (L33 a0 i1 FU (0 : Int32) _ _ _ eh14 hlh14 ?_)
  exact v_vret C E hf dX17_doubles_62
def f_X17_seed (a0 : Nat) (i1 : Int32) : hM Int32 :=
  mi (0 ≤ i1) (mb (gR a0 15 0) fun x1 => mb (aI 1 x1 (121 : Int32)) fun x2 => mb (gR a0 15 0) fun x3 => mb (sI 1 x3 (121 : Int32) i1) fun _ => mret x2) (mret (-1 : Int32))
theorem nd_X17_seed : yX17_seed.cls ≠ "java/lang/invoke/MethodHandle" ∧ yX17_seed.cls ≠ "java/lang/invoke/VarHandle" ∧ (parseMethodDescriptor yX17_seed.desc).map (fun d => d.parameters.length) = some 1 := by decide +kernel
set_option maxHeartbeats 4000000 in
theorem ct_X17_seed (l : Launch) (a0 : Nat) (i1 : Int32) : CT l yX17_seed cX17_seed 3 (some .int) 0 0 rvI [.ref a0, .int i1] (f_X17_seed a0 i1) := by
  refine CT_of (ls := [(0, .ref a0), (1, .int i1)]) (by decide) (Nat.le_of_ble_eq_true rfl) rfl ?_
  intro X h he z hX hf C E hnm hh
  have hl := hle.rf he
  subst hX
  unfold f_X17_seed at hf
  refine v_iload_n C 1 dX17_seed_0 rfl rfl ?_
  refine v_if_ge C hf (tgt := 6) dX17_seed_1 (by decide) (fun c1 hf => ?_) (fun c1 hf => ?_)
  · refine v_aload_n C 0 dX17_seed_6 rfl rfl ?_
    refine v_gR (Cn := RX17) (T := TX17) (N := 37) C hf in_X17 rfl (by decide) q1804 rfl dX17_seed_7 (fun x1 hf => ?_)
    refine v_bipush (x := 121) C dX17_seed_10 (by decide) ?_
    refine v_iaload C hf dX17_seed_12 (fun x2 hf => ?_)
    refine v_istore_n (ls' := [(2, _), (0, _), (1, _)]) C dX17_seed_13 rfl (by decide) rfl ?_
    refine v_aload_n C 1 dX17_seed_14 rfl rfl ?_
    refine v_gR (Cn := RX17) (T := TX17) (N := 37) C hf in_X17 rfl (by decide) q1804 rfl dX17_seed_15 (fun x3 hf => ?_)
    refine v_bipush (x := 121) C dX17_seed_18 (by decide) ?_
    refine v_iload_n C 2 dX17_seed_20 rfl rfl ?_
    refine v_iastore C hf dX17_seed_21 (fun h4 hf => ?_)
    refine v_iload_n C 0 dX17_seed_22 rfl rfl ?_
    exact v_iret C E hf dX17_seed_23
  · refine v_iconst (x := (-1)) C dX17_seed_4 (by decide) ?_
    exact v_iret C E hf dX17_seed_5
def l_X17_count_47 (a0 : Nat) : Nat → Int32 → Int32 → hM (Int32)
  | 0, _, _ => mfail
  | n + 1, i2, i3 => mi ((5 : Int32) ≤ i3) (mret i2) (mb (mat a0 15 (f_X17_keeps a0 i3)) fun x4 => mb (mi (x4 = 0) (mret (0 : Int32)) (mret ((1 : Int32) <<< (i3 &&& 31)))) fun x6 => l_X17_count_47 a0 n (i2 ||| x6) (i3 + (1 : Int32)))
def f_X17_count (a0 : Nat) (i1 : Int32) : hM Int32 :=
  mi (i1 = 0) (mb (gR a0 15 0) fun x1 => mb (aI 1 x1 (120 : Int32)) fun x2 => mret x2) (mi (i1 = 1) (mb (gI a0 15 28) fun x3 => mret x3) (mi (i1 = 2) (mb (l_X17_count_47 a0 FU (0 : Int32) (0 : Int32)) fun x8 => mret x8) (mi (i1 = 3) (mb (gI a0 15 31) fun x10 => mb (mi (0 ≤ x10) (mret (1 : Int32)) (mret (0 : Int32))) fun x11 => mret x11) (mret (-1 : Int32)))))
theorem nd_X17_count : yX17_count.cls ≠ "java/lang/invoke/MethodHandle" ∧ yX17_count.cls ≠ "java/lang/invoke/VarHandle" ∧ (parseMethodDescriptor yX17_count.desc).map (fun d => d.parameters.length) = some 1 := by decide +kernel
set_option maxHeartbeats 4000000 in
theorem ct_X17_count (l : Launch) (a0 : Nat) (i1 : Int32) : CT l yX17_count cX17_count 4 (some .int) 4 89 rvI [.ref a0, .int i1] (f_X17_count a0 i1) := by
  refine CT_of (ls := [(0, .ref a0), (1, .int i1)]) (by decide) (Nat.le_of_ble_eq_true rfl) rfl ?_
  intro X h he z hX hf C E hnm hh
  have hl := hle.rf he
  subst hX
  have L47 : ∀ (a0 : Nat) (n : Nat) (i2 : Int32) (i3 : Int32) (h h1 : Hp) (o : Int32), (l_X17_count_47 a0 n i2 i3).1 h = some (o, h1) → hle h1 he → V X h1 76 [(2, .int o)] [] → V X h 47 [(0, .ref a0), (2, .int i2), (3, .int i3)] [] := by
    intro a0 n
    induction n with
    | zero => intro i2 i3 h h1 o hf; exact mfail_inv hf
    | succ n ih =>
      intro i2 i3 h h1 o hf hl J
      rw [l_X17_count_47] at hf
      refine v_iload_n C 2 dX17_count_47 rfl rfl ?_
      refine v_iconst (x := 5) C dX17_count_48 (by decide) ?_
      refine v_icmp_ge C hf (tgt := 76) dX17_count_49 (by decide) (fun c49 hf => ?_) (fun c49 hf => ?_)
      · obtain ⟨e1, rfl⟩ := mret_inv hf
        subst e1
        exact v_sub (ls' := _) [1] rfl J
      · refine v_iload_n C 1 dX17_count_52 rfl rfl ?_
        refine v_aload_n C 0 dX17_count_53 rfl rfl ?_
        refine v_iload_n C 2 dX17_count_54 rfl rfl ?_
        refine v_callV (stk := fun b => .int b :: [.int i2]) C (ct_X17_keeps _ a0 i3) rfl ⟨rfl, nd_X17_keeps⟩ rfl (Nat.le_of_ble_eq_true rfl) (Nat.le_of_ble_eq_true rfl) [.int i2] (Nat.le_of_ble_eq_true rfl) (fun _ => rfl) rfl q2013 q2015 qs47 q127 q2016 hf hl dX17_count_55 (fun x4 h5 hf => ?_)
        obtain ⟨x6, h7, hAh7, hf, hlh7⟩ := mb_inv hf hl
        refine v_cut (h1 := h7) (pc1 := 68) (ls1 := [(0, .ref a0), (3, .int i3)]) (st1 := [.int x6, .int i2]) ?_ (fun Jh7 => ?_)
        · clear hAh7 hlh7
          refine v_ior C dX17_count_68 ?_
          refine v_istore_n (ls' := [(2, _), (0, _), (3, _)]) C dX17_count_69 rfl (by decide) rfl ?_
          refine v_iinc (ls' := [(3, _), (2, _), (0, _)]) (y := i3 + (1 : Int32)) C 2 dX17_count_70 rfl rfl (by decide) rfl ?_
          refine v_goto (tgt := 47) C dX17_count_73 (by decide) ?_
          refine v_sub (ls' := _) [2, 1, 0] rfl (ih (i2 ||| x6) (i3 + (1 : Int32)) _ _ _ hf hl J)
        · clear hf
          have hf := hAh7
          have hl := hlh7
          refine v_if_eq C hf (tgt := 67) dX17_count_58 (by decide) (fun c58 hf => ?_) (fun c58 hf => ?_)
          · refine v_iconst (x := 0) C dX17_count_67 (by decide) ?_
            obtain ⟨e1, rfl⟩ := mret_inv hf
            subst e1
            exact v_sub (ls' := _) [0, 2] rfl Jh7
          · refine v_iconst (x := 1) C dX17_count_61 (by decide) ?_
            refine v_iload_n C 2 dX17_count_62 rfl rfl ?_
            refine v_ishl C dX17_count_63 ?_
            refine v_goto (tgt := 68) C dX17_count_64 (by decide) ?_
            obtain ⟨e1, rfl⟩ := mret_inv hf
            subst e1
            exact v_sub (ls' := _) [0, 2] rfl Jh7
  unfold f_X17_count at hf
  refine v_iconst (x := 0) C dX17_count_0 (by decide) ?_
  refine v_istore_n (ls' := [(2, _), (0, _), (1, _)]) C dX17_count_1 rfl (by decide) rfl ?_
  refine v_iload_n C 2 dX17_count_2 rfl rfl ?_
  by_cases e3_0 : i1 = 0
  · have hf := mi_pos e3_0 hf
    refine v_tswI C (k := 0) e3_0 dX17_count_3 (by decide) (by decide) rfl (tgt := 32) (by decide) ?_
    refine v_aload_n C 1 dX17_count_32 rfl rfl ?_
    refine v_gR (Cn := RX17) (T := TX17) (N := 37) C hf in_X17 rfl (by decide) q1804 rfl dX17_count_33 (fun x1 hf => ?_)
    refine v_bipush (x := 120) C dX17_count_36 (by decide) ?_
    refine v_iaload C hf dX17_count_38 (fun x2 hf => ?_)
    exact v_iret C E hf dX17_count_39
  have hf := mi_neg e3_0 hf
  by_cases e3_1 : i1 = 1
  · have hf := mi_pos e3_1 hf
    refine v_tswI C (k := 1) e3_1 dX17_count_3 (by decide) (by decide) rfl (tgt := 40) (by decide) ?_
    refine v_aload_n C 1 dX17_count_40 rfl rfl ?_
    refine v_gI (Cn := RX17) (T := TX17) (N := 37) C hf in_X17 rfl (by decide) q1832 rfl dX17_count_41 (fun x3 hf => ?_)
    exact v_iret C E hf dX17_count_44
  have hf := mi_neg e3_1 hf
  by_cases e3_2 : i1 = 2
  · have hf := mi_pos e3_2 hf
    refine v_tswI C (k := 2) e3_2 dX17_count_3 (by decide) (by decide) rfl (tgt := 45) (by decide) ?_
    refine v_iconst (x := 0) C dX17_count_45 (by decide) ?_
    refine v_istore_n (ls' := [(3, _), (2, _), (0, _), (1, _)]) C dX17_count_46 rfl (by decide) rfl ?_
    obtain ⟨x8, h9, eh9, hf, hlh9⟩ := mb_inv hf hl
    refine v_sub (ls' := _) [2, 1, 0] rfl (L47 a0 FU (0 : Int32) (0 : Int32) _ _ _ eh9 hlh9 ?_)
    refine v_iload_n C 0 dX17_count_76 rfl rfl ?_
    exact v_iret C E hf dX17_count_77
  have hf := mi_neg e3_2 hf
  by_cases e3_3 : i1 = 3
  · have hf := mi_pos e3_3 hf
    refine v_tswI C (k := 3) e3_3 dX17_count_3 (by decide) (by decide) rfl (tgt := 78) (by decide) ?_
    refine v_aload_n C 1 dX17_count_78 rfl rfl ?_
    refine v_gI (Cn := RX17) (T := TX17) (N := 37) C hf in_X17 rfl (by decide) q1835 rfl dX17_count_79 (fun x10 hf => ?_)
    obtain ⟨x11, h12, hAh12, hf, hlh12⟩ := mb_inv hf hl
    refine v_cut (h1 := h12) (pc1 := 90) (ls1 := []) (st1 := [.int x11]) ?_ (fun Jh12 => ?_)
    · clear hAh12 hlh12
      exact v_iret C E hf dX17_count_90
    · clear hf
      have hf := hAh12
      have hl := hlh12
      refine v_if_ge C hf (tgt := 89) dX17_count_82 (by decide) (fun c82 hf => ?_) (fun c82 hf => ?_)
      · refine v_iconst (x := 1) C dX17_count_89 (by decide) ?_
        obtain ⟨e1, rfl⟩ := mret_inv hf
        subst e1
        exact v_sub (ls' := _) [] rfl Jh12
      · refine v_iconst (x := 0) C dX17_count_85 (by decide) ?_
        refine v_goto (tgt := 90) C dX17_count_86 (by decide) ?_
        obtain ⟨e1, rfl⟩ := mret_inv hf
        subst e1
        exact v_sub (ls' := _) [] rfl Jh12
  have hf := mi_neg e3_3 hf
  refine v_tswO C (n := 4) (lo := 0) (x := i1) (fun j hj => ?_) dX17_count_3 rfl rfl (tgt := 91) (by decide) ?_
  · rcases (show j = 0 ∨ j = 1 ∨ j = 2 ∨ j = 3 by omega) with rfl | rfl | rfl | rfl
    · exact e3_0
    · exact e3_1
    · exact e3_2
    · exact e3_3
  refine v_iconst (x := (-1)) C dX17_count_91 (by decide) ?_
  exact v_iret C E hf dX17_count_92
