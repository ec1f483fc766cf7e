set_option maxRecDepth 100000
def l_X1_tetrads_5 (a0 : Nat) (i1 : Int32) (a2 : Nat) : Nat → Int32 → Int32 → hM (Unit)
  | 0, _, _ => mfail
  | n + 1, i3, i4 => mi ((24 : Int32) ≤ i4) (mret ()) (mi ((6 : Int32) ≤ i3) (mret ()) (mb (gR a0 1 6) fun x1 => mb (gR a0 1 5) fun x2 => mb (aI 1 x2 i4) fun x3 => mb (aI 1 x1 (i1 ^^^ x3)) fun x4 => mb (mi (x4 < 0) (mret i3) (mb (f_J1_numberOfTrailingZeros (x4 ||| ((1 : Int32) <<< (i4 &&& 31)))) fun x7 => mi (¬ x7 = i4) (mret i3) (mb (sI 1 a2 i3 (x4 ||| ((1 : Int32) <<< (i4 &&& 31)))) fun _ => mret (i3 + (1 : Int32))))) fun x5 => l_X1_tetrads_5 a0 i1 a2 n x5 (i4 + (1 : Int32))))
def f_X1_tetrads (a0 : Nat) (i1 : Int32) (a2 : Nat) : hM Unit :=
  mb (l_X1_tetrads_5 a0 i1 a2 FU (0 : Int32) (0 : Int32)) fun x10 => mret ()
theorem nd_X1_tetrads : yX1_tetrads.cls ≠ "java/lang/invoke/MethodHandle" ∧ yX1_tetrads.cls ≠ "java/lang/invoke/VarHandle" ∧ (parseMethodDescriptor yX1_tetrads.desc).map (fun d => d.parameters.length) = some 2 := by decide +kernel
set_option maxHeartbeats 4000000 in
theorem ct_X1_tetrads (l : Launch) (a0 : Nat) (i1 : Int32) (a2 : Nat) : CT l yX1_tetrads cX1_tetrads 6 none 1 21 rv0 [.ref a0, .int i1, .ref a2] (f_X1_tetrads a0 i1 a2) := by
  refine CT_of (ls := [(0, .ref a0), (1, .int i1), (2, .ref a2)]) (by decide) (Nat.le_of_ble_eq_true rfl) rfl ?_
  intro X h he z hX hf C E hnm hh
  have hl := hle.rf he
  subst hX
  have L5 : ∀ (a0 : Nat) (i1 : Int32) (a2 : Nat) (n : Nat) (i3 : Int32) (i4 : Int32) (h h1 : Hp) (o : Unit), (l_X1_tetrads_5 a0 i1 a2 n i3 i4).1 h = some (o, h1) → hle h1 he → V X h1 73 [] [] → V X h 5 [(0, .ref a0), (1, .int i1), (2, .ref a2), (3, .int i3), (4, .int i4)] [] := by
    intro a0 i1 a2 n
    induction n with
    | zero => intro i3 i4 h h1 o hf; exact mfail_inv hf
    | succ n ih =>
      intro i3 i4 h h1 o hf hl J
      rw [l_X1_tetrads_5] at hf
      refine v_iload C 4 dX1_tetrads_5 rfl ?_
      refine v_bipush (x := 24) C dX1_tetrads_7 (by decide) ?_
      refine v_icmp_ge C hf (tgt := 73) dX1_tetrads_9 (by decide) (fun c9 hf => ?_) (fun c9 hf => ?_)
      · obtain ⟨e1, rfl⟩ := mret_inv hf
        subst e1
        exact v_sub (ls' := _) [] rfl J
      · refine v_iload_n C 3 dX1_tetrads_12 rfl rfl ?_
        refine v_bipush (x := 6) C dX1_tetrads_13 (by decide) ?_
        refine v_icmp_ge C hf (tgt := 73) dX1_tetrads_15 (by decide) (fun c15 hf => ?_) (fun c15 hf => ?_)
        · obtain ⟨e1, rfl⟩ := mret_inv hf
          subst e1
          exact v_sub (ls' := _) [] rfl J
        · refine v_aload_n C 0 dX1_tetrads_18 rfl rfl ?_
          refine v_gR (Cn := RX1) (T := TX1) (N := 10) C hf in_X1 rfl (by decide) q207 rfl dX1_tetrads_19 (fun x1 hf => ?_)
          refine v_iload_n C 1 dX1_tetrads_22 rfl rfl ?_
          refine v_aload_n C 0 dX1_tetrads_23 rfl rfl ?_
          refine v_gR (Cn := RX1) (T := TX1) (N := 10) C hf in_X1 rfl (by decide) q206 rfl dX1_tetrads_24 (fun x2 hf => ?_)
          refine v_iload C 4 dX1_tetrads_27 rfl ?_
          refine v_iaload C hf dX1_tetrads_29 (fun x3 hf => ?_)
          refine v_ixor C dX1_tetrads_30 ?_
          refine v_iaload C hf dX1_tetrads_31 (fun x4 hf => ?_)
          refine v_istore (ls' := [(5, _), (0, _), (1, _), (2, _), (3, _), (4, _)]) C dX1_tetrads_32 (by decide) rfl ?_
          refine v_iload C 0 dX1_tetrads_34 rfl ?_
          obtain ⟨x5, h6, hAh6, hf, hlh6⟩ := mb_inv hf hl
          refine v_cut (h1 := h6) (pc1 := 67) (ls1 := [(0, .ref a0), (1, .int i1), (2, .ref a2), (3, .int x5), (4, .int i4)]) (st1 := []) ?_ (fun Jh6 => ?_)
          · clear hAh6 hlh6
            refine v_iinc (ls' := [(4, _), (0, _), (1, _), (2, _), (3, _)]) (y := i4 + (1 : Int32)) C 4 dX1_tetrads_67 rfl rfl (by decide) rfl ?_
            refine v_goto (tgt := 5) C dX1_tetrads_70 (by decide) ?_
            refine v_sub (ls' := _) [1, 2, 3, 4, 0] rfl (ih x5 (i4 + (1 : Int32)) _ _ _ hf hl J)
          · clear hf
            have hf := hAh6
            have hl := hlh6
            refine v_if_lt C hf (tgt := 67) dX1_tetrads_36 (by decide) (fun c36 hf => ?_) (fun c36 hf => ?_)
            · obtain ⟨e1, rfl⟩ := mret_inv hf
              subst e1
              exact v_sub (ls' := _) [1, 2, 3, 4, 5] rfl Jh6
            · refine v_iload C 0 dX1_tetrads_39 rfl ?_
              refine v_iconst (x := 1) C dX1_tetrads_41 (by decide) ?_
              refine v_iload C 5 dX1_tetrads_42 rfl ?_
              refine v_ishl C dX1_tetrads_44 ?_
              refine v_ior C dX1_tetrads_45 ?_
              refine v_callS (stk := fun b => .int b :: []) C (ct_J1_numberOfTrailingZeros _ (x4 ||| ((1 : Int32) <<< (i4 &&& 31)))) nd_J1_numberOfTrailingZeros rfl (Nat.le_of_ble_eq_true rfl) (Nat.le_of_ble_eq_true rfl) [] (Nat.le_of_ble_eq_true rfl) (fun _ => rfl) rfl q174 q175 q100 q176 hf hl dX1_tetrads_46 (fun x7 h8 hf => ?_)
              refine v_iload C 5 dX1_tetrads_49 rfl ?_
              refine v_icmp_ne C hf (tgt := 67) dX1_tetrads_51 (by decide) (fun c51 hf => ?_) (fun c51 hf => ?_)
              · obtain ⟨e1, rfl⟩ := mret_inv hf
                subst e1
                exact v_sub (ls' := _) [1, 2, 3, 4, 5] rfl Jh6
              · refine v_aload_n C 3 dX1_tetrads_54 rfl rfl ?_
                refine v_iload_n C 4 dX1_tetrads_55 rfl rfl ?_
                refine v_iload C 0 dX1_tetrads_56 rfl ?_
                refine v_iconst (x := 1) C dX1_tetrads_58 (by decide) ?_
                refine v_iload C 5 dX1_tetrads_59 rfl ?_
                refine v_ishl C dX1_tetrads_61 ?_
                refine v_ior C dX1_tetrads_62 ?_
                refine v_iastore C hf dX1_tetrads_63 (fun h9 hf => ?_)
                refine v_iinc (ls' := [(3, _), (5, _), (0, _), (1, _), (2, _), (4, _)]) (y := i3 + (1 : Int32)) C 4 dX1_tetrads_64 rfl rfl (by decide) rfl ?_
                obtain ⟨e1, rfl⟩ := mret_inv hf
                subst e1
                exact v_sub (ls' := _) [2, 3, 4, 0, 5] rfl Jh6
  unfold f_X1_tetrads at hf
  refine v_iconst (x := 0) C dX1_tetrads_0 (by decide) ?_
  refine v_istore_n (ls' := [(3, _), (0, _), (1, _), (2, _)]) C dX1_tetrads_1 rfl (by decide) rfl ?_
  refine v_iconst (x := 0) C dX1_tetrads_2 (by decide) ?_
  refine v_istore (ls' := [(4, _), (3, _), (0, _), (1, _), (2, _)]) C dX1_tetrads_3 (by decide) rfl ?_
  obtain ⟨x10, h11, eh11, hf, hlh11⟩ := mb_inv hf hl
  refine v_sub (ls' := _) [2, 3, 4, 1, 0] rfl (L5 a0 i1 a2 FU (0 : Int32) (0 : Int32) _ _ _ eh11 hlh11 ?_)
  exact v_vret C E hf dX1_tetrads_73
def f_X1_isWord (a0 : Nat) (i1 : Int32) (i2 : Int32) : hM Int32 :=
  mb (f_X0_size i1) fun x1 => mb (mi (¬ x1 = i2) (mret (0 : Int32)) (mb (mat a0 1 (f_X1_remainder a0 i1)) fun x5 => mi (¬ x5 = 0) (mret (0 : Int32)) (mret (1 : Int32)))) fun x3 => mrt .boolean x3
theorem nd_X1_isWord : yX1_isWord.cls ≠ "java/lang/invoke/MethodHandle" ∧ yX1_isWord.cls ≠ "java/lang/invoke/VarHandle" ∧ (parseMethodDescriptor yX1_isWord.desc).map (fun d => d.parameters.length) = some 2 := by decide +kernel
set_option maxHeartbeats 4000000 in
theorem ct_X1_isWord (l : Launch) (a0 : Nat) (i1 : Int32) (i2 : Int32) : CT l yX1_isWord cX1_isWord 3 (some .boolean) 2 44 rvI [.ref a0, .int i1, .int i2] (f_X1_isWord a0 i1 i2) := by
  refine CT_of (ls := [(0, .ref a0), (1, .int i1), (2, .int i2)]) (by decide) (Nat.le_of_ble_eq_true rfl) rfl ?_
  intro X h he z hX hf C E hnm hh
  have hl := hle.rf he
  subst hX
  unfold f_X1_isWord at hf
  refine v_iload_n C 1 dX1_isWord_0 rfl rfl ?_
  refine v_callSN (stk := fun b => .int b :: []) C (ct_X0_size _ i1) nd_X0_size rfl (Nat.le_of_ble_eq_true rfl) (Nat.le_of_ble_eq_true rfl) [] (Nat.le_of_ble_eq_true rfl) (fun _ => rfl) rfl q178 q179 q96 q180 hf hl dX1_isWord_1 (fun x1 h2 hf => ?_)
  refine v_iload_n C 2 dX1_isWord_4 rfl rfl ?_
  obtain ⟨x3, h4, hAh4, hf, hlh4⟩ := mb_inv hf hl
  refine v_cut (h1 := h4) (pc1 := 21) (ls1 := []) (st1 := [.int x3]) ?_ (fun Jh4 => ?_)
  · clear hAh4 hlh4
    exact v_zret C E hf dX1_isWord_21
  · clear hf
    have hf := hAh4
    have hl := hlh4
    refine v_icmp_ne C hf (tgt := 20) dX1_isWord_5 (by decide) (fun c5 hf => ?_) (fun c5 hf => ?_)
    · refine v_iconst (x := 0) C dX1_isWord_20 (by decide) ?_
      obtain ⟨e1, rfl⟩ := mret_inv hf
      subst e1
      exact v_sub (ls' := _) [] rfl Jh4
    · refine v_aload_n C 0 dX1_isWord_8 rfl rfl ?_
      refine v_iload_n C 1 dX1_isWord_9 rfl rfl ?_
      refine v_callV (stk := fun b => .int b :: []) C (ct_X1_remainder _ a0 i1) rfl ⟨rfl, nd_X1_remainder⟩ rfl (Nat.le_of_ble_eq_true rfl) (Nat.le_of_ble_eq_true rfl) [] (Nat.le_of_ble_eq_true rfl) (fun _ => rfl) rfl q790 q753 q754 q97 q755 hf hl dX1_isWord_10 (fun x5 h6 hf => ?_)
      refine v_if_ne C hf (tgt := 20) dX1_isWord_13 (by decide) (fun c13 hf => ?_) (fun c13 hf => ?_)
      · refine v_iconst (x := 0) C dX1_isWord_20 (by decide) ?_
        obtain ⟨e1, rfl⟩ := mret_inv hf
        subst e1
        exact v_sub (ls' := _) [] rfl Jh4
      · refine v_iconst (x := 1) C dX1_isWord_16 (by decide) ?_
        refine v_goto (tgt := 21) C dX1_isWord_17 (by decide) ?_
        obtain ⟨e1, rfl⟩ := mret_inv hf
        subst e1
        exact v_sub (ls' := _) [] rfl Jh4
def f_X16_on (a0 : Nat) (i1 : Int32) : hM Int32 :=
  mb (f_X16_isSquare i1) fun x1 => mb (mi (x1 = 0) (mret (9 : Int32)) (mret (18 : Int32))) fun x3 => mret (((x3 * i1) * i1) * i1)
theorem nd_X16_on : yX16_on.cls ≠ "java/lang/invoke/MethodHandle" ∧ yX16_on.cls ≠ "java/lang/invoke/VarHandle" ∧ (parseMethodDescriptor yX16_on.desc).map (fun d => d.parameters.length) = some 1 := by decide +kernel
set_option maxHeartbeats 4000000 in
theorem ct_X16_on (l : Launch) (a0 : Nat) (i1 : Int32) : CT l yX16_on cX16_on 2 (some .int) 1 22 rvI [.ref a0, .int i1] (f_X16_on a0 i1) := by
  refine CT_of (ls := [(0, .ref a0), (1, .int i1)]) (by decide) (Nat.le_of_ble_eq_true rfl) rfl ?_
  intro X h he z hX hf C E hnm hh
  have hl := hle.rf he
  subst hX
  unfold f_X16_on at hf
  refine v_iload_n C 1 dX16_on_0 rfl rfl ?_
  refine v_callS (stk := fun b => .int b :: []) C (ct_X16_isSquare _ i1) nd_X16_isSquare rfl (Nat.le_of_ble_eq_true rfl) (Nat.le_of_ble_eq_true rfl) [] (Nat.le_of_ble_eq_true rfl) (fun _ => rfl) rfl q679 q680 q126 q681 hf hl dX16_on_1 (fun x1 h2 hf => ?_)
  obtain ⟨x3, h4, hAh4, hf, hlh4⟩ := mb_inv hf hl
  refine v_cut (h1 := h4) (pc1 := 14) (ls1 := [(1, .int i1)]) (st1 := [.int x3]) ?_ (fun Jh4 => ?_)
  · clear hAh4 hlh4
    refine v_iload_n C 0 dX16_on_14 rfl rfl ?_
    refine v_imul C dX16_on_15 ?_
    refine v_iload_n C 0 dX16_on_16 rfl rfl ?_
    refine v_imul C dX16_on_17 ?_
    refine v_iload_n C 0 dX16_on_18 rfl rfl ?_
    refine v_imul C dX16_on_19 ?_
    exact v_iret C E hf dX16_on_20
  · clear hf
    have hf := hAh4
    have hl := hlh4
    refine v_if_eq C hf (tgt := 12) dX16_on_4 (by decide) (fun c4 hf => ?_) (fun c4 hf => ?_)
    · refine v_bipush (x := 9) C dX16_on_12 (by decide) ?_
      obtain ⟨e1, rfl⟩ := mret_inv hf
      subst e1
      exact v_sub (ls' := _) [1] rfl Jh4
    · refine v_bipush (x := 18) C dX16_on_7 (by decide) ?_
      refine v_goto (tgt := 14) C dX16_on_9 (by decide) ?_
      obtain ⟨e1, rfl⟩ := mret_inv hf
      subst e1
      exact v_sub (ls' := _) [1] rfl Jh4
def l_X17_overOf_13 (i0 : Int32) : Nat → Int32 → Int32 → hM (Int32)
  | 0, _, _ => mfail
  | n + 1, i1, i2 => mi ((23 : Int32) ≤ i2) (mret i1) (mb (f_X17_in i0.toInt64 (1 : Int64) (22 : Int64)) fun x3 => mb (mi (x3 = 0) (mret i1) (mb (mrem (i0 * i2) (23 : Int32)) fun x7 => mi (¬ x7 = (22 : Int32)) (mret i1) (mret i2))) fun x5 => l_X17_overOf_13 i0 n x5 (i2 + (1 : Int32)))
def f_X17_overOf (i0 : Int32) : hM Int32 :=
  mb (mi (¬ i0 = 0) (mret (0 : Int32)) (mret (23 : Int32))) fun x1 => mb (l_X17_overOf_13 i0 FU x1 (1 : Int32)) fun x8 => mret x8
theorem nd_X17_overOf : yX17_overOf.cls ≠ "java/lang/invoke/MethodHandle" ∧ yX17_overOf.cls ≠ "java/lang/invoke/VarHandle" ∧ (parseMethodDescriptor yX17_overOf.desc).map (fun d => d.parameters.length) = some 1 := by decide +kernel
set_option maxHeartbeats 4000000 in
theorem ct_X17_overOf (l : Launch) (i0 : Int32) : CT l yX17_overOf cX17_overOf 3 (some .int) 1 25 rvI [.int i0] (f_X17_overOf i0) := by
  refine CT_of (ls := [(0, .int i0)]) (by decide) (Nat.le_of_ble_eq_true rfl) rfl ?_
  intro X h he z hX hf C E hnm hh
  have hl := hle.rf he
  subst hX
  have L13 : ∀ (i0 : Int32) (n : Nat) (i1 : Int32) (i2 : Int32) (h h1 : Hp) (o : Int32), (l_X17_overOf_13 i0 n i1 i2).1 h = some (o, h1) → hle h1 he → V X h1 54 [(1, .int o)] [] → V X h 13 [(0, .int i0), (1, .int i1), (2, .int i2)] [] := by
    intro i0 n
    induction n with
    | zero => intro i1 i2 h h1 o hf; exact mfail_inv hf
    | succ n ih =>
      intro i1 i2 h h1 o hf hl J
      rw [l_X17_overOf_13] at hf
      refine v_iload_n C 2 dX17_overOf_13 rfl rfl ?_
      refine v_bipush (x := 23) C dX17_overOf_14 (by decide) ?_
      refine v_icmp_ge C hf (tgt := 54) dX17_overOf_16 (by decide) (fun c16 hf => ?_) (fun c16 hf => ?_)
      · obtain ⟨e1, rfl⟩ := mret_inv hf
        subst e1
        exact v_sub (ls' := _) [1] rfl J
      · refine v_iload_n C 0 dX17_overOf_19 rfl rfl ?_
        refine v_i2l C dX17_overOf_20 ?_
        refine v_lconst (x := 1) C dX17_overOf_21 (by decide) ?_
        refine v_ldc2 (x := 22) C q1778 dX17_overOf_22 ?_
        refine v_callS (stk := fun b => .int b :: []) C (ct_X17_in _ i0.toInt64 (1 : Int64) (22 : Int64)) nd_X17_in rfl (Nat.le_of_ble_eq_true rfl) (Nat.le_of_ble_eq_true rfl) [] (Nat.le_of_ble_eq_true rfl) (fun _ => rfl) rfl q1779 q1780 q127 q1781 hf hl dX17_overOf_25 (fun x3 h4 hf => ?_)
        obtain ⟨x5, h6, hAh6, hf, hlh6⟩ := mb_inv hf hl
        refine v_cut (h1 := h6) (pc1 := 47) (ls1 := [(0, .int i0), (2, .int i2)]) (st1 := [.int x5]) ?_ (fun Jh6 => ?_)
        · clear hAh6 hlh6
          refine v_istore_n (ls' := [(1, _), (0, _), (2, _)]) C dX17_overOf_47 rfl (by decide) rfl ?_
          refine v_iinc (ls' := [(2, _), (1, _), (0, _)]) (y := i2 + (1 : Int32)) C 2 dX17_overOf_48 rfl rfl (by decide) rfl ?_
          refine v_goto (tgt := 13) C dX17_overOf_51 (by decide) ?_
          refine v_sub (ls' := _) [2, 1, 0] rfl (ih x5 (i2 + (1 : Int32)) _ _ _ hf hl J)
        · clear hf
          have hf := hAh6
          have hl := hlh6
          refine v_if_eq C hf (tgt := 46) dX17_overOf_28 (by decide) (fun c28 hf => ?_) (fun c28 hf => ?_)
          · refine v_iload_n C 1 dX17_overOf_46 rfl rfl ?_
            obtain ⟨e1, rfl⟩ := mret_inv hf
            subst e1
            exact v_sub (ls' := _) [0, 2] rfl Jh6
          · refine v_iload_n C 0 dX17_overOf_31 rfl rfl ?_
            refine v_iload_n C 2 dX17_overOf_32 rfl rfl ?_
            refine v_imul C dX17_overOf_33 ?_
            refine v_bipush (x := 23) C dX17_overOf_34 (by decide) ?_
            refine v_irem C hf dX17_overOf_36 (fun x7 hf => ?_)
            refine v_bipush (x := 22) C dX17_overOf_37 (by decide) ?_
            refine v_icmp_ne C hf (tgt := 46) dX17_overOf_39 (by decide) (fun c39 hf => ?_) (fun c39 hf => ?_)
            · refine v_iload_n C 1 dX17_overOf_46 rfl rfl ?_
              obtain ⟨e1, rfl⟩ := mret_inv hf
              subst e1
              exact v_sub (ls' := _) [0, 2] rfl Jh6
            · refine v_iload_n C 2 dX17_overOf_42 rfl rfl ?_
              refine v_goto (tgt := 47) C dX17_overOf_43 (by decide) ?_
              obtain ⟨e1, rfl⟩ := mret_inv hf
              subst e1
              exact v_sub (ls' := _) [0, 2] rfl Jh6
  unfold f_X17_overOf at hf
  refine v_iload_n C 0 dX17_overOf_0 rfl rfl ?_
  obtain ⟨x1, h2, hAh2, hf, hlh2⟩ := mb_inv hf hl
  refine v_cut (h1 := h2) (pc1 := 10) (ls1 := [(0, .int i0)]) (st1 := [.int x1]) ?_ (fun Jh2 => ?_)
  · clear hAh2 hlh2
    refine v_istore_n (ls' := [(1, _), (0, _)]) C dX17_overOf_10 rfl (by decide) rfl ?_
    refine v_iconst (x := 1) C dX17_overOf_11 (by decide) ?_
    refine v_istore_n (ls' := [(2, _), (1, _), (0, _)]) C dX17_overOf_12 rfl (by decide) rfl ?_
    obtain ⟨x8, h9, eh9, hf, hlh9⟩ := mb_inv hf hl
    refine v_sub (ls' := _) [2, 1, 0] rfl (L13 i0 FU x1 (1 : Int32) _ _ _ eh9 hlh9 ?_)
    refine v_iload_n C 0 dX17_overOf_54 rfl rfl ?_
    exact v_iret C E hf dX17_overOf_55
  · clear hf
    have hf := hAh2
    have hl := hlh2
    refine v_if_ne C hf (tgt := 9) dX17_overOf_1 (by decide) (fun c1 hf => ?_) (fun c1 hf => ?_)
    · refine v_iconst (x := 0) C dX17_overOf_9 (by decide) ?_
      obtain ⟨e1, rfl⟩ := mret_inv hf
      subst e1
      exact v_sub (ls' := _) [0] rfl Jh2
    · refine v_bipush (x := 23) C dX17_overOf_4 (by decide) ?_
      refine v_goto (tgt := 10) C dX17_overOf_6 (by decide) ?_
      obtain ⟨e1, rfl⟩ := mret_inv hf
      subst e1
      exact v_sub (ls' := _) [0] rfl Jh2
def l_X17_comes_8 (a0 : Nat) : Nat → Int32 → Int32 → Int32 → hM (Int32 × Int32)
  | 0, _, _, _ => mfail
  | n + 1, i3, i4, i5 => mb (gI a0 15 3) fun x1 => mi (x1 ≤ i5) (mret (i3, i4)) (mb (gR a0 15 1) fun x2 => mb (aI 1 x2 i5) fun x3 => mb (f_X17_highest x3) fun x4 => mb (f_X17_has i3 x4) fun x6 => mb (mi (x6 = 0) (mret (i3, i4)) (mb (gR a0 15 1) fun x11 => mb (aI 1 x11 i5) fun x12 => mb (gR a0 15 2) fun x13 => mb (aI 1 x13 i5) fun x14 => mret (i3 ^^^ x12, i4 ^^^ x14))) fun ⟨x8, x9⟩ => l_X17_comes_8 a0 n x8 x9 (i5 + (1 : Int32)))
def l_X17_comes_82 (a0 : Nat) (i3 : Int32) (i4 : Int32) (i5 : Int32) : Nat → Int32 → Int32 → hM (Int32)
  | 0, _, _ => mfail
  | n + 1, i6, i7 => mi (i7 < 0) (mret i6) (mb (gR a0 15 1) fun x21 => mb (aI 1 x21 i7) fun x22 => mb (f_X17_has x22 i5) fun x23 => mb (mi (x23 = 0) (mret ()) (mb (gR a0 15 1) fun x40 => mb (aI 1 x40 i7) fun x41 => mb (sI 1 x40 i7 (x41 ^^^ i3)) fun _ => mb (gR a0 15 2) fun x43 => mb (aI 1 x43 i7) fun x44 => mb (sI 1 x43 i7 (x44 ^^^ i4)) fun _ => mret ())) fun _ => mb (gR a0 15 1) fun x26 => mb (aI 1 x26 i7) fun x27 => mb (f_X17_highest x27) fun x28 => mb (mi (x28 ≤ i5) (mret i6) (mb (gR a0 15 1) fun x32 => mb (gR a0 15 1) fun x33 => mb (aI 1 x33 i7) fun x34 => mb (sI 1 x32 (i7 + (1 : Int32)) x34) fun _ => mb (gR a0 15 2) fun x36 => mb (gR a0 15 2) fun x37 => mb (aI 1 x37 i7) fun x38 => mb (sI 1 x36 (i7 + (1 : Int32)) x38) fun _ => mret i7)) fun x30 => l_X17_comes_82 a0 i3 i4 i5 n x30 (i7 + (-1 : Int32)))
def f_X17_comes (a0 : Nat) (i1 : Int32) (i2 : Int32) : hM Unit :=
  mb (l_X17_comes_8 a0 FU i1 i2 (0 : Int32)) fun x15 => mb (f_X17_highest x15.1) fun x17 => mb (gI a0 15 3) fun x19 => mb (gI a0 15 3) fun x20 => mb (l_X17_comes_82 a0 x15.1 x15.2 x17 FU x19 (x20 - (1 : Int32))) fun x46 => mb (gR a0 15 1) fun x48 => mb (sI 1 x48 x46 x15.1) fun _ => mb (gR a0 15 2) fun x50 => mb (sI 1 x50 x46 x15.2) fun _ => mb (gI a0 15 3) fun x52 => mb (pF a0 15 3 (.int (x52 + (1 : Int32)))) fun _ => mret ()
theorem nd_X17_comes : yX17_comes.cls ≠ "java/lang/invoke/MethodHandle" ∧ yX17_comes.cls ≠ "java/lang/invoke/VarHandle" ∧ (parseMethodDescriptor yX17_comes.desc).map (fun d => d.parameters.length) = some 2 := by decide +kernel
set_option maxHeartbeats 4000000 in
theorem ct_X17_comes (l : Launch) (a0 : Nat) (i1 : Int32) (i2 : Int32) : CT l yX17_comes cX17_comes 8 none 2 42 rv0 [.ref a0, .int i1, .int i2] (f_X17_comes a0 i1 i2) := by
  refine CT_of (ls := [(0, .ref a0), (1, .int i1), (2, .int i2)]) (by decide) (Nat.le_of_ble_eq_true rfl) rfl ?_
  intro X h he z hX hf C E hnm hh
  have hl := hle.rf he
  subst hX
  have L8 : ∀ (a0 : Nat) (n : Nat) (i3 : Int32) (i4 : Int32) (i5 : Int32) (h h1 : Hp) (o : Int32 × Int32), (l_X17_comes_8 a0 n i3 i4 i5).1 h = some (o, h1) → hle h1 he → V X h1 62 [(0, .ref a0), (3, .int o.1), (4, .int o.2)] [] → V X h 8 [(0, .ref a0), (3, .int i3), (4, .int i4), (5, .int i5)] [] := by
    intro a0 n
    induction n with
    | zero => intro i3 i4 i5 h h1 o hf; exact mfail_inv hf
    | succ n ih =>
      intro i3 i4 i5 h h1 o hf hl J
      rw [l_X17_comes_8] at hf
      refine v_iload C 3 dX17_comes_8 rfl ?_
      refine v_aload_n C 0 dX17_comes_10 rfl rfl ?_
      refine v_gI (Cn := RX17) (T := TX17) (N := 37) C hf in_X17 rfl (by decide) q1807 rfl dX17_comes_11 (fun x1 hf => ?_)
      refine v_icmp_ge C hf (tgt := 62) dX17_comes_14 (by decide) (fun c14 hf => ?_) (fun c14 hf => ?_)
      · obtain ⟨e1, rfl⟩ := mret_inv hf
        subst e1
        exact v_sub (ls' := _) [0, 1, 2] rfl J
      · refine v_iload_n C 1 dX17_comes_17 rfl rfl ?_
        refine v_aload_n C 0 dX17_comes_18 rfl rfl ?_
        refine v_gR (Cn := RX17) (T := TX17) (N := 37) C hf in_X17 rfl (by decide) q1805 rfl dX17_comes_19 (fun x2 hf => ?_)
        refine v_iload C 3 dX17_comes_22 rfl ?_
        refine v_iaload C hf dX17_comes_24 (fun x3 hf => ?_)
        refine v_callS (stk := fun b => .int b :: [.int i3]) C (ct_X17_highest _ x3) nd_X17_highest rfl (Nat.le_of_ble_eq_true rfl) (Nat.le_of_ble_eq_true rfl) [.int i3] (Nat.le_of_ble_eq_true rfl) (fun _ => rfl) rfl q1795 q1796 q127 q1797 hf hl dX17_comes_25 (fun x4 h5 hf => ?_)
        refine v_callS (stk := fun b => .int b :: []) C (ct_X17_has _ i3 x4) nd_X17_has rfl (Nat.le_of_ble_eq_true rfl) (Nat.le_of_ble_eq_true rfl) [] (Nat.le_of_ble_eq_true rfl) (fun _ => rfl) rfl q1783 q1784 q127 q1785 hf hl dX17_comes_28 (fun x6 h7 hf => ?_)
        obtain ⟨⟨x8, x9⟩, h10, hAh10, hf, hlh10⟩ := mb_inv hf hl
        refine v_cut (h1 := h10) (pc1 := 56) (ls1 := [(0, .ref a0), (3, .int x8), (4, .int x9), (5, .int i5)]) (st1 := []) ?_ (fun Jh10 => ?_)
        · clear hAh10 hlh10
          refine v_iinc (ls' := [(5, _), (0, _), (3, _), (4, _)]) (y := i5 + (1 : Int32)) C 3 dX17_comes_56 rfl rfl (by decide) rfl ?_
          refine v_goto (tgt := 8) C dX17_comes_59 (by decide) ?_
          refine v_sub (ls' := _) [1, 2, 3, 0] rfl (ih x8 x9 (i5 + (1 : Int32)) _ _ _ hf hl J)
        · clear hf
          have hf := hAh10
          have hl := hlh10
          refine v_if_eq C hf (tgt := 56) dX17_comes_31 (by decide) (fun c31 hf => ?_) (fun c31 hf => ?_)
          · obtain ⟨e1, rfl⟩ := mret_inv hf
            simp only [Prod.mk.injEq] at e1
            obtain ⟨rfl, rfl⟩ := e1
            exact v_sub (ls' := _) [0, 1, 2, 3] rfl Jh10
          · refine v_iload_n C 1 dX17_comes_34 rfl rfl ?_
            refine v_aload_n C 0 dX17_comes_35 rfl rfl ?_
            refine v_gR (Cn := RX17) (T := TX17) (N := 37) C hf in_X17 rfl (by decide) q1805 rfl dX17_comes_36 (fun x11 hf => ?_)
            refine v_iload C 3 dX17_comes_39 rfl ?_
            refine v_iaload C hf dX17_comes_41 (fun x12 hf => ?_)
            refine v_ixor C dX17_comes_42 ?_
            refine v_istore_n (ls' := [(3, _), (0, _), (4, _), (5, _)]) C dX17_comes_43 rfl (by decide) rfl ?_
            refine v_iload C 2 dX17_comes_44 rfl ?_
            refine v_aload_n C 1 dX17_comes_46 rfl rfl ?_
            refine v_gR (Cn := RX17) (T := TX17) (N := 37) C hf in_X17 rfl (by decide) q1806 rfl dX17_comes_47 (fun x13 hf => ?_)
            refine v_iload C 3 dX17_comes_50 rfl ?_
            refine v_iaload C hf dX17_comes_52 (fun x14 hf => ?_)
            refine v_ixor C dX17_comes_53 ?_
            refine v_istore (ls' := [(4, _), (3, _), (0, _), (5, _)]) C dX17_comes_54 (by decide) rfl ?_
            obtain ⟨e1, rfl⟩ := mret_inv hf
            simp only [Prod.mk.injEq] at e1
            obtain ⟨rfl, rfl⟩ := e1
            exact v_sub (ls' := _) [2, 1, 0, 3] rfl Jh10
  have L82 : ∀ (a0 : Nat) (i3 : Int32) (i4 : Int32) (i5 : Int32) (n : Nat) (i6 : Int32) (i7 : Int32) (h h1 : Hp) (o : Int32), (l_X17_comes_82 a0 i3 i4 i5 n i6 i7).1 h = some (o, h1) → hle h1 he → V X h1 182 [(0, .ref a0), (3, .int i3), (4, .int i4), (6, .int o)] [] → V X h 82 [(0, .ref a0), (3, .int i3), (4, .int i4), (5, .int i5), (6, .int i6), (7, .int i7)] [] := by
    intro a0 i3 i4 i5 n
    induction n with
    | zero => intro i6 i7 h h1 o hf; exact mfail_inv hf
    | succ n ih =>
      intro i6 i7 h h1 o hf hl J
      rw [l_X17_comes_82] at hf
      refine v_iload C 5 dX17_comes_82 rfl ?_
      refine v_if_lt C hf (tgt := 182) dX17_comes_84 (by decide) (fun c84 hf => ?_) (fun c84 hf => ?_)
      · obtain ⟨e1, rfl⟩ := mret_inv hf
        subst e1
        exact v_sub (ls' := _) [0, 1, 2, 4] rfl J
      · refine v_aload_n C 0 dX17_comes_87 rfl rfl ?_
        refine v_gR (Cn := RX17) (T := TX17) (N := 37) C hf in_X17 rfl (by decide) q1805 rfl dX17_comes_88 (fun x21 hf => ?_)
        refine v_iload C 5 dX17_comes_91 rfl ?_
        refine v_iaload C hf dX17_comes_93 (fun x22 hf => ?_)
        refine v_iload C 3 dX17_comes_94 rfl ?_
        refine v_callS (stk := fun b => .int b :: []) C (ct_X17_has _ x22 i5) nd_X17_has rfl (Nat.le_of_ble_eq_true rfl) (Nat.le_of_ble_eq_true rfl) [] (Nat.le_of_ble_eq_true rfl) (fun _ => rfl) rfl q1783 q1784 q127 q1785 hf hl dX17_comes_96 (fun x23 h24 hf => ?_)
        obtain ⟨_u, h25, hAh25, hf, hlh25⟩ := mb_inv hf hl
        refine v_cut (h1 := h25) (pc1 := 125) (ls1 := [(0, .ref a0), (3, .int i3), (4, .int i4), (5, .int i5), (6, .int i6), (7, .int i7)]) (st1 := []) ?_ (fun Jh25 => ?_)
        · clear hAh25 hlh25
          refine v_aload_n C 0 dX17_comes_125 rfl rfl ?_
          refine v_gR (Cn := RX17) (T := TX17) (N := 37) C hf in_X17 rfl (by decide) q1805 rfl dX17_comes_126 (fun x26 hf => ?_)
          refine v_iload C 5 dX17_comes_129 rfl ?_
          refine v_iaload C hf dX17_comes_131 (fun x27 hf => ?_)
          refine v_callS (stk := fun b => .int b :: []) C (ct_X17_highest _ x27) nd_X17_highest rfl (Nat.le_of_ble_eq_true rfl) (Nat.le_of_ble_eq_true rfl) [] (Nat.le_of_ble_eq_true rfl) (fun _ => rfl) rfl q1795 q1796 q127 q1797 hf hl dX17_comes_132 (fun x28 h29 hf => ?_)
          refine v_iload C 3 dX17_comes_135 rfl ?_
          obtain ⟨x30, h31, hAh31, hf, hlh31⟩ := mb_inv hf hl
          refine v_cut (h1 := h31) (pc1 := 176) (ls1 := [(0, .ref a0), (3, .int i3), (4, .int i4), (5, .int i5), (6, .int x30), (7, .int i7)]) (st1 := []) ?_ (fun Jh31 => ?_)
          · clear hAh31 hlh31
            refine v_iinc (ls' := [(7, _), (0, _), (3, _), (4, _), (5, _), (6, _)]) (y := i7 + (-1 : Int32)) C 5 dX17_comes_176 rfl rfl (by decide) rfl ?_
            refine v_goto (tgt := 82) C dX17_comes_179 (by decide) ?_
            refine v_sub (ls' := _) [1, 2, 3, 4, 5, 0] rfl (ih x30 (i7 + (-1 : Int32)) _ _ _ hf hl J)
          · clear hf
            have hf := hAh31
            have hl := hlh31
            refine v_icmp_le C hf (tgt := 176) dX17_comes_137 (by decide) (fun c137 hf => ?_) (fun c137 hf => ?_)
            · obtain ⟨e1, rfl⟩ := mret_inv hf
              subst e1
              exact v_sub (ls' := _) [0, 1, 2, 3, 4, 5] rfl Jh31
            · refine v_aload_n C 0 dX17_comes_140 rfl rfl ?_
              refine v_gR (Cn := RX17) (T := TX17) (N := 37) C hf in_X17 rfl (by decide) q1805 rfl dX17_comes_141 (fun x32 hf => ?_)
              refine v_iload C 5 dX17_comes_144 rfl ?_
              refine v_iconst (x := 1) C dX17_comes_146 (by decide) ?_
              refine v_iadd C dX17_comes_147 ?_
              refine v_aload_n C 0 dX17_comes_148 rfl rfl ?_
              refine v_gR (Cn := RX17) (T := TX17) (N := 37) C hf in_X17 rfl (by decide) q1805 rfl dX17_comes_149 (fun x33 hf => ?_)
              refine v_iload C 5 dX17_comes_152 rfl ?_
              refine v_iaload C hf dX17_comes_154 (fun x34 hf => ?_)
              refine v_iastore C hf dX17_comes_155 (fun h35 hf => ?_)
              refine v_aload_n C 0 dX17_comes_156 rfl rfl ?_
              refine v_gR (Cn := RX17) (T := TX17) (N := 37) C hf in_X17 rfl (by decide) q1806 rfl dX17_comes_157 (fun x36 hf => ?_)
              refine v_iload C 5 dX17_comes_160 rfl ?_
              refine v_iconst (x := 1) C dX17_comes_162 (by decide) ?_
              refine v_iadd C dX17_comes_163 ?_
              refine v_aload_n C 0 dX17_comes_164 rfl rfl ?_
              refine v_gR (Cn := RX17) (T := TX17) (N := 37) C hf in_X17 rfl (by decide) q1806 rfl dX17_comes_165 (fun x37 hf => ?_)
              refine v_iload C 5 dX17_comes_168 rfl ?_
              refine v_iaload C hf dX17_comes_170 (fun x38 hf => ?_)
              refine v_iastore C hf dX17_comes_171 (fun h39 hf => ?_)
              refine v_iload C 5 dX17_comes_172 rfl ?_
              refine v_istore (ls' := [(6, _), (0, _), (3, _), (4, _), (5, _), (7, _)]) C dX17_comes_174 (by decide) rfl ?_
              obtain ⟨e1, rfl⟩ := mret_inv hf
              subst e1
              exact v_sub (ls' := _) [1, 2, 3, 4, 0, 5] rfl Jh31
        · clear hf
          have hf := hAh25
          have hl := hlh25
          refine v_if_eq C hf (tgt := 125) dX17_comes_99 (by decide) (fun c99 hf => ?_) (fun c99 hf => ?_)
          · obtain ⟨e1, rfl⟩ := mret_inv hf
            exact v_sub (ls' := _) [0, 1, 2, 3, 4, 5] rfl Jh25
          · refine v_aload_n C 0 dX17_comes_102 rfl rfl ?_
            refine v_gR (Cn := RX17) (T := TX17) (N := 37) C hf in_X17 rfl (by decide) q1805 rfl dX17_comes_103 (fun x40 hf => ?_)
            refine v_iload C 5 dX17_comes_106 rfl ?_
            refine v_dup2 C dX17_comes_108 rfl rfl ?_
            refine v_iaload C hf dX17_comes_109 (fun x41 hf => ?_)
            refine v_iload_n C 1 dX17_comes_110 rfl rfl ?_
            refine v_ixor C dX17_comes_111 ?_
            refine v_iastore C hf dX17_comes_112 (fun h42 hf => ?_)
            refine v_aload_n C 0 dX17_comes_113 rfl rfl ?_
            refine v_gR (Cn := RX17) (T := TX17) (N := 37) C hf in_X17 rfl (by decide) q1806 rfl dX17_comes_114 (fun x43 hf => ?_)
            refine v_iload C 5 dX17_comes_117 rfl ?_
            refine v_dup2 C dX17_comes_119 rfl rfl ?_
            refine v_iaload C hf dX17_comes_120 (fun x44 hf => ?_)
            refine v_iload C 2 dX17_comes_121 rfl ?_
            refine v_ixor C dX17_comes_123 ?_
            refine v_iastore C hf dX17_comes_124 (fun h45 hf => ?_)
            obtain ⟨e1, rfl⟩ := mret_inv hf
            exact v_sub (ls' := _) [0, 1, 2, 3, 4, 5] rfl Jh25
  unfold f_X17_comes at hf
  refine v_iload_n C 1 dX17_comes_0 rfl rfl ?_
  refine v_istore_n (ls' := [(3, _), (0, _), (1, _), (2, _)]) C dX17_comes_1 rfl (by decide) rfl ?_
  refine v_iload_n C 3 dX17_comes_2 rfl rfl ?_
  refine v_istore (ls' := [(4, _), (3, _), (0, _), (1, _), (2, _)]) C dX17_comes_3 (by decide) rfl ?_
  refine v_iconst (x := 0) C dX17_comes_5 (by decide) ?_
  refine v_istore (ls' := [(5, _), (4, _), (3, _), (0, _), (1, _), (2, _)]) C dX17_comes_6 (by decide) rfl ?_
  obtain ⟨x15, h16, eh16, hf, hlh16⟩ := mb_inv hf hl
  refine v_sub (ls' := _) [3, 2, 1, 0] rfl (L8 a0 FU i1 i2 (0 : Int32) _ _ _ eh16 hlh16 ?_)
  refine v_iload_n C 1 dX17_comes_62 rfl rfl ?_
  refine v_callS (stk := fun b => .int b :: []) C (ct_X17_highest _ x15.1) nd_X17_highest rfl (Nat.le_of_ble_eq_true rfl) (Nat.le_of_ble_eq_true rfl) [] (Nat.le_of_ble_eq_true rfl) (fun _ => rfl) rfl q1795 q1796 q127 q1797 hf hl dX17_comes_63 (fun x17 h18 hf => ?_)
  refine v_istore (ls' := [(5, _), (0, _), (3, _), (4, _)]) C dX17_comes_66 (by decide) rfl ?_
  refine v_aload_n C 1 dX17_comes_68 rfl rfl ?_
  refine v_gI (Cn := RX17) (T := TX17) (N := 37) C hf in_X17 rfl (by decide) q1807 rfl dX17_comes_69 (fun x19 hf => ?_)
  refine v_istore (ls' := [(6, _), (5, _), (0, _), (3, _), (4, _)]) C dX17_comes_72 (by decide) rfl ?_
  refine v_aload_n C 2 dX17_comes_74 rfl rfl ?_
  refine v_gI (Cn := RX17) (T := TX17) (N := 37) C hf in_X17 rfl (by decide) q1807 rfl dX17_comes_75 (fun x20 hf => ?_)
  refine v_iconst (x := 1) C dX17_comes_78 (by decide) ?_
  refine v_isub C dX17_comes_79 ?_
  refine v_istore (ls' := [(7, _), (6, _), (5, _), (0, _), (3, _), (4, _)]) C dX17_comes_80 (by decide) rfl ?_
  obtain ⟨x46, h47, eh47, hf, hlh47⟩ := mb_inv hf hl
  refine v_sub (ls' := _) [3, 4, 5, 2, 1, 0] rfl (L82 a0 x15.1 x15.2 x17 FU x19 (x20 - (1 : Int32)) _ _ _ eh47 hlh47 ?_)
  refine v_aload_n C 0 dX17_comes_182 rfl rfl ?_
  refine v_gR (Cn := RX17) (T := TX17) (N := 37) C hf in_X17 rfl (by decide) q1805 rfl dX17_comes_183 (fun x48 hf => ?_)
  refine v_iload C 3 dX17_comes_186 rfl ?_
  refine v_iload_n C 1 dX17_comes_188 rfl rfl ?_
  refine v_iastore C hf dX17_comes_189 (fun h49 hf => ?_)
  refine v_aload_n C 0 dX17_comes_190 rfl rfl ?_
  refine v_gR (Cn := RX17) (T := TX17) (N := 37) C hf in_X17 rfl (by decide) q1806 rfl dX17_comes_191 (fun x50 hf => ?_)
  refine v_iload C 3 dX17_comes_194 rfl ?_
  refine v_iload C 2 dX17_comes_196 rfl ?_
  refine v_iastore C hf dX17_comes_198 (fun h51 hf => ?_)
  refine v_aload_n C 0 dX17_comes_199 rfl rfl ?_
  refine v_dup C dX17_comes_200 rfl ?_
  refine v_gI (Cn := RX17) (T := TX17) (N := 37) C hf in_X17 rfl (by decide) q1807 rfl dX17_comes_201 (fun x52 hf => ?_)
  refine v_iconst (x := 1) C dX17_comes_204 (by decide) ?_
  refine v_iadd C dX17_comes_205 ?_
  refine v_putv (Cn := RX17) (T := TX17) (N := 37) (ty0 := tyX17) C hf in_X17 tyX17_ok nmX17 rfl (by decide) q1807 rfl rfl rfl rfl dX17_comes_206 (fun h53 hf => ?_)
  exact v_vret C E hf dX17_comes_209
def f_X17_word (a0 : Nat) (i1 : Int32) (i2 : Int32) : hM Int32 :=
  mb (f_X17_isSet i1) fun x1 => mi (¬ x1 = 0) (mi (i2 = 0) (mb (f_X17_bits i1) fun x3 => mret x3) (mi (i2 = 1) (mb (mat a0 15 (f_X17_numberOf a0 i1)) fun x5 => mret x5) (mi (i2 = 2) (mb (mat a0 15 (f_X17_closest a0 i1 i2)) fun x7 => mret x7) (mi (i2 = 3) (mb (mat a0 15 (f_X17_closest a0 i1 i2)) fun x9 => mret x9) (mi (i2 = 4) (mb (mat a0 15 (f_X17_closest a0 i1 i2)) fun x11 => mret x11) (mi (i2 = 5) (mb (mat a0 15 (f_X17_octadsIn a0 i1)) fun x13 => mret x13) (mi (i2 = 6) (mb (mat a0 15 (f_X17_octadsWith a0 i1)) fun x15 => mret x15) (mret (-1 : Int32))))))))) (mret (-1 : Int32))
theorem nd_X17_word : yX17_word.cls ≠ "java/lang/invoke/MethodHandle" ∧ yX17_word.cls ≠ "java/lang/invoke/VarHandle" ∧ (parseMethodDescriptor yX17_word.desc).map (fun d => d.parameters.length) = some 2 := by decide +kernel
set_option maxHeartbeats 4000000 in
theorem ct_X17_word (l : Launch) (a0 : Nat) (i1 : Int32) (i2 : Int32) : CT l yX17_word cX17_word 3 (some .int) 3 66 rvI [.ref a0, .int i1, .int i2] (f_X17_word a0 i1 i2) := by
  refine CT_of (ls := [(0, .ref a0), (1, .int i1), (2, .int i2)]) (by decide) (Nat.le_of_ble_eq_true rfl) rfl ?_
  intro X h he z hX hf C E hnm hh
  have hl := hle.rf he
  subst hX
  unfold f_X17_word at hf
  refine v_iload_n C 1 dX17_word_0 rfl rfl ?_
  refine v_callS (stk := fun b => .int b :: []) C (ct_X17_isSet _ i1) nd_X17_isSet rfl (Nat.le_of_ble_eq_true rfl) (Nat.le_of_ble_eq_true rfl) [] (Nat.le_of_ble_eq_true rfl) (fun _ => rfl) rfl q1920 q1921 q127 q1922 hf hl dX17_word_1 (fun x1 h2 hf => ?_)
  refine v_if_ne C hf (tgt := 9) dX17_word_4 (by decide) (fun c4 hf => ?_) (fun c4 hf => ?_)
  · refine v_iload_n C 2 dX17_word_9 rfl rfl ?_
    by_cases e10_0 : i2 = 0
    · have hf := mi_pos e10_0 hf
      refine v_tswI C (k := 0) e10_0 dX17_word_10 (by decide) (by decide) rfl (tgt := 52) (by decide) ?_
      refine v_iload_n C 1 dX17_word_52 rfl rfl ?_
      refine v_callS (stk := fun b => .int b :: []) C (ct_X17_bits _ i1) nd_X17_bits rfl (Nat.le_of_ble_eq_true rfl) (Nat.le_of_ble_eq_true rfl) [] (Nat.le_of_ble_eq_true rfl) (fun _ => rfl) rfl q1801 q1802 q127 q1803 hf hl dX17_word_53 (fun x3 h4 hf => ?_)
      exact v_iret C E hf dX17_word_56
    have hf := mi_neg e10_0 hf
    by_cases e10_1 : i2 = 1
    · have hf := mi_pos e10_1 hf
      refine v_tswI C (k := 1) e10_1 dX17_word_10 (by decide) (by decide) rfl (tgt := 57) (by decide) ?_
      refine v_aload_n C 0 dX17_word_57 rfl rfl ?_
      refine v_iload_n C 1 dX17_word_58 rfl rfl ?_
      refine v_callV (stk := fun b => .int b :: []) C (ct_X17_numberOf _ a0 i1) rfl ⟨rfl, nd_X17_numberOf⟩ rfl (Nat.le_of_ble_eq_true rfl) (Nat.le_of_ble_eq_true rfl) [] (Nat.le_of_ble_eq_true rfl) (fun _ => rfl) rfl q1924 q1926 qs37 q127 q1927 hf hl dX17_word_59 (fun x5 h6 hf => ?_)
      exact v_iret C E hf dX17_word_62
    have hf := mi_neg e10_1 hf
    by_cases e10_2 : i2 = 2
    · have hf := mi_pos e10_2 hf
      refine v_tswI C (k := 2) e10_2 dX17_word_10 (by decide) (by decide) rfl (tgt := 63) (by decide) ?_
      refine v_aload_n C 0 dX17_word_63 rfl rfl ?_
      refine v_iload_n C 1 dX17_word_64 rfl rfl ?_
      refine v_iload_n C 2 dX17_word_65 rfl rfl ?_
      refine v_callV (stk := fun b => .int b :: []) C (ct_X17_closest _ a0 i1 i2) rfl ⟨rfl, nd_X17_closest⟩ rfl (Nat.le_of_ble_eq_true rfl) (Nat.le_of_ble_eq_true rfl) [] (Nat.le_of_ble_eq_true rfl) (fun _ => rfl) rfl q1928 q1930 qs38 q127 q1931 hf hl dX17_word_66 (fun x7 h8 hf => ?_)
      exact v_iret C E hf dX17_word_69
    have hf := mi_neg e10_2 hf
    by_cases e10_3 : i2 = 3
    · have hf := mi_pos e10_3 hf
      refine v_tswI C (k := 3) e10_3 dX17_word_10 (by decide) (by decide) rfl (tgt := 63) (by decide) ?_
      refine v_aload_n C 0 dX17_word_63 rfl rfl ?_
      refine v_iload_n C 1 dX17_word_64 rfl rfl ?_
      refine v_iload_n C 2 dX17_word_65 rfl rfl ?_
      refine v_callV (stk := fun b => .int b :: []) C (ct_X17_closest _ a0 i1 i2) rfl ⟨rfl, nd_X17_closest⟩ rfl (Nat.le_of_ble_eq_true rfl) (Nat.le_of_ble_eq_true rfl) [] (Nat.le_of_ble_eq_true rfl) (fun _ => rfl) rfl q1928 q1930 qs38 q127 q1931 hf hl dX17_word_66 (fun x9 h10 hf => ?_)
      exact v_iret C E hf dX17_word_69
    have hf := mi_neg e10_3 hf
    by_cases e10_4 : i2 = 4
    · have hf := mi_pos e10_4 hf
      refine v_tswI C (k := 4) e10_4 dX17_word_10 (by decide) (by decide) rfl (tgt := 63) (by decide) ?_
      refine v_aload_n C 0 dX17_word_63 rfl rfl ?_
      refine v_iload_n C 1 dX17_word_64 rfl rfl ?_
      refine v_iload_n C 2 dX17_word_65 rfl rfl ?_
      refine v_callV (stk := fun b => .int b :: []) C (ct_X17_closest _ a0 i1 i2) rfl ⟨rfl, nd_X17_closest⟩ rfl (Nat.le_of_ble_eq_true rfl) (Nat.le_of_ble_eq_true rfl) [] (Nat.le_of_ble_eq_true rfl) (fun _ => rfl) rfl q1928 q1930 qs38 q127 q1931 hf hl dX17_word_66 (fun x11 h12 hf => ?_)
      exact v_iret C E hf dX17_word_69
    have hf := mi_neg e10_4 hf
    by_cases e10_5 : i2 = 5
    · have hf := mi_pos e10_5 hf
      refine v_tswI C (k := 5) e10_5 dX17_word_10 (by decide) (by decide) rfl (tgt := 70) (by decide) ?_
      refine v_aload_n C 0 dX17_word_70 rfl rfl ?_
      refine v_iload_n C 1 dX17_word_71 rfl rfl ?_
      refine v_callV (stk := fun b => .int b :: []) C (ct_X17_octadsIn _ a0 i1) rfl ⟨rfl, nd_X17_octadsIn⟩ rfl (Nat.le_of_ble_eq_true rfl) (Nat.le_of_ble_eq_true rfl) [] (Nat.le_of_ble_eq_true rfl) (fun _ => rfl) rfl q1932 q1934 qs39 q127 q1935 hf hl dX17_word_72 (fun x13 h14 hf => ?_)
      exact v_iret C E hf dX17_word_75
    have hf := mi_neg e10_5 hf
    by_cases e10_6 : i2 = 6
    · have hf := mi_pos e10_6 hf
      refine v_tswI C (k := 6) e10_6 dX17_word_10 (by decide) (by decide) rfl (tgt := 76) (by decide) ?_
      refine v_aload_n C 0 dX17_word_76 rfl rfl ?_
      refine v_iload_n C 1 dX17_word_77 rfl rfl ?_
      refine v_callV (stk := fun b => .int b :: []) C (ct_X17_octadsWith _ a0 i1) rfl ⟨rfl, nd_X17_octadsWith⟩ rfl (Nat.le_of_ble_eq_true rfl) (Nat.le_of_ble_eq_true rfl) [] (Nat.le_of_ble_eq_true rfl) (fun _ => rfl) rfl q1936 q1938 qs40 q127 q1939 hf hl dX17_word_78 (fun x15 h16 hf => ?_)
      exact v_iret C E hf dX17_word_81
    have hf := mi_neg e10_6 hf
    refine v_tswO C (n := 7) (lo := 0) (x := i2) (fun j hj => ?_) dX17_word_10 rfl rfl (tgt := 82) (by decide) ?_
    · rcases (show j = 0 ∨ j = 1 ∨ j = 2 ∨ j = 3 ∨ j = 4 ∨ j = 5 ∨ j = 6 by omega) with rfl | rfl | rfl | rfl | rfl | rfl | rfl
      · exact e10_0
      · exact e10_1
      · exact e10_2
      · exact e10_3
      · exact e10_4
      · exact e10_5
      · exact e10_6
    refine v_iconst (x := (-1)) C dX17_word_82 (by decide) ?_
    exact v_iret C E hf dX17_word_83
  · refine v_iconst (x := (-1)) C dX17_word_7 (by decide) ?_
    exact v_iret C E hf dX17_word_8
def f_X17_block (a0 : Nat) (i1 : Int32) (i2 : Int32) : hM Int32 :=
  mi (i1 = 0) (mb (f_X17_in i2.toInt64 (0 : Int64) (4095 : Int64)) fun x1 => mb (mi (x1 = 0) (mret (-1 : Int32)) (mb (f_X17_wordOf i2) fun x5 => mret x5)) fun x3 => mret x3) (mi (i1 = 1) (mb (f_X17_in i2.toInt64 (0 : Int64) (758 : Int64)) fun x7 => mb (mi (x7 = 0) (mret (-1 : Int32)) (mb (gR a0 15 5) fun x11 => mb (aI 1 x11 i2) fun x12 => mret x12)) fun x9 => mret x9) (mi (i1 = 2) (mb (f_X17_in i2.toInt64 (0 : Int64) (2575 : Int64)) fun x13 => mb (mi (x13 = 0) (mret (-1 : Int32)) (mb (mat a0 15 (f_X17_dodecad a0 i2)) fun x17 => mret x17)) fun x15 => mret x15) (mret (-1 : Int32))))
theorem nd_X17_block : yX17_block.cls ≠ "java/lang/invoke/MethodHandle" ∧ yX17_block.cls ≠ "java/lang/invoke/VarHandle" ∧ (parseMethodDescriptor yX17_block.desc).map (fun d => d.parameters.length) = some 2 := by decide +kernel
set_option maxHeartbeats 4000000 in
theorem ct_X17_block (l : Launch) (a0 : Nat) (i1 : Int32) (i2 : Int32) : CT l yX17_block cX17_block 3 (some .int) 3 65 rvI [.ref a0, .int i1, .int i2] (f_X17_block a0 i1 i2) := by
  refine CT_of (ls := [(0, .ref a0), (1, .int i1), (2, .int i2)]) (by decide) (Nat.le_of_ble_eq_true rfl) rfl ?_
  intro X h he z hX hf C E hnm hh
  have hl := hle.rf he
  subst hX
  unfold f_X17_block at hf
  refine v_iload_n C 1 dX17_block_0 rfl rfl ?_
  by_cases e1_0 : i1 = 0
  · have hf := mi_pos e1_0 hf
    refine v_tswI C (k := 0) e1_0 dX17_block_1 (by decide) (by decide) rfl (tgt := 28) (by decide) ?_
    refine v_iload_n C 2 dX17_block_28 rfl rfl ?_
    refine v_i2l C dX17_block_29 ?_
    refine v_lconst (x := 0) C dX17_block_30 (by decide) ?_
    refine v_ldc2 (x := 4095) C q1944 dX17_block_31 ?_
    refine v_callS (stk := fun b => .int b :: []) C (ct_X17_in _ i2.toInt64 (0 : Int64) (4095 : Int64)) nd_X17_in rfl (Nat.le_of_ble_eq_true rfl) (Nat.le_of_ble_eq_true rfl) [] (Nat.le_of_ble_eq_true rfl) (fun _ => rfl) rfl q1779 q1780 q127 q1781 hf hl dX17_block_34 (fun x1 h2 hf => ?_)
    obtain ⟨x3, h4, hAh4, hf, hlh4⟩ := mb_inv hf hl
    refine v_cut (h1 := h4) (pc1 := 48) (ls1 := []) (st1 := [.int x3]) ?_ (fun Jh4 => ?_)
    · clear hAh4 hlh4
      exact v_iret C E hf dX17_block_48
    · clear hf
      have hf := hAh4
      have hl := hlh4
      refine v_if_eq C hf (tgt := 47) dX17_block_37 (by decide) (fun c37 hf => ?_) (fun c37 hf => ?_)
      · refine v_iconst (x := (-1)) C dX17_block_47 (by decide) ?_
        obtain ⟨e1, rfl⟩ := mret_inv hf
        subst e1
        exact v_sub (ls' := _) [] rfl Jh4
      · refine v_iload_n C 2 dX17_block_40 rfl rfl ?_
        refine v_callS (stk := fun b => .int b :: []) C (ct_X17_wordOf _ i2) nd_X17_wordOf rfl (Nat.le_of_ble_eq_true rfl) (Nat.le_of_ble_eq_true rfl) [] (Nat.le_of_ble_eq_true rfl) (fun _ => rfl) rfl q1945 q1946 q127 q1947 hf hl dX17_block_41 (fun x5 h6 hf => ?_)
        refine v_goto (tgt := 48) C dX17_block_44 (by decide) ?_
        obtain ⟨e1, rfl⟩ := mret_inv hf
        subst e1
        exact v_sub (ls' := _) [] rfl Jh4
  have hf := mi_neg e1_0 hf
  by_cases e1_1 : i1 = 1
  · have hf := mi_pos e1_1 hf
    refine v_tswI C (k := 1) e1_1 dX17_block_1 (by decide) (by decide) rfl (tgt := 49) (by decide) ?_
    refine v_iload_n C 2 dX17_block_49 rfl rfl ?_
    refine v_i2l C dX17_block_50 ?_
    refine v_lconst (x := 0) C dX17_block_51 (by decide) ?_
    refine v_ldc2 (x := 758) C q1948 dX17_block_52 ?_
    refine v_callS (stk := fun b => .int b :: []) C (ct_X17_in _ i2.toInt64 (0 : Int64) (758 : Int64)) nd_X17_in rfl (Nat.le_of_ble_eq_true rfl) (Nat.le_of_ble_eq_true rfl) [] (Nat.le_of_ble_eq_true rfl) (fun _ => rfl) rfl q1779 q1780 q127 q1781 hf hl dX17_block_55 (fun x7 h8 hf => ?_)
    obtain ⟨x9, h10, hAh10, hf, hlh10⟩ := mb_inv hf hl
    refine v_cut (h1 := h10) (pc1 := 71) (ls1 := []) (st1 := [.int x9]) ?_ (fun Jh10 => ?_)
    · clear hAh10 hlh10
      exact v_iret C E hf dX17_block_71
    · clear hf
      have hf := hAh10
      have hl := hlh10
      refine v_if_eq C hf (tgt := 70) dX17_block_58 (by decide) (fun c58 hf => ?_) (fun c58 hf => ?_)
      · refine v_iconst (x := (-1)) C dX17_block_70 (by decide) ?_
        obtain ⟨e1, rfl⟩ := mret_inv hf
        subst e1
        exact v_sub (ls' := _) [] rfl Jh10
      · refine v_aload_n C 0 dX17_block_61 rfl rfl ?_
        refine v_gR (Cn := RX17) (T := TX17) (N := 37) C hf in_X17 rfl (by decide) q1809 rfl dX17_block_62 (fun x11 hf => ?_)
        refine v_iload_n C 2 dX17_block_65 rfl rfl ?_
        refine v_iaload C hf dX17_block_66 (fun x12 hf => ?_)
        refine v_goto (tgt := 71) C dX17_block_67 (by decide) ?_
        obtain ⟨e1, rfl⟩ := mret_inv hf
        subst e1
        exact v_sub (ls' := _) [] rfl Jh10
  have hf := mi_neg e1_1 hf
  by_cases e1_2 : i1 = 2
  · have hf := mi_pos e1_2 hf
    refine v_tswI C (k := 2) e1_2 dX17_block_1 (by decide) (by decide) rfl (tgt := 72) (by decide) ?_
    refine v_iload_n C 2 dX17_block_72 rfl rfl ?_
    refine v_i2l C dX17_block_73 ?_
    refine v_lconst (x := 0) C dX17_block_74 (by decide) ?_
    refine v_ldc2 (x := 2575) C q1949 dX17_block_75 ?_
    refine v_callS (stk := fun b => .int b :: []) C (ct_X17_in _ i2.toInt64 (0 : Int64) (2575 : Int64)) nd_X17_in rfl (Nat.le_of_ble_eq_true rfl) (Nat.le_of_ble_eq_true rfl) [] (Nat.le_of_ble_eq_true rfl) (fun _ => rfl) rfl q1779 q1780 q127 q1781 hf hl dX17_block_78 (fun x13 h14 hf => ?_)
    obtain ⟨x15, h16, hAh16, hf, hlh16⟩ := mb_inv hf hl
    refine v_cut (h1 := h16) (pc1 := 93) (ls1 := []) (st1 := [.int x15]) ?_ (fun Jh16 => ?_)
    · clear hAh16 hlh16
      exact v_iret C E hf dX17_block_93
    · clear hf
      have hf := hAh16
      have hl := hlh16
      refine v_if_eq C hf (tgt := 92) dX17_block_81 (by decide) (fun c81 hf => ?_) (fun c81 hf => ?_)
      · refine v_iconst (x := (-1)) C dX17_block_92 (by decide) ?_
        obtain ⟨e1, rfl⟩ := mret_inv hf
        subst e1
        exact v_sub (ls' := _) [] rfl Jh16
      · refine v_aload_n C 0 dX17_block_84 rfl rfl ?_
        refine v_iload_n C 2 dX17_block_85 rfl rfl ?_
        refine v_callV (stk := fun b => .int b :: []) C (ct_X17_dodecad _ a0 i2) rfl ⟨rfl, nd_X17_dodecad⟩ rfl (Nat.le_of_ble_eq_true rfl) (Nat.le_of_ble_eq_true rfl) [] (Nat.le_of_ble_eq_true rfl) (fun _ => rfl) rfl q1950 q1952 qs41 q127 q1953 hf hl dX17_block_86 (fun x17 h18 hf => ?_)
        refine v_goto (tgt := 93) C dX17_block_89 (by decide) ?_
        obtain ⟨e1, rfl⟩ := mret_inv hf
        subst e1
        exact v_sub (ls' := _) [] rfl Jh16
  have hf := mi_neg e1_2 hf
  refine v_tswO C (n := 3) (lo := 0) (x := i1) (fun j hj => ?_) dX17_block_1 rfl rfl (tgt := 94) (by decide) ?_
  · rcases (show j = 0 ∨ j = 1 ∨ j = 2 by omega) with rfl | rfl | rfl
    · exact e1_0
    · exact e1_1
    · exact e1_2
  refine v_iconst (x := (-1)) C dX17_block_94 (by decide) ?_
  exact v_iret C E hf dX17_block_95
def f_X17_complete (a0 : Nat) (i1 : Int32) : hM Int32 :=
  mb (f_X17_isSet i1) fun x1 => mb (mi (¬ x1 = 0) (mb (f_X17_bits i1) fun x5 => mi (x5 = (5 : Int32)) (mb (mat a0 15 (f_X17_octadOf a0 i1)) fun x7 => mret x7) (mret (-2 : Int32))) (mret (-1 : Int32))) fun x3 => mret x3
theorem nd_X17_complete : yX17_complete.cls ≠ "java/lang/invoke/MethodHandle" ∧ yX17_complete.cls ≠ "java/lang/invoke/VarHandle" ∧ (parseMethodDescriptor yX17_complete.desc).map (fun d => d.parameters.length) = some 1 := by decide +kernel
set_option maxHeartbeats 4000000 in
theorem ct_X17_complete (l : Launch) (a0 : Nat) (i1 : Int32) : CT l yX17_complete cX17_complete 2 (some .int) 2 45 rvI [.ref a0, .int i1] (f_X17_complete a0 i1) := by
  refine CT_of (ls := [(0, .ref a0), (1, .int i1)]) (by decide) (Nat.le_of_ble_eq_true rfl) rfl ?_
  intro X h he z hX hf C E hnm hh
  have hl := hle.rf he
  subst hX
  unfold f_X17_complete at hf
  refine v_iload_n C 1 dX17_complete_0 rfl rfl ?_
  refine v_callS (stk := fun b => .int b :: []) C (ct_X17_isSet _ i1) nd_X17_isSet rfl (Nat.le_of_ble_eq_true rfl) (Nat.le_of_ble_eq_true rfl) [] (Nat.le_of_ble_eq_true rfl) (fun _ => rfl) rfl q1920 q1921 q127 q1922 hf hl dX17_complete_1 (fun x1 h2 hf => ?_)
  obtain ⟨x3, h4, hAh4, hf, hlh4⟩ := mb_inv hf hl
  refine v_cut (h1 := h4) (pc1 := 29) (ls1 := []) (st1 := [.int x3]) ?_ (fun Jh4 => ?_)
  · clear hAh4 hlh4
    exact v_iret C E hf dX17_complete_29
  · clear hf
    have hf := hAh4
    have hl := hlh4
    refine v_if_ne C hf (tgt := 11) dX17_complete_4 (by decide) (fun c4 hf => ?_) (fun c4 hf => ?_)
    · refine v_iload_n C 1 dX17_complete_11 rfl rfl ?_
      refine v_callS (stk := fun b => .int b :: []) C (ct_X17_bits _ i1) nd_X17_bits rfl (Nat.le_of_ble_eq_true rfl) (Nat.le_of_ble_eq_true rfl) [] (Nat.le_of_ble_eq_true rfl) (fun _ => rfl) rfl q1801 q1802 q127 q1803 hf hl dX17_complete_12 (fun x5 h6 hf => ?_)
      refine v_iconst (x := 5) C dX17_complete_15 (by decide) ?_
      refine v_icmp_eq C hf (tgt := 24) dX17_complete_16 (by decide) (fun c16 hf => ?_) (fun c16 hf => ?_)
      · refine v_aload_n C 0 dX17_complete_24 rfl rfl ?_
        refine v_iload_n C 1 dX17_complete_25 rfl rfl ?_
        refine v_callV (stk := fun b => .int b :: []) C (ct_X17_octadOf _ a0 i1) rfl ⟨rfl, nd_X17_octadOf⟩ rfl (Nat.le_of_ble_eq_true rfl) (Nat.le_of_ble_eq_true rfl) [] (Nat.le_of_ble_eq_true rfl) (fun _ => rfl) rfl q1958 q1960 qs42 q127 q1961 hf hl dX17_complete_26 (fun x7 h8 hf => ?_)
        obtain ⟨e1, rfl⟩ := mret_inv hf
        subst e1
        exact v_sub (ls' := _) [] rfl Jh4
      · refine v_bipush (x := (-2)) C dX17_complete_19 (by decide) ?_
        refine v_goto (tgt := 29) C dX17_complete_21 (by decide) ?_
        obtain ⟨e1, rfl⟩ := mret_inv hf
        subst e1
        exact v_sub (ls' := _) [] rfl Jh4
    · refine v_iconst (x := (-1)) C dX17_complete_7 (by decide) ?_
      refine v_goto (tgt := 29) C dX17_complete_8 (by decide) ?_
      obtain ⟨e1, rfl⟩ := mret_inv hf
      subst e1
      exact v_sub (ls' := _) [] rfl Jh4
def l_X17_sextet_41 (a0 : Nat) (i1 : Int32) (i2 : Int32) : Nat → Int32 → Int32 → Int32 → hM (Int32)
  | 0, _, _, _ => mfail
  | n + 1, i3, i4, i5 => mi (i2 < i5) (mret i4) (mb (f_X17_lowest i3) fun x7 => mb (mat a0 15 (f_X17_tetradAt a0 i1 x7)) fun x9 => l_X17_sextet_41 a0 i1 i2 n (i3 &&& (x9 ^^^ (-1 : Int32))) x9 (i5 + (1 : Int32)))
def f_X17_sextet (a0 : Nat) (i1 : Int32) (i2 : Int32) : hM Int32 :=
  mb (f_X17_isSet i1) fun x1 => mi (x1 = 0) (mret (-1 : Int32)) (mb (f_X17_in i2.toInt64 (0 : Int64) (5 : Int64)) fun x3 => mi (¬ x3 = 0) (mb (f_X17_bits i1) fun x5 => mi (x5 = (4 : Int32)) (mb (l_X17_sextet_41 a0 i1 i2 FU (16777215 : Int32) (0 : Int32) (0 : Int32)) fun x11 => mret x11) (mret (-2 : Int32))) (mret (-1 : Int32)))
theorem nd_X17_sextet : yX17_sextet.cls ≠ "java/lang/invoke/MethodHandle" ∧ yX17_sextet.cls ≠ "java/lang/invoke/VarHandle" ∧ (parseMethodDescriptor yX17_sextet.desc).map (fun d => d.parameters.length) = some 2 := by decide +kernel
set_option maxHeartbeats 4000000 in
theorem ct_X17_sextet (l : Launch) (a0 : Nat) (i1 : Int32) (i2 : Int32) : CT l yX17_sextet cX17_sextet 6 (some .int) 2 45 rvI [.ref a0, .int i1, .int i2] (f_X17_sextet a0 i1 i2) := by
  refine CT_of (ls := [(0, .ref a0), (1, .int i1), (2, .int i2)]) (by decide) (Nat.le_of_ble_eq_true rfl) rfl ?_
  intro X h he z hX hf C E hnm hh
  have hl := hle.rf he
  subst hX
  have L41 : ∀ (a0 : Nat) (i1 : Int32) (i2 : Int32) (n : Nat) (i3 : Int32) (i4 : Int32) (i5 : Int32) (h h1 : Hp) (o : Int32), (l_X17_sextet_41 a0 i1 i2 n i3 i4 i5).1 h = some (o, h1) → hle h1 he → V X h1 71 [(4, .int o)] [] → V X h 41 [(0, .ref a0), (1, .int i1), (2, .int i2), (3, .int i3), (4, .int i4), (5, .int i5)] [] := by
    intro a0 i1 i2 n
    induction n with
    | zero => intro i3 i4 i5 h h1 o hf; exact mfail_inv hf
    | succ n ih =>
      intro i3 i4 i5 h h1 o hf hl J
      rw [l_X17_sextet_41] at hf
      refine v_iload C 5 dX17_sextet_41 rfl ?_
      refine v_iload_n C 2 dX17_sextet_43 rfl rfl ?_
      refine v_icmp_gt C hf (tgt := 71) dX17_sextet_44 (by decide) (fun c44 hf => ?_) (fun c44 hf => ?_)
      · obtain ⟨e1, rfl⟩ := mret_inv hf
        subst e1
        exact v_sub (ls' := _) [4] rfl J
      · refine v_aload_n C 0 dX17_sextet_47 rfl rfl ?_
        refine v_iload_n C 1 dX17_sextet_48 rfl rfl ?_
        refine v_iload_n C 3 dX17_sextet_49 rfl rfl ?_
        refine v_callS (stk := fun b => .int b :: [.int i1, .ref a0]) C (ct_X17_lowest _ i3) nd_X17_lowest rfl (Nat.le_of_ble_eq_true rfl) (Nat.le_of_ble_eq_true rfl) [.int i1, .ref a0] (Nat.le_of_ble_eq_true rfl) (fun _ => rfl) rfl q1798 q1799 q127 q1800 hf hl dX17_sextet_50 (fun x7 h8 hf => ?_)
        refine v_callV (stk := fun b => .int b :: []) C (ct_X17_tetradAt _ a0 i1 x7) rfl ⟨rfl, nd_X17_tetradAt⟩ rfl (Nat.le_of_ble_eq_true rfl) (Nat.le_of_ble_eq_true rfl) [] (Nat.le_of_ble_eq_true rfl) (fun _ => rfl) rfl q1968 q1970 qs43 q127 q1971 hf hl dX17_sextet_53 (fun x9 h10 hf => ?_)
        refine v_istore (ls' := [(4, _), (0, _), (1, _), (2, _), (3, _), (5, _)]) C dX17_sextet_56 (by decide) rfl ?_
        refine v_iload_n C 4 dX17_sextet_58 rfl rfl ?_
        refine v_iload C 0 dX17_sextet_59 rfl ?_
        refine v_iconst (x := (-1)) C dX17_sextet_61 (by decide) ?_
        refine v_ixor C dX17_sextet_62 ?_
        refine v_iand C dX17_sextet_63 ?_
        refine v_istore_n (ls' := [(3, _), (4, _), (0, _), (1, _), (2, _), (5, _)]) C dX17_sextet_64 rfl (by decide) rfl ?_
        refine v_iinc (ls' := [(5, _), (3, _), (4, _), (0, _), (1, _), (2, _)]) (y := i5 + (1 : Int32)) C 5 dX17_sextet_65 rfl rfl (by decide) rfl ?_
        refine v_goto (tgt := 41) C dX17_sextet_68 (by decide) ?_
        refine v_sub (ls' := _) [3, 4, 5, 1, 2, 0] rfl (ih (i3 &&& (x9 ^^^ (-1 : Int32))) x9 (i5 + (1 : Int32)) _ _ _ hf hl J)
  unfold f_X17_sextet at hf
  refine v_iload_n C 1 dX17_sextet_0 rfl rfl ?_
  refine v_callS (stk := fun b => .int b :: []) C (ct_X17_isSet _ i1) nd_X17_isSet rfl (Nat.le_of_ble_eq_true rfl) (Nat.le_of_ble_eq_true rfl) [] (Nat.le_of_ble_eq_true rfl) (fun _ => rfl) rfl q1920 q1921 q127 q1922 hf hl dX17_sextet_1 (fun x1 h2 hf => ?_)
  refine v_if_eq C hf (tgt := 19) dX17_sextet_4 (by decide) (fun c4 hf => ?_) (fun c4 hf => ?_)
  · refine v_iconst (x := (-1)) C dX17_sextet_19 (by decide) ?_
    exact v_iret C E hf dX17_sextet_20
  · refine v_iload_n C 2 dX17_sextet_7 rfl rfl ?_
    refine v_i2l C dX17_sextet_8 ?_
    refine v_lconst (x := 0) C dX17_sextet_9 (by decide) ?_
    refine v_ldc2 (x := 5) C q1966 dX17_sextet_10 ?_
    refine v_callS (stk := fun b => .int b :: []) C (ct_X17_in _ i2.toInt64 (0 : Int64) (5 : Int64)) nd_X17_in rfl (Nat.le_of_ble_eq_true rfl) (Nat.le_of_ble_eq_true rfl) [] (Nat.le_of_ble_eq_true rfl) (fun _ => rfl) rfl q1779 q1780 q127 q1781 hf hl dX17_sextet_13 (fun x3 h4 hf => ?_)
    refine v_if_ne C hf (tgt := 21) dX17_sextet_16 (by decide) (fun c16 hf => ?_) (fun c16 hf => ?_)
    · refine v_iload_n C 1 dX17_sextet_21 rfl rfl ?_
      refine v_callS (stk := fun b => .int b :: []) C (ct_X17_bits _ i1) nd_X17_bits rfl (Nat.le_of_ble_eq_true rfl) (Nat.le_of_ble_eq_true rfl) [] (Nat.le_of_ble_eq_true rfl) (fun _ => rfl) rfl q1801 q1802 q127 q1803 hf hl dX17_sextet_22 (fun x5 h6 hf => ?_)
      refine v_iconst (x := 4) C dX17_sextet_25 (by decide) ?_
      refine v_icmp_eq C hf (tgt := 32) dX17_sextet_26 (by decide) (fun c26 hf => ?_) (fun c26 hf => ?_)
      · refine v_ldc (x := 16777215) C q1967 dX17_sextet_32 ?_
        refine v_istore_n (ls' := [(3, _), (0, _), (1, _), (2, _)]) C dX17_sextet_34 rfl (by decide) rfl ?_
        refine v_iconst (x := 0) C dX17_sextet_35 (by decide) ?_
        refine v_istore (ls' := [(4, _), (3, _), (0, _), (1, _), (2, _)]) C dX17_sextet_36 (by decide) rfl ?_
        refine v_iconst (x := 0) C dX17_sextet_38 (by decide) ?_
        refine v_istore (ls' := [(5, _), (4, _), (3, _), (0, _), (1, _), (2, _)]) C dX17_sextet_39 (by decide) rfl ?_
        obtain ⟨x11, h12, eh12, hf, hlh12⟩ := mb_inv hf hl
        refine v_sub (ls' := _) [3, 4, 5, 2, 1, 0] rfl (L41 a0 i1 i2 FU (16777215 : Int32) (0 : Int32) (0 : Int32) _ _ _ eh12 hlh12 ?_)
        refine v_iload C 0 dX17_sextet_71 rfl ?_
        exact v_iret C E hf dX17_sextet_73
      · refine v_bipush (x := (-2)) C dX17_sextet_29 (by decide) ?_
        exact v_iret C E hf dX17_sextet_31
    · refine v_iconst (x := (-1)) C dX17_sextet_19 (by decide) ?_
      exact v_iret C E hf dX17_sextet_20
def l_X17_both_40 (a0 : Nat) (i1 : Int32) (i2 : Int32) : Nat → Int32 → Int32 → hM (Int32)
  | 0, _, _ => mfail
  | n + 1, i3, i4 => mi ((759 : Int32) ≤ i4) (mret i3) (mb (gR a0 15 5) fun x9 => mb (aI 1 x9 i4) fun x10 => mb (mat a0 15 (f_X17_isOfTwo a0 x10 i1)) fun x11 => mb (mi (x11 = 0) (mret (0 : Int32)) (mb (gR a0 15 5) fun x15 => mb (aI 1 x15 i4) fun x16 => mb (mat a0 15 (f_X17_isOfTwo a0 x16 i2)) fun x17 => mi (x17 = 0) (mret (0 : Int32)) (mret (1 : Int32)))) fun x13 => l_X17_both_40 a0 i1 i2 n (i3 + x13) (i4 + (1 : Int32)))
def f_X17_both (a0 : Nat) (i1 : Int32) (i2 : Int32) : hM Int32 :=
  mb (f_X17_isSet i1) fun x1 => mi (x1 = 0) (mret (-1 : Int32)) (mb (f_X17_isSet i2) fun x3 => mi (¬ x3 = 0) (mb (f_X17_bits i1) fun x5 => mi (¬ x5 = (4 : Int32)) (mret (-2 : Int32)) (mb (f_X17_bits i2) fun x7 => mi (x7 = (4 : Int32)) (mb (l_X17_both_40 a0 i1 i2 FU (0 : Int32) (0 : Int32)) fun x19 => mret x19) (mret (-2 : Int32)))) (mret (-1 : Int32)))
theorem nd_X17_both : yX17_both.cls ≠ "java/lang/invoke/MethodHandle" ∧ yX17_both.cls ≠ "java/lang/invoke/VarHandle" ∧ (parseMethodDescriptor yX17_both.desc).map (fun d => d.parameters.length) = some 2 := by decide +kernel
set_option maxHeartbeats 4000000 in
theorem ct_X17_both (l : Launch) (a0 : Nat) (i1 : Int32) (i2 : Int32) : CT l yX17_both cX17_both 5 (some .int) 3 68 rvI [.ref a0, .int i1, .int i2] (f_X17_both a0 i1 i2) := by
  refine CT_of (ls := [(0, .ref a0), (1, .int i1), (2, .int i2)]) (by decide) (Nat.le_of_ble_eq_true rfl) rfl ?_
  intro X h he z hX hf C E hnm hh
  have hl := hle.rf he
  subst hX
  have L40 : ∀ (a0 : Nat) (i1 : Int32) (i2 : Int32) (n : Nat) (i3 : Int32) (i4 : Int32) (h h1 : Hp) (o : Int32), (l_X17_both_40 a0 i1 i2 n i3 i4).1 h = some (o, h1) → hle h1 he → V X h1 92 [(3, .int o)] [] → V X h 40 [(0, .ref a0), (1, .int i1), (2, .int i2), (3, .int i3), (4, .int i4)] [] := by
    intro a0 i1 i2 n
    induction n with
    | zero => intro i3 i4 h h1 o hf; exact mfail_inv hf
    | succ n ih =>
      intro i3 i4 h h1 o hf hl J
      rw [l_X17_both_40] at hf
      refine v_iload C 4 dX17_both_40 rfl ?_
      refine v_sipush (x := 759) C dX17_both_42 (by decide) ?_
      refine v_icmp_ge C hf (tgt := 92) dX17_both_45 (by decide) (fun c45 hf => ?_) (fun c45 hf => ?_)
      · obtain ⟨e1, rfl⟩ := mret_inv hf
        subst e1
        exact v_sub (ls' := _) [3] rfl J
      · refine v_iload_n C 3 dX17_both_48 rfl rfl ?_
        refine v_aload_n C 0 dX17_both_49 rfl rfl ?_
        refine v_aload_n C 0 dX17_both_50 rfl rfl ?_
        refine v_gR (Cn := RX17) (T := TX17) (N := 37) C hf in_X17 rfl (by decide) q1809 rfl dX17_both_51 (fun x9 hf => ?_)
        refine v_iload C 4 dX17_both_54 rfl ?_
        refine v_iaload C hf dX17_both_56 (fun x10 hf => ?_)
        refine v_iload_n C 1 dX17_both_57 rfl rfl ?_
        refine v_callV (stk := fun b => .int b :: [.int i3]) C (ct_X17_isOfTwo _ a0 x10 i1) rfl ⟨rfl, nd_X17_isOfTwo⟩ rfl (Nat.le_of_ble_eq_true rfl) (Nat.le_of_ble_eq_true rfl) [.int i3] (Nat.le_of_ble_eq_true rfl) (fun _ => rfl) rfl q1976 q1978 qs44 q127 q1979 hf hl dX17_both_58 (fun x11 h12 hf => ?_)
        obtain ⟨x13, h14, hAh14, hf, hlh14⟩ := mb_inv hf hl
        refine v_cut (h1 := h14) (pc1 := 84) (ls1 := [(0, .ref a0), (1, .int i1), (2, .int i2), (4, .int i4)]) (st1 := [.int x13, .int i3]) ?_ (fun Jh14 => ?_)
        · clear hAh14 hlh14
          refine v_iadd C dX17_both_84 ?_
          refine v_istore_n (ls' := [(3, _), (0, _), (1, _), (2, _), (4, _)]) C dX17_both_85 rfl (by decide) rfl ?_
          refine v_iinc (ls' := [(4, _), (3, _), (0, _), (1, _), (2, _)]) (y := i4 + (1 : Int32)) C 4 dX17_both_86 rfl rfl (by decide) rfl ?_
          refine v_goto (tgt := 40) C dX17_both_89 (by decide) ?_
          refine v_sub (ls' := _) [2, 3, 4, 1, 0] rfl (ih (i3 + x13) (i4 + (1 : Int32)) _ _ _ hf hl J)
        · clear hf
          have hf := hAh14
          have hl := hlh14
          refine v_if_eq C hf (tgt := 83) dX17_both_61 (by decide) (fun c61 hf => ?_) (fun c61 hf => ?_)
          · refine v_iconst (x := 0) C dX17_both_83 (by decide) ?_
            obtain ⟨e1, rfl⟩ := mret_inv hf
            subst e1
            exact v_sub (ls' := _) [0, 1, 2, 4] rfl Jh14
          · refine v_aload_n C 0 dX17_both_64 rfl rfl ?_
            refine v_aload_n C 0 dX17_both_65 rfl rfl ?_
            refine v_gR (Cn := RX17) (T := TX17) (N := 37) C hf in_X17 rfl (by decide) q1809 rfl dX17_both_66 (fun x15 hf => ?_)
            refine v_iload C 4 dX17_both_69 rfl ?_
            refine v_iaload C hf dX17_both_71 (fun x16 hf => ?_)
            refine v_iload_n C 2 dX17_both_72 rfl rfl ?_
            refine v_callV (stk := fun b => .int b :: [.int i3]) C (ct_X17_isOfTwo _ a0 x16 i2) rfl ⟨rfl, nd_X17_isOfTwo⟩ rfl (Nat.le_of_ble_eq_true rfl) (Nat.le_of_ble_eq_true rfl) [.int i3] (Nat.le_of_ble_eq_true rfl) (fun _ => rfl) rfl q1976 q1978 qs44 q127 q1979 hf hl dX17_both_73 (fun x17 h18 hf => ?_)
            refine v_if_eq C hf (tgt := 83) dX17_both_76 (by decide) (fun c76 hf => ?_) (fun c76 hf => ?_)
            · refine v_iconst (x := 0) C dX17_both_83 (by decide) ?_
              obtain ⟨e1, rfl⟩ := mret_inv hf
              subst e1
              exact v_sub (ls' := _) [0, 1, 2, 4] rfl Jh14
            · refine v_iconst (x := 1) C dX17_both_79 (by decide) ?_
              refine v_goto (tgt := 84) C dX17_both_80 (by decide) ?_
              obtain ⟨e1, rfl⟩ := mret_inv hf
              subst e1
              exact v_sub (ls' := _) [0, 1, 2, 4] rfl Jh14
  unfold f_X17_both at hf
  refine v_iload_n C 1 dX17_both_0 rfl rfl ?_
  refine v_callS (stk := fun b => .int b :: []) C (ct_X17_isSet _ i1) nd_X17_isSet rfl (Nat.le_of_ble_eq_true rfl) (Nat.le_of_ble_eq_true rfl) [] (Nat.le_of_ble_eq_true rfl) (fun _ => rfl) rfl q1920 q1921 q127 q1922 hf hl dX17_both_1 (fun x1 h2 hf => ?_)
  refine v_if_eq C hf (tgt := 14) dX17_both_4 (by decide) (fun c4 hf => ?_) (fun c4 hf => ?_)
  · refine v_iconst (x := (-1)) C dX17_both_14 (by decide) ?_
    exact v_iret C E hf dX17_both_15
  · refine v_iload_n C 2 dX17_both_7 rfl rfl ?_
    refine v_callS (stk := fun b => .int b :: []) C (ct_X17_isSet _ i2) nd_X17_isSet rfl (Nat.le_of_ble_eq_true rfl) (Nat.le_of_ble_eq_true rfl) [] (Nat.le_of_ble_eq_true rfl) (fun _ => rfl) rfl q1920 q1921 q127 q1922 hf hl dX17_both_8 (fun x3 h4 hf => ?_)
    refine v_if_ne C hf (tgt := 16) dX17_both_11 (by decide) (fun c11 hf => ?_) (fun c11 hf => ?_)
    · refine v_iload_n C 1 dX17_both_16 rfl rfl ?_
      refine v_callS (stk := fun b => .int b :: []) C (ct_X17_bits _ i1) nd_X17_bits rfl (Nat.le_of_ble_eq_true rfl) (Nat.le_of_ble_eq_true rfl) [] (Nat.le_of_ble_eq_true rfl) (fun _ => rfl) rfl q1801 q1802 q127 q1803 hf hl dX17_both_17 (fun x5 h6 hf => ?_)
      refine v_iconst (x := 4) C dX17_both_20 (by decide) ?_
      refine v_icmp_ne C hf (tgt := 32) dX17_both_21 (by decide) (fun c21 hf => ?_) (fun c21 hf => ?_)
      · refine v_bipush (x := (-2)) C dX17_both_32 (by decide) ?_
        exact v_iret C E hf dX17_both_34
      · refine v_iload_n C 2 dX17_both_24 rfl rfl ?_
        refine v_callS (stk := fun b => .int b :: []) C (ct_X17_bits _ i2) nd_X17_bits rfl (Nat.le_of_ble_eq_true rfl) (Nat.le_of_ble_eq_true rfl) [] (Nat.le_of_ble_eq_true rfl) (fun _ => rfl) rfl q1801 q1802 q127 q1803 hf hl dX17_both_25 (fun x7 h8 hf => ?_)
        refine v_iconst (x := 4) C dX17_both_28 (by decide) ?_
        refine v_icmp_eq C hf (tgt := 35) dX17_both_29 (by decide) (fun c29 hf => ?_) (fun c29 hf => ?_)
        · refine v_iconst (x := 0) C dX17_both_35 (by decide) ?_
          refine v_istore_n (ls' := [(3, _), (0, _), (1, _), (2, _)]) C dX17_both_36 rfl (by decide) rfl ?_
          refine v_iconst (x := 0) C dX17_both_37 (by decide) ?_
          refine v_istore (ls' := [(4, _), (3, _), (0, _), (1, _), (2, _)]) C dX17_both_38 (by decide) rfl ?_
          obtain ⟨x19, h20, eh20, hf, hlh20⟩ := mb_inv hf hl
          refine v_sub (ls' := _) [2, 3, 4, 1, 0] rfl (L40 a0 i1 i2 FU (0 : Int32) (0 : Int32) _ _ _ eh20 hlh20 ?_)
          refine v_iload_n C 0 dX17_both_92 rfl rfl ?_
          exact v_iret C E hf dX17_both_93
        · refine v_bipush (x := (-2)) C dX17_both_32 (by decide) ?_
          exact v_iret C E hf dX17_both_34
    · refine v_iconst (x := (-1)) C dX17_both_14 (by decide) ?_
      exact v_iret C E hf dX17_both_15
def f_X17_move (a0 : Nat) (i1 : Int32) (i2 : Int32) : hM Int32 :=
  mb (f_X17_isMove i1) fun x1 => mb (mi (x1 = 0) (mret (-1 : Int32)) (mb (f_X17_isPlace i2.toInt64) fun x5 => mi (x5 = 0) (mret (-1 : Int32)) (mb (mat a0 15 (f_X17_to a0 i1 i2)) fun x7 => mret x7))) fun x3 => mret x3
theorem nd_X17_move : yX17_move.cls ≠ "java/lang/invoke/MethodHandle" ∧ yX17_move.cls ≠ "java/lang/invoke/VarHandle" ∧ (parseMethodDescriptor yX17_move.desc).map (fun d => d.parameters.length) = some 2 := by decide +kernel
set_option maxHeartbeats 4000000 in
theorem ct_X17_move (l : Launch) (a0 : Nat) (i1 : Int32) (i2 : Int32) : CT l yX17_move cX17_move 3 (some .int) 2 46 rvI [.ref a0, .int i1, .int i2] (f_X17_move a0 i1 i2) := by
  refine CT_of (ls := [(0, .ref a0), (1, .int i1), (2, .int i2)]) (by decide) (Nat.le_of_ble_eq_true rfl) rfl ?_
  intro X h he z hX hf C E hnm hh
  have hl := hle.rf he
  subst hX
  unfold f_X17_move at hf
  refine v_iload_n C 1 dX17_move_0 rfl rfl ?_
  refine v_callS (stk := fun b => .int b :: []) C (ct_X17_isMove _ i1) nd_X17_isMove rfl (Nat.le_of_ble_eq_true rfl) (Nat.le_of_ble_eq_true rfl) [] (Nat.le_of_ble_eq_true rfl) (fun _ => rfl) rfl q1989 q1990 q127 q1991 hf hl dX17_move_1 (fun x1 h2 hf => ?_)
  obtain ⟨x3, h4, hAh4, hf, hlh4⟩ := mb_inv hf hl
  refine v_cut (h1 := h4) (pc1 := 25) (ls1 := []) (st1 := [.int x3]) ?_ (fun Jh4 => ?_)
  · clear hAh4 hlh4
    exact v_iret C E hf dX17_move_25
  · clear hf
    have hf := hAh4
    have hl := hlh4
    refine v_if_eq C hf (tgt := 24) dX17_move_4 (by decide) (fun c4 hf => ?_) (fun c4 hf => ?_)
    · refine v_iconst (x := (-1)) C dX17_move_24 (by decide) ?_
      obtain ⟨e1, rfl⟩ := mret_inv hf
      subst e1
      exact v_sub (ls' := _) [] rfl Jh4
    · refine v_iload_n C 2 dX17_move_7 rfl rfl ?_
      refine v_i2l C dX17_move_8 ?_
      refine v_callS (stk := fun b => .int b :: []) C (ct_X17_isPlace _ i2.toInt64) nd_X17_isPlace rfl (Nat.le_of_ble_eq_true rfl) (Nat.le_of_ble_eq_true rfl) [] (Nat.le_of_ble_eq_true rfl) (fun _ => rfl) rfl q1993 q1994 q127 q1995 hf hl dX17_move_9 (fun x5 h6 hf => ?_)
      refine v_if_eq C hf (tgt := 24) dX17_move_12 (by decide) (fun c12 hf => ?_) (fun c12 hf => ?_)
      · refine v_iconst (x := (-1)) C dX17_move_24 (by decide) ?_
        obtain ⟨e1, rfl⟩ := mret_inv hf
        subst e1
        exact v_sub (ls' := _) [] rfl Jh4
      · refine v_aload_n C 0 dX17_move_15 rfl rfl ?_
        refine v_iload_n C 1 dX17_move_16 rfl rfl ?_
        refine v_iload_n C 2 dX17_move_17 rfl rfl ?_
        refine v_callV (stk := fun b => .int b :: []) C (ct_X17_to _ a0 i1 i2) rfl ⟨rfl, nd_X17_to⟩ rfl (Nat.le_of_ble_eq_true rfl) (Nat.le_of_ble_eq_true rfl) [] (Nat.le_of_ble_eq_true rfl) (fun _ => rfl) rfl q1997 q1999 qs45 q127 q2000 hf hl dX17_move_18 (fun x7 h8 hf => ?_)
        refine v_goto (tgt := 25) C dX17_move_21 (by decide) ?_
        obtain ⟨e1, rfl⟩ := mret_inv hf
        subst e1
        exact v_sub (ls' := _) [] rfl Jh4
def f_X17_sent (a0 : Nat) (i1 : Int32) (i2 : Int32) : hM Int32 :=
  mb (f_X17_isMove i1) fun x1 => mb (mi (x1 = 0) (mret (-1 : Int32)) (mb (f_X17_isSet i2) fun x5 => mi (x5 = 0) (mret (-1 : Int32)) (mb (mat a0 15 (f_X17_goes a0 i1 i2)) fun x7 => mret x7))) fun x3 => mret x3
theorem nd_X17_sent : yX17_sent.cls ≠ "java/lang/invoke/MethodHandle" ∧ yX17_sent.cls ≠ "java/lang/invoke/VarHandle" ∧ (parseMethodDescriptor yX17_sent.desc).map (fun d => d.parameters.length) = some 2 := by decide +kernel
set_option maxHeartbeats 4000000 in
theorem ct_X17_sent (l : Launch) (a0 : Nat) (i1 : Int32) (i2 : Int32) : CT l yX17_sent cX17_sent 3 (some .int) 2 46 rvI [.ref a0, .int i1, .int i2] (f_X17_sent a0 i1 i2) := by
  refine CT_of (ls := [(0, .ref a0), (1, .int i1), (2, .int i2)]) (by decide) (Nat.le_of_ble_eq_true rfl) rfl ?_
  intro X h he z hX hf C E hnm hh
  have hl := hle.rf he
  subst hX
  unfold f_X17_sent at hf
  refine v_iload_n C 1 dX17_sent_0 rfl rfl ?_
  refine v_callS (stk := fun b => .int b :: []) C (ct_X17_isMove _ i1) nd_X17_isMove rfl (Nat.le_of_ble_eq_true rfl) (Nat.le_of_ble_eq_true rfl) [] (Nat.le_of_ble_eq_true rfl) (fun _ => rfl) rfl q1989 q1990 q127 q1991 hf hl dX17_sent_1 (fun x1 h2 hf => ?_)
  obtain ⟨x3, h4, hAh4, hf, hlh4⟩ := mb_inv hf hl
  refine v_cut (h1 := h4) (pc1 := 24) (ls1 := []) (st1 := [.int x3]) ?_ (fun Jh4 => ?_)
  · clear hAh4 hlh4
    exact v_iret C E hf dX17_sent_24
  · clear hf
    have hf := hAh4
    have hl := hlh4
    refine v_if_eq C hf (tgt := 23) dX17_sent_4 (by decide) (fun c4 hf => ?_) (fun c4 hf => ?_)
    · refine v_iconst (x := (-1)) C dX17_sent_23 (by decide) ?_
      obtain ⟨e1, rfl⟩ := mret_inv hf
      subst e1
      exact v_sub (ls' := _) [] rfl Jh4
    · refine v_iload_n C 2 dX17_sent_7 rfl rfl ?_
      refine v_callS (stk := fun b => .int b :: []) C (ct_X17_isSet _ i2) nd_X17_isSet rfl (Nat.le_of_ble_eq_true rfl) (Nat.le_of_ble_eq_true rfl) [] (Nat.le_of_ble_eq_true rfl) (fun _ => rfl) rfl q1920 q1921 q127 q1922 hf hl dX17_sent_8 (fun x5 h6 hf => ?_)
      refine v_if_eq C hf (tgt := 23) dX17_sent_11 (by decide) (fun c11 hf => ?_) (fun c11 hf => ?_)
      · refine v_iconst (x := (-1)) C dX17_sent_23 (by decide) ?_
        obtain ⟨e1, rfl⟩ := mret_inv hf
        subst e1
        exact v_sub (ls' := _) [] rfl Jh4
      · refine v_aload_n C 0 dX17_sent_14 rfl rfl ?_
        refine v_iload_n C 1 dX17_sent_15 rfl rfl ?_
        refine v_iload_n C 2 dX17_sent_16 rfl rfl ?_
        refine v_callV (stk := fun b => .int b :: []) C (ct_X17_goes _ a0 i1 i2) rfl ⟨rfl, nd_X17_goes⟩ rfl (Nat.le_of_ble_eq_true rfl) (Nat.le_of_ble_eq_true rfl) [] (Nat.le_of_ble_eq_true rfl) (fun _ => rfl) rfl q2005 q2007 qs46 q127 q2008 hf hl dX17_sent_17 (fun x7 h8 hf => ?_)
        refine v_goto (tgt := 24) C dX17_sent_20 (by decide) ?_
        obtain ⟨e1, rfl⟩ := mret_inv hf
        subst e1
        exact v_sub (ls' := _) [] rfl Jh4
def l_X17_rings_4 (a0 : Nat) (i1 : Int32) : Nat → Int32 → Int32 → hM (Int32)
  | 0, _, _ => mfail
  | n + 1, i2, i3 => mi ((24 : Int32) ≤ i3) (mret i2) (mb (mat a0 15 (f_X17_isLeast a0 i1 i3)) fun x1 => mb (mi (x1 = 0) (mret (0 : Int32)) (mret (1 : Int32))) fun x3 => l_X17_rings_4 a0 i1 n (i2 + x3) (i3 + (1 : Int32)))
def f_X17_rings (a0 : Nat) (i1 : Int32) : hM Int32 :=
  mb (l_X17_rings_4 a0 i1 FU (0 : Int32) (0 : Int32)) fun x5 => mret x5
theorem nd_X17_rings : yX17_rings.cls ≠ "java/lang/invoke/MethodHandle" ∧ yX17_rings.cls ≠ "java/lang/invoke/VarHandle" ∧ (parseMethodDescriptor yX17_rings.desc).map (fun d => d.parameters.length) = some 1 := by decide +kernel
set_option maxHeartbeats 4000000 in
theorem ct_X17_rings (l : Launch) (a0 : Nat) (i1 : Int32) : CT l yX17_rings cX17_rings 4 (some .int) 2 47 rvI [.ref a0, .int i1] (f_X17_rings a0 i1) := by
  refine CT_of (ls := [(0, .ref a0), (1, .int i1)]) (by decide) (Nat.le_of_ble_eq_true rfl) rfl ?_
  intro X h he z hX hf C E hnm hh
  have hl := hle.rf he
  subst hX
  have L4 : ∀ (a0 : Nat) (i1 : Int32) (n : Nat) (i2 : Int32) (i3 : Int32) (h h1 : Hp) (o : Int32), (l_X17_rings_4 a0 i1 n i2 i3).1 h = some (o, h1) → hle h1 he → V X h1 33 [(2, .int o)] [] → V X h 4 [(0, .ref a0), (1, .int i1), (2, .int i2), (3, .int i3)] [] := by
    intro a0 i1 n
    induction n with
    | zero => intro i2 i3 h h1 o hf; exact mfail_inv hf
    | succ n ih =>
      intro i2 i3 h h1 o hf hl J
      rw [l_X17_rings_4] at hf
      refine v_iload_n C 3 dX17_rings_4 rfl rfl ?_
      refine v_bipush (x := 24) C dX17_rings_5 (by decide) ?_
      refine v_icmp_ge C hf (tgt := 33) dX17_rings_7 (by decide) (fun c7 hf => ?_) (fun c7 hf => ?_)
      · obtain ⟨e1, rfl⟩ := mret_inv hf
        subst e1
        exact v_sub (ls' := _) [2] rfl J
      · refine v_iload_n C 2 dX17_rings_10 rfl rfl ?_
        refine v_aload_n C 0 dX17_rings_11 rfl rfl ?_
        refine v_iload_n C 1 dX17_rings_12 rfl rfl ?_
        refine v_iload_n C 3 dX17_rings_13 rfl rfl ?_
        refine v_callV (stk := fun b => .int b :: [.int i2]) C (ct_X17_isLeast _ a0 i1 i3) rfl ⟨rfl, nd_X17_isLeast⟩ rfl (Nat.le_of_ble_eq_true rfl) (Nat.le_of_ble_eq_true rfl) [.int i2] (Nat.le_of_ble_eq_true rfl) (fun _ => rfl) rfl q2025 q2027 qs50 q127 q2028 hf hl dX17_rings_14 (fun x1 h2 hf => ?_)
        obtain ⟨x3, h4, hAh4, hf, hlh4⟩ := mb_inv hf hl
        refine v_cut (h1 := h4) (pc1 := 25) (ls1 := [(0, .ref a0), (1, .int i1), (3, .int i3)]) (st1 := [.int x3, .int i2]) ?_ (fun Jh4 => ?_)
        · clear hAh4 hlh4
          refine v_iadd C dX17_rings_25 ?_
          refine v_istore_n (ls' := [(2, _), (0, _), (1, _), (3, _)]) C dX17_rings_26 rfl (by decide) rfl ?_
          refine v_iinc (ls' := [(3, _), (2, _), (0, _), (1, _)]) (y := i3 + (1 : Int32)) C 3 dX17_rings_27 rfl rfl (by decide) rfl ?_
          refine v_goto (tgt := 4) C dX17_rings_30 (by decide) ?_
          refine v_sub (ls' := _) [2, 3, 1, 0] rfl (ih (i2 + x3) (i3 + (1 : Int32)) _ _ _ hf hl J)
        · clear hf
          have hf := hAh4
          have hl := hlh4
          refine v_if_eq C hf (tgt := 24) dX17_rings_17 (by decide) (fun c17 hf => ?_) (fun c17 hf => ?_)
          · refine v_iconst (x := 0) C dX17_rings_24 (by decide) ?_
            obtain ⟨e1, rfl⟩ := mret_inv hf
            subst e1
            exact v_sub (ls' := _) [0, 1, 3] rfl Jh4
          · refine v_iconst (x := 1) C dX17_rings_20 (by decide) ?_
            refine v_goto (tgt := 25) C dX17_rings_21 (by decide) ?_
            obtain ⟨e1, rfl⟩ := mret_inv hf
            subst e1
            exact v_sub (ls' := _) [0, 1, 3] rfl Jh4
  unfold f_X17_rings at hf
  refine v_iconst (x := 0) C dX17_rings_0 (by decide) ?_
  refine v_istore_n (ls' := [(2, _), (0, _), (1, _)]) C dX17_rings_1 rfl (by decide) rfl ?_
  refine v_iconst (x := 0) C dX17_rings_2 (by decide) ?_
  refine v_istore_n (ls' := [(3, _), (2, _), (0, _), (1, _)]) C dX17_rings_3 rfl (by decide) rfl ?_
  obtain ⟨x5, h6, eh6, hf, hlh6⟩ := mb_inv hf hl
  refine v_sub (ls' := _) [2, 3, 1, 0] rfl (L4 a0 i1 FU (0 : Int32) (0 : Int32) _ _ _ eh6 hlh6 ?_)
  refine v_iload_n C 0 dX17_rings_33 rfl rfl ?_
  exact v_iret C E hf dX17_rings_34
def l_X17_orderOf_24 (a0 : Nat) (i1 : Int32) (i3 : Int32) (i4 : Int32) (i5 : Int32) : Nat → Int32 → Int32 → hM (Int32)
  | 0, _, _ => mfail
  | n + 1, i2, i6 => mi ((24 : Int32) ≤ i6) (mret i2) (mb (mrem i2 i4) fun x3 => mi (x3 = 0) (mret i2) (l_X17_orderOf_24 a0 i1 i3 i4 i5 n (i2 + i5) (i6 + (1 : Int32))))
def l_X17_orderOf_4 (a0 : Nat) (i1 : Int32) : Nat → Int32 → Int32 → hM (Int32)
  | 0, _, _ => mfail
  | n + 1, i2, i3 => mi ((24 : Int32) ≤ i3) (mret i2) (mb (mat a0 15 (f_X17_ring a0 i1 i3)) fun x1 => mb (l_X17_orderOf_24 a0 i1 i3 x1 i2 FU i2 (1 : Int32)) fun x4 => l_X17_orderOf_4 a0 i1 n x4 (i3 + (1 : Int32)))
def f_X17_orderOf (a0 : Nat) (i1 : Int32) : hM Int32 :=
  mb (l_X17_orderOf_4 a0 i1 FU (1 : Int32) (0 : Int32)) fun x6 => mret x6
theorem nd_X17_orderOf : yX17_orderOf.cls ≠ "java/lang/invoke/MethodHandle" ∧ yX17_orderOf.cls ≠ "java/lang/invoke/VarHandle" ∧ (parseMethodDescriptor yX17_orderOf.desc).map (fun d => d.parameters.length) = some 1 := by decide +kernel
set_option maxHeartbeats 4000000 in
theorem ct_X17_orderOf (l : Launch) (a0 : Nat) (i1 : Int32) : CT l yX17_orderOf cX17_orderOf 7 (some .int) 2 46 rvI [.ref a0, .int i1] (f_X17_orderOf a0 i1) := by
  refine CT_of (ls := [(0, .ref a0), (1, .int i1)]) (by decide) (Nat.le_of_ble_eq_true rfl) rfl ?_
  intro X h he z hX hf C E hnm hh
  have hl := hle.rf he
  subst hX
  have L24 : ∀ (a0 : Nat) (i1 : Int32) (i3 : Int32) (i4 : Int32) (i5 : Int32) (n : Nat) (i2 : Int32) (i6 : Int32) (h h1 : Hp) (o : Int32), (l_X17_orderOf_24 a0 i1 i3 i4 i5 n i2 i6).1 h = some (o, h1) → hle h1 he → V X h1 49 [(0, .ref a0), (1, .int i1), (2, .int o), (3, .int i3)] [] → V X h 24 [(0, .ref a0), (1, .int i1), (2, .int i2), (3, .int i3), (4, .int i4), (5, .int i5), (6, .int i6)] [] := by
    intro a0 i1 i3 i4 i5 n
    induction n with
    | zero => intro i2 i6 h h1 o hf; exact mfail_inv hf
    | succ n ih =>
      intro i2 i6 h h1 o hf hl J
      rw [l_X17_orderOf_24] at hf
      refine v_iload C 6 dX17_orderOf_24 rfl ?_
      refine v_bipush (x := 24) C dX17_orderOf_26 (by decide) ?_
      refine v_icmp_ge C hf (tgt := 49) dX17_orderOf_28 (by decide) (fun c28 hf => ?_) (fun c28 hf => ?_)
      · obtain ⟨e1, rfl⟩ := mret_inv hf
        subst e1
        exact v_sub (ls' := _) [0, 1, 2, 3] rfl J
      · refine v_iload_n C 2 dX17_orderOf_31 rfl rfl ?_
        refine v_iload C 4 dX17_orderOf_32 rfl ?_
        refine v_irem C hf dX17_orderOf_34 (fun x3 hf => ?_)
        refine v_if_eq C hf (tgt := 49) dX17_orderOf_35 (by decide) (fun c35 hf => ?_) (fun c35 hf => ?_)
        · obtain ⟨e1, rfl⟩ := mret_inv hf
          subst e1
          exact v_sub (ls' := _) [0, 1, 2, 3] rfl J
        · refine v_iload_n C 2 dX17_orderOf_38 rfl rfl ?_
          refine v_iload C 5 dX17_orderOf_39 rfl ?_
          refine v_iadd C dX17_orderOf_41 ?_
          refine v_istore_n (ls' := [(2, _), (0, _), (1, _), (3, _), (4, _), (5, _), (6, _)]) C dX17_orderOf_42 rfl (by decide) rfl ?_
          refine v_iinc (ls' := [(6, _), (2, _), (0, _), (1, _), (3, _), (4, _), (5, _)]) (y := i6 + (1 : Int32)) C 6 dX17_orderOf_43 rfl rfl (by decide) rfl ?_
          refine v_goto (tgt := 24) C dX17_orderOf_46 (by decide) ?_
          refine v_sub (ls' := _) [2, 3, 1, 4, 5, 6, 0] rfl (ih (i2 + i5) (i6 + (1 : Int32)) _ _ _ hf hl J)
  have L4 : ∀ (a0 : Nat) (i1 : Int32) (n : Nat) (i2 : Int32) (i3 : Int32) (h h1 : Hp) (o : Int32), (l_X17_orderOf_4 a0 i1 n i2 i3).1 h = some (o, h1) → hle h1 he → V X h1 55 [(2, .int o)] [] → V X h 4 [(0, .ref a0), (1, .int i1), (2, .int i2), (3, .int i3)] [] := by
    intro a0 i1 n
    induction n with
    | zero => intro i2 i3 h h1 o hf; exact mfail_inv hf
    | succ n ih =>
      intro i2 i3 h h1 o hf hl J
      rw [l_X17_orderOf_4] at hf
      refine v_iload_n C 3 dX17_orderOf_4 rfl rfl ?_
      refine v_bipush (x := 24) C dX17_orderOf_5 (by decide) ?_
      refine v_icmp_ge C hf (tgt := 55) dX17_orderOf_7 (by decide) (fun c7 hf => ?_) (fun c7 hf => ?_)
      · obtain ⟨e1, rfl⟩ := mret_inv hf
        subst e1
        exact v_sub (ls' := _) [2] rfl J
      · refine v_aload_n C 0 dX17_orderOf_10 rfl rfl ?_
        refine v_iload_n C 1 dX17_orderOf_11 rfl rfl ?_
        refine v_iload_n C 3 dX17_orderOf_12 rfl rfl ?_
        refine v_callV (stk := fun b => .int b :: []) C (ct_X17_ring _ a0 i1 i3) rfl ⟨rfl, nd_X17_ring⟩ rfl (Nat.le_of_ble_eq_true rfl) (Nat.le_of_ble_eq_true rfl) [] (Nat.le_of_ble_eq_true rfl) (fun _ => rfl) rfl q2033 q2035 qs52 q127 q2036 hf hl dX17_orderOf_13 (fun x1 h2 hf => ?_)
        refine v_istore (ls' := [(4, _), (0, _), (1, _), (2, _), (3, _)]) C dX17_orderOf_16 (by decide) rfl ?_
        refine v_iload_n C 3 dX17_orderOf_18 rfl rfl ?_
        refine v_istore (ls' := [(5, _), (4, _), (0, _), (1, _), (2, _), (3, _)]) C dX17_orderOf_19 (by decide) rfl ?_
        refine v_iconst (x := 1) C dX17_orderOf_21 (by decide) ?_
        refine v_istore (ls' := [(6, _), (5, _), (4, _), (0, _), (1, _), (2, _), (3, _)]) C dX17_orderOf_22 (by decide) rfl ?_
        obtain ⟨x4, h5, eh5, hf, hlh5⟩ := mb_inv hf hl
        refine v_sub (ls' := _) [3, 4, 5, 6, 2, 1, 0] rfl (L24 a0 i1 i3 x1 i2 FU i2 (1 : Int32) _ _ _ eh5 hlh5 ?_)
        refine v_iinc (ls' := [(3, _), (0, _), (1, _), (2, _)]) (y := i3 + (1 : Int32)) C 3 dX17_orderOf_49 rfl rfl (by decide) rfl ?_
        refine v_goto (tgt := 4) C dX17_orderOf_52 (by decide) ?_
        refine v_sub (ls' := _) [1, 2, 3, 0] rfl (ih x4 (i3 + (1 : Int32)) _ _ _ hf hl J)
  unfold f_X17_orderOf at hf
  refine v_iconst (x := 1) C dX17_orderOf_0 (by decide) ?_
  refine v_istore_n (ls' := [(2, _), (0, _), (1, _)]) C dX17_orderOf_1 rfl (by decide) rfl ?_
  refine v_iconst (x := 0) C dX17_orderOf_2 (by decide) ?_
  refine v_istore_n (ls' := [(3, _), (2, _), (0, _), (1, _)]) C dX17_orderOf_3 rfl (by decide) rfl ?_
  obtain ⟨x6, h7, eh7, hf, hlh7⟩ := mb_inv hf hl
  refine v_sub (ls' := _) [2, 3, 1, 0] rfl (L4 a0 i1 FU (1 : Int32) (0 : Int32) _ _ _ eh7 hlh7 ?_)
  refine v_iload_n C 0 dX17_orderOf_55 rfl rfl ?_
  exact v_iret C E hf dX17_orderOf_56
def l_X17_putsRing_16 (a0 : Nat) (i1 : Int32) : Nat → Int32 → Int32 → hM (Unit)
  | 0, _, _ => mfail
  | n + 1, i3, i4 => mi (i4 ≤ 0) (mret ()) (mb (mi (i3 ≤ (9 : Int32)) (mret ()) (mb (mdiv i3 (10 : Int32)) fun x15 => mb (mat a0 15 (f_X17_puts a0 ((48 : Int32) + x15))) fun _ => mret ())) fun _ => mb (mrem i3 (10 : Int32)) fun x6 => mb (mat a0 15 (f_X17_puts a0 ((48 : Int32) + x6))) fun _ => mb (mi (i4 ≤ (1 : Int32)) (mret (41 : Int32)) (mret (44 : Int32))) fun x9 => mb (mat a0 15 (f_X17_puts a0 x9)) fun _ => mb (mat a0 15 (f_X17_to a0 i1 i3)) fun x13 => l_X17_putsRing_16 a0 i1 n x13 (i4 + (-1 : Int32)))
def f_X17_putsRing (a0 : Nat) (i1 : Int32) (i2 : Int32) : hM Unit :=
  mb (mat a0 15 (f_X17_puts a0 (40 : Int32))) fun _ => mb (mat a0 15 (f_X17_ring a0 i1 i2)) fun x3 => mb (l_X17_putsRing_16 a0 i1 FU i2 x3) fun x18 => mret ()
theorem nd_X17_putsRing : yX17_putsRing.cls ≠ "java/lang/invoke/MethodHandle" ∧ yX17_putsRing.cls ≠ "java/lang/invoke/VarHandle" ∧ (parseMethodDescriptor yX17_putsRing.desc).map (fun d => d.parameters.length) = some 2 := by decide +kernel
set_option maxHeartbeats 4000000 in
theorem ct_X17_putsRing (l : Launch) (a0 : Nat) (i1 : Int32) (i2 : Int32) : CT l yX17_putsRing cX17_putsRing 5 none 2 46 rv0 [.ref a0, .int i1, .int i2] (f_X17_putsRing a0 i1 i2) := by
  refine CT_of (ls := [(0, .ref a0), (1, .int i1), (2, .int i2)]) (by decide) (Nat.le_of_ble_eq_true rfl) rfl ?_
  intro X h he z hX hf C E hnm hh
  have hl := hle.rf he
  subst hX
  have L16 : ∀ (a0 : Nat) (i1 : Int32) (n : Nat) (i3 : Int32) (i4 : Int32) (h h1 : Hp) (o : Unit), (l_X17_putsRing_16 a0 i1 n i3 i4).1 h = some (o, h1) → hle h1 he → V X h1 79 [] [] → V X h 16 [(0, .ref a0), (1, .int i1), (3, .int i3), (4, .int i4)] [] := by
    intro a0 i1 n
    induction n with
    | zero => intro i3 i4 h h1 o hf; exact mfail_inv hf
    | succ n ih =>
      intro i3 i4 h h1 o hf hl J
      rw [l_X17_putsRing_16] at hf
      refine v_iload C 3 dX17_putsRing_16 rfl ?_
      refine v_if_le C hf (tgt := 79) dX17_putsRing_18 (by decide) (fun c18 hf => ?_) (fun c18 hf => ?_)
      · obtain ⟨e1, rfl⟩ := mret_inv hf
        subst e1
        exact v_sub (ls' := _) [] rfl J
      · refine v_iload_n C 2 dX17_putsRing_21 rfl rfl ?_
        refine v_bipush (x := 9) C dX17_putsRing_22 (by decide) ?_
        obtain ⟨_u, h5, hAh5, hf, hlh5⟩ := mb_inv hf hl
        refine v_cut (h1 := h5) (pc1 := 38) (ls1 := [(0, .ref a0), (1, .int i1), (3, .int i3), (4, .int i4)]) (st1 := []) ?_ (fun Jh5 => ?_)
        · clear hAh5 hlh5
          refine v_aload_n C 0 dX17_putsRing_38 rfl rfl ?_
          refine v_bipush (x := 48) C dX17_putsRing_39 (by decide) ?_
          refine v_iload_n C 2 dX17_putsRing_41 rfl rfl ?_
          refine v_bipush (x := 10) C dX17_putsRing_42 (by decide) ?_
          refine v_irem C hf dX17_putsRing_44 (fun x6 hf => ?_)
          refine v_iadd C dX17_putsRing_45 ?_
          refine v_callV (stk := fun _ => []) C (ct_X17_puts _ a0 ((48 : Int32) + x6)) rfl ⟨rfl, nd_X17_puts⟩ rfl (Nat.le_of_ble_eq_true rfl) (Nat.le_of_ble_eq_true rfl) [] (Nat.le_of_ble_eq_true rfl) (fun _ => rfl) rfl q2049 q2051 qs56 q127 q2052 hf hl dX17_putsRing_46 (fun x7 h8 hf => ?_)
          refine v_aload_n C 0 dX17_putsRing_49 rfl rfl ?_
          refine v_iload C 3 dX17_putsRing_50 rfl ?_
          refine v_iconst (x := 1) C dX17_putsRing_52 (by decide) ?_
          obtain ⟨x9, h10, hAh10, hf, hlh10⟩ := mb_inv hf hl
          refine v_cut (h1 := h10) (pc1 := 63) (ls1 := [(0, .ref a0), (1, .int i1), (3, .int i3), (4, .int i4)]) (st1 := [.int x9, .ref a0]) ?_ (fun Jh10 => ?_)
          · clear hAh10 hlh10
            refine v_callV (stk := fun _ => []) C (ct_X17_puts _ a0 x9) rfl ⟨rfl, nd_X17_puts⟩ rfl (Nat.le_of_ble_eq_true rfl) (Nat.le_of_ble_eq_true rfl) [] (Nat.le_of_ble_eq_true rfl) (fun _ => rfl) rfl q2049 q2051 qs56 q127 q2052 hf hl dX17_putsRing_63 (fun x11 h12 hf => ?_)
            refine v_aload_n C 0 dX17_putsRing_66 rfl rfl ?_
            refine v_iload_n C 1 dX17_putsRing_67 rfl rfl ?_
            refine v_iload_n C 2 dX17_putsRing_68 rfl rfl ?_
            refine v_callV (stk := fun b => .int b :: []) C (ct_X17_to _ a0 i1 i3) rfl ⟨rfl, nd_X17_to⟩ rfl (Nat.le_of_ble_eq_true rfl) (Nat.le_of_ble_eq_true rfl) [] (Nat.le_of_ble_eq_true rfl) (fun _ => rfl) rfl q1997 q1999 qs45 q127 q2000 hf hl dX17_putsRing_69 (fun x13 h14 hf => ?_)
            refine v_istore_n (ls' := [(3, _), (0, _), (1, _), (4, _)]) C dX17_putsRing_72 rfl (by decide) rfl ?_
            refine v_iinc (ls' := [(4, _), (3, _), (0, _), (1, _)]) (y := i4 + (-1 : Int32)) C 3 dX17_putsRing_73 rfl rfl (by decide) rfl ?_
            refine v_goto (tgt := 16) C dX17_putsRing_76 (by decide) ?_
            refine v_sub (ls' := _) [2, 3, 1, 0] rfl (ih x13 (i4 + (-1 : Int32)) _ _ _ hf hl J)
          · clear hf
            have hf := hAh10
            have hl := hlh10
            refine v_icmp_le C hf (tgt := 61) dX17_putsRing_53 (by decide) (fun c53 hf => ?_) (fun c53 hf => ?_)
            · refine v_bipush (x := 41) C dX17_putsRing_61 (by decide) ?_
              obtain ⟨e1, rfl⟩ := mret_inv hf
              subst e1
              exact v_sub (ls' := _) [0, 1, 2, 3] rfl Jh10
            · refine v_bipush (x := 44) C dX17_putsRing_56 (by decide) ?_
              refine v_goto (tgt := 63) C dX17_putsRing_58 (by decide) ?_
              obtain ⟨e1, rfl⟩ := mret_inv hf
              subst e1
              exact v_sub (ls' := _) [0, 1, 2, 3] rfl Jh10
        · clear hf
          have hf := hAh5
          have hl := hlh5
          refine v_icmp_le C hf (tgt := 38) dX17_putsRing_24 (by decide) (fun c24 hf => ?_) (fun c24 hf => ?_)
          · obtain ⟨e1, rfl⟩ := mret_inv hf
            exact v_sub (ls' := _) [0, 1, 2, 3] rfl Jh5
          · refine v_aload_n C 0 dX17_putsRing_27 rfl rfl ?_
            refine v_bipush (x := 48) C dX17_putsRing_28 (by decide) ?_
            refine v_iload_n C 2 dX17_putsRing_30 rfl rfl ?_
            refine v_bipush (x := 10) C dX17_putsRing_31 (by decide) ?_
            refine v_idiv C hf dX17_putsRing_33 (fun x15 hf => ?_)
            refine v_iadd C dX17_putsRing_34 ?_
            refine v_callV (stk := fun _ => []) C (ct_X17_puts _ a0 ((48 : Int32) + x15)) rfl ⟨rfl, nd_X17_puts⟩ rfl (Nat.le_of_ble_eq_true rfl) (Nat.le_of_ble_eq_true rfl) [] (Nat.le_of_ble_eq_true rfl) (fun _ => rfl) rfl q2049 q2051 qs56 q127 q2052 hf hl dX17_putsRing_35 (fun x16 h17 hf => ?_)
            obtain ⟨e1, rfl⟩ := mret_inv hf
            exact v_sub (ls' := _) [0, 1, 2, 3] rfl Jh5
  unfold f_X17_putsRing at hf
  refine v_aload_n C 0 dX17_putsRing_0 rfl rfl ?_
  refine v_bipush (x := 40) C dX17_putsRing_1 (by decide) ?_
  refine v_callV (stk := fun _ => []) C (ct_X17_puts _ a0 (40 : Int32)) rfl ⟨rfl, nd_X17_puts⟩ rfl (Nat.le_of_ble_eq_true rfl) (Nat.le_of_ble_eq_true rfl) [] (Nat.le_of_ble_eq_true rfl) (fun _ => rfl) rfl q2049 q2051 qs56 q127 q2052 hf hl dX17_putsRing_3 (fun x1 h2 hf => ?_)
  refine v_iload_n C 2 dX17_putsRing_6 rfl rfl ?_
  refine v_istore_n (ls' := [(3, _), (0, _), (1, _), (2, _)]) C dX17_putsRing_7 rfl (by decide) rfl ?_
  refine v_aload_n C 1 dX17_putsRing_8 rfl rfl ?_
  refine v_iload_n C 2 dX17_putsRing_9 rfl rfl ?_
  refine v_iload_n C 3 dX17_putsRing_10 rfl rfl ?_
  refine v_callV (stk := fun b => .int b :: []) C (ct_X17_ring _ a0 i1 i2) rfl ⟨rfl, nd_X17_ring⟩ rfl (Nat.le_of_ble_eq_true rfl) (Nat.le_of_ble_eq_true rfl) [] (Nat.le_of_ble_eq_true rfl) (fun _ => rfl) rfl q2033 q2035 qs52 q127 q2036 hf hl dX17_putsRing_11 (fun x3 h4 hf => ?_)
  refine v_istore (ls' := [(4, _), (3, _), (0, _), (1, _), (2, _)]) C dX17_putsRing_14 (by decide) rfl ?_
  obtain ⟨x18, h19, eh19, hf, hlh19⟩ := mb_inv hf hl
  refine v_sub (ls' := _) [2, 3, 1, 0] rfl (L16 a0 i1 FU i2 x3 _ _ _ eh19 hlh19 ?_)
  exact v_vret C E hf dX17_putsRing_79
def l_X17_row_7 (a0 : Nat) (i1 : Int32) : Nat → Int32 → hM (Int32)
  | 0, _ => mfail
  | n + 1, i2 => mb (gI a0 15 10) fun x3 => mb (gI a0 15 9) fun x4 => mi (x4 ≤ x3) (mret i2) (mi (i1 = 0) (mb (gR a0 15 8) fun x5 => mb (gI a0 15 10) fun x6 => mb (aI 1 x5 x6) fun x7 => mb (f_X17_isLow x7) fun x8 => mi (x8 = 0) (mret i2) (mb (gI a0 15 10) fun x10 => mb (pF a0 15 10 (.int (x10 + (1 : Int32)))) fun _ => l_X17_row_7 a0 i1 n (i2 + (1 : Int32)))) (mb (gR a0 15 8) fun x12 => mb (gI a0 15 10) fun x13 => mb (aI 1 x12 x13) fun x14 => mb (f_X17_isFigure x14) fun x15 => mi (x15 = 0) (mret i2) (mb (gI a0 15 10) fun x17 => mb (pF a0 15 10 (.int (x17 + (1 : Int32)))) fun _ => l_X17_row_7 a0 i1 n (i2 + (1 : Int32)))))
def f_X17_row (a0 : Nat) (i1 : Int32) : hM Int32 :=
  mb (mat a0 15 (f_X17_here a0)) fun x1 => mb (l_X17_row_7 a0 i1 FU (0 : Int32)) fun x19 => mret x19
theorem nd_X17_row : yX17_row.cls ≠ "java/lang/invoke/MethodHandle" ∧ yX17_row.cls ≠ "java/lang/invoke/VarHandle" ∧ (parseMethodDescriptor yX17_row.desc).map (fun d => d.parameters.length) = some 1 := by decide +kernel
set_option maxHeartbeats 4000000 in
theorem ct_X17_row (l : Launch) (a0 : Nat) (i1 : Int32) : CT l yX17_row cX17_row 3 (some .int) 2 45 rvI [.ref a0, .int i1] (f_X17_row a0 i1) := by
  refine CT_of (ls := [(0, .ref a0), (1, .int i1)]) (by decide) (Nat.le_of_ble_eq_true rfl) rfl ?_
  intro X h he z hX hf C E hnm hh
  have hl := hle.rf he
  subst hX
  have L7 : ∀ (a0 : Nat) (i1 : Int32) (n : Nat) (i2 : Int32) (h h1 : Hp) (o : Int32), (l_X17_row_7 a0 i1 n i2).1 h = some (o, h1) → hle h1 he → V X h1 71 [(2, .int o)] [] → V X h 7 [(0, .ref a0), (1, .int i1), (2, .int i2)] [] := by
    intro a0 i1 n
    induction n with
    | zero => intro i2 h h1 o hf; exact mfail_inv hf
    | succ n ih =>
      intro i2 h h1 o hf hl J
      rw [l_X17_row_7] at hf
      refine v_aload_n C 0 dX17_row_7 rfl rfl ?_
      refine v_gI (Cn := RX17) (T := TX17) (N := 37) C hf in_X17 rfl (by decide) q1814 rfl dX17_row_8 (fun x3 hf => ?_)
      refine v_aload_n C 0 dX17_row_11 rfl rfl ?_
      refine v_gI (Cn := RX17) (T := TX17) (N := 37) C hf in_X17 rfl (by decide) q1813 rfl dX17_row_12 (fun x4 hf => ?_)
      refine v_icmp_ge C hf (tgt := 71) dX17_row_15 (by decide) (fun c15 hf => ?_) (fun c15 hf => ?_)
      · obtain ⟨e1, rfl⟩ := mret_inv hf
        subst e1
        exact v_sub (ls' := _) [2] rfl J
      · refine v_iload_n C 1 dX17_row_18 rfl rfl ?_
        refine v_if_eq C hf (tgt := 40) dX17_row_19 (by decide) (fun c19 hf => ?_) (fun c19 hf => ?_)
        · refine v_aload_n C 0 dX17_row_40 rfl rfl ?_
          refine v_gR (Cn := RX17) (T := TX17) (N := 37) C hf in_X17 rfl (by decide) q1812 rfl dX17_row_41 (fun x5 hf => ?_)
          refine v_aload_n C 0 dX17_row_44 rfl rfl ?_
          refine v_gI (Cn := RX17) (T := TX17) (N := 37) C hf in_X17 rfl (by decide) q1814 rfl dX17_row_45 (fun x6 hf => ?_)
          refine v_iaload C hf dX17_row_48 (fun x7 hf => ?_)
          refine v_callS (stk := fun b => .int b :: []) C (ct_X17_isLow _ x7) nd_X17_isLow rfl (Nat.le_of_ble_eq_true rfl) (Nat.le_of_ble_eq_true rfl) [] (Nat.le_of_ble_eq_true rfl) (fun _ => rfl) rfl q2084 q2085 q127 q2086 hf hl dX17_row_49 (fun x8 h9 hf => ?_)
          refine v_if_eq C hf (tgt := 71) dX17_row_52 (by decide) (fun c52 hf => ?_) (fun c52 hf => ?_)
          · obtain ⟨e1, rfl⟩ := mret_inv hf
            subst e1
            exact v_sub (ls' := _) [2] rfl J
          · refine v_aload_n C 0 dX17_row_55 rfl rfl ?_
            refine v_dup C dX17_row_56 rfl ?_
            refine v_gI (Cn := RX17) (T := TX17) (N := 37) C hf in_X17 rfl (by decide) q1814 rfl dX17_row_57 (fun x10 hf => ?_)
            refine v_iconst (x := 1) C dX17_row_60 (by decide) ?_
            refine v_iadd C dX17_row_61 ?_
            refine v_putv (Cn := RX17) (T := TX17) (N := 37) (ty0 := tyX17) C hf in_X17 tyX17_ok nmX17 rfl (by decide) q1814 rfl rfl rfl rfl dX17_row_62 (fun h11 hf => ?_)
            refine v_iinc (ls' := [(2, _), (0, _), (1, _)]) (y := i2 + (1 : Int32)) C 2 dX17_row_65 rfl rfl (by decide) rfl ?_
            refine v_goto (tgt := 7) C dX17_row_68 (by decide) ?_
            refine v_sub (ls' := _) [1, 2, 0] rfl (ih (i2 + (1 : Int32)) _ _ _ hf hl J)
        · refine v_aload_n C 0 dX17_row_22 rfl rfl ?_
          refine v_gR (Cn := RX17) (T := TX17) (N := 37) C hf in_X17 rfl (by decide) q1812 rfl dX17_row_23 (fun x12 hf => ?_)
          refine v_aload_n C 0 dX17_row_26 rfl rfl ?_
          refine v_gI (Cn := RX17) (T := TX17) (N := 37) C hf in_X17 rfl (by decide) q1814 rfl dX17_row_27 (fun x13 hf => ?_)
          refine v_iaload C hf dX17_row_30 (fun x14 hf => ?_)
          refine v_callS (stk := fun b => .int b :: []) C (ct_X17_isFigure _ x14) nd_X17_isFigure rfl (Nat.le_of_ble_eq_true rfl) (Nat.le_of_ble_eq_true rfl) [] (Nat.le_of_ble_eq_true rfl) (fun _ => rfl) rfl q2097 q2098 q127 q2099 hf hl dX17_row_31 (fun x15 h16 hf => ?_)
          refine v_if_eq C hf (tgt := 71) dX17_row_34 (by decide) (fun c34 hf => ?_) (fun c34 hf => ?_)
          · obtain ⟨e1, rfl⟩ := mret_inv hf
            subst e1
            exact v_sub (ls' := _) [2] rfl J
          · refine v_goto (tgt := 55) C dX17_row_37 (by decide) ?_
            refine v_aload_n C 0 dX17_row_55 rfl rfl ?_
            refine v_dup C dX17_row_56 rfl ?_
            refine v_gI (Cn := RX17) (T := TX17) (N := 37) C hf in_X17 rfl (by decide) q1814 rfl dX17_row_57 (fun x17 hf => ?_)
            refine v_iconst (x := 1) C dX17_row_60 (by decide) ?_
            refine v_iadd C dX17_row_61 ?_
            refine v_putv (Cn := RX17) (T := TX17) (N := 37) (ty0 := tyX17) C hf in_X17 tyX17_ok nmX17 rfl (by decide) q1814 rfl rfl rfl rfl dX17_row_62 (fun h18 hf => ?_)
            refine v_iinc (ls' := [(2, _), (0, _), (1, _)]) (y := i2 + (1 : Int32)) C 2 dX17_row_65 rfl rfl (by decide) rfl ?_
            refine v_goto (tgt := 7) C dX17_row_68 (by decide) ?_
            refine v_sub (ls' := _) [1, 2, 0] rfl (ih (i2 + (1 : Int32)) _ _ _ hf hl J)
  unfold f_X17_row at hf
  refine v_aload_n C 0 dX17_row_0 rfl rfl ?_
  refine v_callV (stk := fun b => .int b :: []) C (ct_X17_here _ a0) rfl ⟨rfl, nd_X17_here⟩ rfl (Nat.le_of_ble_eq_true rfl) (Nat.le_of_ble_eq_true rfl) [] (Nat.le_of_ble_eq_true rfl) (fun _ => rfl) rfl q2076 q2078 qs59 q127 q2079 hf hl dX17_row_1 (fun x1 h2 hf => ?_)
  refine v_pop C dX17_row_4 rfl ?_
  refine v_iconst (x := 0) C dX17_row_5 (by decide) ?_
  refine v_istore_n (ls' := [(2, _), (0, _), (1, _)]) C dX17_row_6 rfl (by decide) rfl ?_
  obtain ⟨x19, h20, eh20, hf, hlh20⟩ := mb_inv hf hl
  refine v_sub (ls' := _) [1, 2, 0] rfl (L7 a0 i1 FU (0 : Int32) _ _ _ eh20 hlh20 ?_)
  refine v_iload_n C 0 dX17_row_71 rfl rfl ?_
  exact v_iret C E hf dX17_row_72
def f_X17_nameOf (a0 : Nat) (i1 : Int32) : hM Int32 :=
  mi (¬ i1 = (1 : Int32)) (mb (mat a0 15 (f_X17_isName a0 i1 (4 : Int32) (115 : Int32) (116 : Int32) (101 : Int32) (112 : Int32) (0 : Int32))) fun x1 => mb (mi (x1 = 0) (mb (mat a0 15 (f_X17_isName a0 i1 (5 : Int32) (116 : Int32) (119 : Int32) (105 : Int32) (99 : Int32) (101 : Int32))) fun x5 => mi (x5 = 0) (mb (mat a0 15 (f_X17_isName a0 i1 (4 : Int32) (111 : Int32) (118 : Int32) (101 : Int32) (114 : Int32) (0 : Int32))) fun x7 => mi (x7 = 0) (mb (mat a0 15 (f_X17_isName a0 i1 (4 : Int32) (119 : Int32) (105 : Int32) (108 : Int32) (100 : Int32) (0 : Int32))) fun x9 => mi (x9 = 0) (mb (mat a0 15 (f_X17_isName a0 i1 (4 : Int32) (115 : Int32) (97 : Int32) (109 : Int32) (101 : Int32) (0 : Int32))) fun x11 => mi (x11 = 0) (mret (-4 : Int32)) (mret (4 : Int32))) (mret (3 : Int32))) (mret (2 : Int32))) (mret (1 : Int32))) (mret (0 : Int32))) fun x3 => mret x3) (mb (gR a0 15 8) fun x13 => mb (gI a0 15 10) fun x14 => mb (aI 1 x13 (x14 - (1 : Int32))) fun x15 => mb (f_X17_in x15.toInt64 (97 : Int64) (101 : Int64)) fun x16 => mb (mi (x16 = 0) (mret (-4 : Int32)) (mb (gR a0 15 8) fun x20 => mb (gI a0 15 10) fun x21 => mb (aI 1 x20 (x21 - (1 : Int32))) fun x22 => mret (x22 - (92 : Int32)))) fun x18 => mret x18)
theorem nd_X17_nameOf : yX17_nameOf.cls ≠ "java/lang/invoke/MethodHandle" ∧ yX17_nameOf.cls ≠ "java/lang/invoke/VarHandle" ∧ (parseMethodDescriptor yX17_nameOf.desc).map (fun d => d.parameters.length) = some 1 := by decide +kernel
set_option maxHeartbeats 4000000 in
theorem ct_X17_nameOf (l : Launch) (a0 : Nat) (i1 : Int32) : CT l yX17_nameOf cX17_nameOf 2 (some .int) 1 28 rvI [.ref a0, .int i1] (f_X17_nameOf a0 i1) := by
  refine CT_of (ls := [(0, .ref a0), (1, .int i1)]) (by decide) (Nat.le_of_ble_eq_true rfl) rfl ?_
  intro X h he z hX hf C E hnm hh
  have hl := hle.rf he
  subst hX
  unfold f_X17_nameOf at hf
  refine v_iload_n C 1 dX17_nameOf_0 rfl rfl ?_
  refine v_iconst (x := 1) C dX17_nameOf_1 (by decide) ?_
  refine v_icmp_ne C hf (tgt := 49) dX17_nameOf_2 (by decide) (fun c2 hf => ?_) (fun c2 hf => ?_)
  · refine v_aload_n C 0 dX17_nameOf_49 rfl rfl ?_
    refine v_iload_n C 1 dX17_nameOf_50 rfl rfl ?_
    refine v_iconst (x := 4) C dX17_nameOf_51 (by decide) ?_
    refine v_bipush (x := 115) C dX17_nameOf_52 (by decide) ?_
    refine v_bipush (x := 116) C dX17_nameOf_54 (by decide) ?_
    refine v_bipush (x := 101) C dX17_nameOf_56 (by decide) ?_
    refine v_bipush (x := 112) C dX17_nameOf_58 (by decide) ?_
    refine v_iconst (x := 0) C dX17_nameOf_60 (by decide) ?_
    refine v_callV (stk := fun b => .int b :: []) C (ct_X17_isName _ a0 i1 (4 : Int32) (115 : Int32) (116 : Int32) (101 : Int32) (112 : Int32) (0 : Int32)) rfl ⟨rfl, nd_X17_isName⟩ rfl (Nat.le_of_ble_eq_true rfl) (Nat.le_of_ble_eq_true rfl) [] (Nat.le_of_ble_eq_true rfl) (fun _ => rfl) rfl q2107 q2109 qs64 q127 q2110 hf hl dX17_nameOf_61 (fun x1 h2 hf => ?_)
    obtain ⟨x3, h4, hAh4, hf, hlh4⟩ := mb_inv hf hl
    refine v_cut (h1 := h4) (pc1 := 162) (ls1 := []) (st1 := [.int x3]) ?_ (fun Jh4 => ?_)
    · clear hAh4 hlh4
      exact v_iret C E hf dX17_nameOf_162
    · clear hf
      have hf := hAh4
      have hl := hlh4
      refine v_if_eq C hf (tgt := 71) dX17_nameOf_64 (by decide) (fun c64 hf => ?_) (fun c64 hf => ?_)
      · refine v_aload_n C 0 dX17_nameOf_71 rfl rfl ?_
        refine v_iload_n C 1 dX17_nameOf_72 rfl rfl ?_
        refine v_iconst (x := 5) C dX17_nameOf_73 (by decide) ?_
        refine v_bipush (x := 116) C dX17_nameOf_74 (by decide) ?_
        refine v_bipush (x := 119) C dX17_nameOf_76 (by decide) ?_
        refine v_bipush (x := 105) C dX17_nameOf_78 (by decide) ?_
        refine v_bipush (x := 99) C dX17_nameOf_80 (by decide) ?_
        refine v_bipush (x := 101) C dX17_nameOf_82 (by decide) ?_
        refine v_callV (stk := fun b => .int b :: []) C (ct_X17_isName _ a0 i1 (5 : Int32) (116 : Int32) (119 : Int32) (105 : Int32) (99 : Int32) (101 : Int32)) rfl ⟨rfl, nd_X17_isName⟩ rfl (Nat.le_of_ble_eq_true rfl) (Nat.le_of_ble_eq_true rfl) [] (Nat.le_of_ble_eq_true rfl) (fun _ => rfl) rfl q2107 q2109 qs64 q127 q2110 hf hl dX17_nameOf_84 (fun x5 h6 hf => ?_)
        refine v_if_eq C hf (tgt := 94) dX17_nameOf_87 (by decide) (fun c87 hf => ?_) (fun c87 hf => ?_)
        · refine v_aload_n C 0 dX17_nameOf_94 rfl rfl ?_
          refine v_iload_n C 1 dX17_nameOf_95 rfl rfl ?_
          refine v_iconst (x := 4) C dX17_nameOf_96 (by decide) ?_
          refine v_bipush (x := 111) C dX17_nameOf_97 (by decide) ?_
          refine v_bipush (x := 118) C dX17_nameOf_99 (by decide) ?_
          refine v_bipush (x := 101) C dX17_nameOf_101 (by decide) ?_
          refine v_bipush (x := 114) C dX17_nameOf_103 (by decide) ?_
          refine v_iconst (x := 0) C dX17_nameOf_105 (by decide) ?_
          refine v_callV (stk := fun b => .int b :: []) C (ct_X17_isName _ a0 i1 (4 : Int32) (111 : Int32) (118 : Int32) (101 : Int32) (114 : Int32) (0 : Int32)) rfl ⟨rfl, nd_X17_isName⟩ rfl (Nat.le_of_ble_eq_true rfl) (Nat.le_of_ble_eq_true rfl) [] (Nat.le_of_ble_eq_true rfl) (fun _ => rfl) rfl q2107 q2109 qs64 q127 q2110 hf hl dX17_nameOf_106 (fun x7 h8 hf => ?_)
          refine v_if_eq C hf (tgt := 116) dX17_nameOf_109 (by decide) (fun c109 hf => ?_) (fun c109 hf => ?_)
          · refine v_aload_n C 0 dX17_nameOf_116 rfl rfl ?_
            refine v_iload_n C 1 dX17_nameOf_117 rfl rfl ?_
            refine v_iconst (x := 4) C dX17_nameOf_118 (by decide) ?_
            refine v_bipush (x := 119) C dX17_nameOf_119 (by decide) ?_
            refine v_bipush (x := 105) C dX17_nameOf_121 (by decide) ?_
            refine v_bipush (x := 108) C dX17_nameOf_123 (by decide) ?_
            refine v_bipush (x := 100) C dX17_nameOf_125 (by decide) ?_
            refine v_iconst (x := 0) C dX17_nameOf_127 (by decide) ?_
            refine v_callV (stk := fun b => .int b :: []) C (ct_X17_isName _ a0 i1 (4 : Int32) (119 : Int32) (105 : Int32) (108 : Int32) (100 : Int32) (0 : Int32)) rfl ⟨rfl, nd_X17_isName⟩ rfl (Nat.le_of_ble_eq_true rfl) (Nat.le_of_ble_eq_true rfl) [] (Nat.le_of_ble_eq_true rfl) (fun _ => rfl) rfl q2107 q2109 qs64 q127 q2110 hf hl dX17_nameOf_128 (fun x9 h10 hf => ?_)
            refine v_if_eq C hf (tgt := 138) dX17_nameOf_131 (by decide) (fun c131 hf => ?_) (fun c131 hf => ?_)
            · refine v_aload_n C 0 dX17_nameOf_138 rfl rfl ?_
              refine v_iload_n C 1 dX17_nameOf_139 rfl rfl ?_
              refine v_iconst (x := 4) C dX17_nameOf_140 (by decide) ?_
              refine v_bipush (x := 115) C dX17_nameOf_141 (by decide) ?_
              refine v_bipush (x := 97) C dX17_nameOf_143 (by decide) ?_
              refine v_bipush (x := 109) C dX17_nameOf_145 (by decide) ?_
              refine v_bipush (x := 101) C dX17_nameOf_147 (by decide) ?_
              refine v_iconst (x := 0) C dX17_nameOf_149 (by decide) ?_
              refine v_callV (stk := fun b => .int b :: []) C (ct_X17_isName _ a0 i1 (4 : Int32) (115 : Int32) (97 : Int32) (109 : Int32) (101 : Int32) (0 : Int32)) rfl ⟨rfl, nd_X17_isName⟩ rfl (Nat.le_of_ble_eq_true rfl) (Nat.le_of_ble_eq_true rfl) [] (Nat.le_of_ble_eq_true rfl) (fun _ => rfl) rfl q2107 q2109 qs64 q127 q2110 hf hl dX17_nameOf_150 (fun x11 h12 hf => ?_)
              refine v_if_eq C hf (tgt := 160) dX17_nameOf_153 (by decide) (fun c153 hf => ?_) (fun c153 hf => ?_)
              · refine v_bipush (x := (-4)) C dX17_nameOf_160 (by decide) ?_
                obtain ⟨e1, rfl⟩ := mret_inv hf
                subst e1
                exact v_sub (ls' := _) [] rfl Jh4
              · refine v_iconst (x := 4) C dX17_nameOf_156 (by decide) ?_
                refine v_goto (tgt := 162) C dX17_nameOf_157 (by decide) ?_
                obtain ⟨e1, rfl⟩ := mret_inv hf
                subst e1
                exact v_sub (ls' := _) [] rfl Jh4
            · refine v_iconst (x := 3) C dX17_nameOf_134 (by decide) ?_
              refine v_goto (tgt := 162) C dX17_nameOf_135 (by decide) ?_
              obtain ⟨e1, rfl⟩ := mret_inv hf
              subst e1
              exact v_sub (ls' := _) [] rfl Jh4
          · refine v_iconst (x := 2) C dX17_nameOf_112 (by decide) ?_
            refine v_goto (tgt := 162) C dX17_nameOf_113 (by decide) ?_
            obtain ⟨e1, rfl⟩ := mret_inv hf
            subst e1
            exact v_sub (ls' := _) [] rfl Jh4
        · refine v_iconst (x := 1) C dX17_nameOf_90 (by decide) ?_
          refine v_goto (tgt := 162) C dX17_nameOf_91 (by decide) ?_
          obtain ⟨e1, rfl⟩ := mret_inv hf
          subst e1
          exact v_sub (ls' := _) [] rfl Jh4
      · refine v_iconst (x := 0) C dX17_nameOf_67 (by decide) ?_
        refine v_goto (tgt := 162) C dX17_nameOf_68 (by decide) ?_
        obtain ⟨e1, rfl⟩ := mret_inv hf
        subst e1
        exact v_sub (ls' := _) [] rfl Jh4
  · refine v_aload_n C 0 dX17_nameOf_5 rfl rfl ?_
    refine v_gR (Cn := RX17) (T := TX17) (N := 37) C hf in_X17 rfl (by decide) q1812 rfl dX17_nameOf_6 (fun x13 hf => ?_)
    refine v_aload_n C 0 dX17_nameOf_9 rfl rfl ?_
    refine v_gI (Cn := RX17) (T := TX17) (N := 37) C hf in_X17 rfl (by decide) q1814 rfl dX17_nameOf_10 (fun x14 hf => ?_)
    refine v_iconst (x := 1) C dX17_nameOf_13 (by decide) ?_
    refine v_isub C dX17_nameOf_14 ?_
    refine v_iaload C hf dX17_nameOf_15 (fun x15 hf => ?_)
    refine v_i2l C dX17_nameOf_16 ?_
    refine v_ldc2 (x := 97) C q2087 dX17_nameOf_17 ?_
    refine v_ldc2 (x := 101) C q2106 dX17_nameOf_20 ?_
    refine v_callS (stk := fun b => .int b :: []) C (ct_X17_in _ x15.toInt64 (97 : Int64) (101 : Int64)) nd_X17_in rfl (Nat.le_of_ble_eq_true rfl) (Nat.le_of_ble_eq_true rfl) [] (Nat.le_of_ble_eq_true rfl) (fun _ => rfl) rfl q1779 q1780 q127 q1781 hf hl dX17_nameOf_23 (fun x16 h17 hf => ?_)
    obtain ⟨x18, h19, hAh19, hf, hlh19⟩ := mb_inv hf hl
    refine v_cut (h1 := h19) (pc1 := 48) (ls1 := []) (st1 := [.int x18]) ?_ (fun Jh19 => ?_)
    · clear hAh19 hlh19
      exact v_iret C E hf dX17_nameOf_48
    · clear hf
      have hf := hAh19
      have hl := hlh19
      refine v_if_eq C hf (tgt := 46) dX17_nameOf_26 (by decide) (fun c26 hf => ?_) (fun c26 hf => ?_)
      · refine v_bipush (x := (-4)) C dX17_nameOf_46 (by decide) ?_
        obtain ⟨e1, rfl⟩ := mret_inv hf
        subst e1
        exact v_sub (ls' := _) [] rfl Jh19
      · refine v_aload_n C 0 dX17_nameOf_29 rfl rfl ?_
        refine v_gR (Cn := RX17) (T := TX17) (N := 37) C hf in_X17 rfl (by decide) q1812 rfl dX17_nameOf_30 (fun x20 hf => ?_)
        refine v_aload_n C 0 dX17_nameOf_33 rfl rfl ?_
        refine v_gI (Cn := RX17) (T := TX17) (N := 37) C hf in_X17 rfl (by decide) q1814 rfl dX17_nameOf_34 (fun x21 hf => ?_)
        refine v_iconst (x := 1) C dX17_nameOf_37 (by decide) ?_
        refine v_isub C dX17_nameOf_38 ?_
        refine v_iaload C hf dX17_nameOf_39 (fun x22 hf => ?_)
        refine v_bipush (x := 92) C dX17_nameOf_40 (by decide) ?_
        refine v_isub C dX17_nameOf_42 ?_
        refine v_goto (tgt := 48) C dX17_nameOf_43 (by decide) ?_
        obtain ⟨e1, rfl⟩ := mret_inv hf
        subst e1
        exact v_sub (ls' := _) [] rfl Jh19
def f_X17_number (a0 : Nat) (i1 : Int32) : hM Int32 :=
  mb (mat a0 15 (f_X17_row a0 (1 : Int32))) fun x1 => mb (mi (¬ x1 = (1 : Int32)) (mi (¬ x1 = (2 : Int32)) (mret (100 : Int32)) (mb (gR a0 15 8) fun x9 => mb (gI a0 15 10) fun x10 => mb (aI 1 x9 (x10 - (2 : Int32))) fun x11 => mb (gR a0 15 8) fun x12 => mb (gI a0 15 10) fun x13 => mb (aI 1 x12 (x13 - (1 : Int32))) fun x14 => mret ((((10 : Int32) * x11) + x14) - (528 : Int32)))) (mb (gR a0 15 8) fun x15 => mb (gI a0 15 10) fun x16 => mb (aI 1 x15 (x16 - (1 : Int32))) fun x17 => mret (x17 - (48 : Int32)))) fun x3 => mi (x1 = 0) (mb (gI a0 15 10) fun x5 => mb (pF a0 15 10 (.int (x5 - x1))) fun _ => mret (-1 : Int32)) (mi (x3 ≤ i1) (mret x3) (mb (gI a0 15 10) fun x7 => mb (pF a0 15 10 (.int (x7 - x1))) fun _ => mret (-1 : Int32)))
theorem nd_X17_number : yX17_number.cls ≠ "java/lang/invoke/MethodHandle" ∧ yX17_number.cls ≠ "java/lang/invoke/VarHandle" ∧ (parseMethodDescriptor yX17_number.desc).map (fun d => d.parameters.length) = some 1 := by decide +kernel
set_option maxHeartbeats 4000000 in
theorem ct_X17_number (l : Launch) (a0 : Nat) (i1 : Int32) : CT l yX17_number cX17_number 4 (some .int) 3 67 rvI [.ref a0, .int i1] (f_X17_number a0 i1) := by
  refine CT_of (ls := [(0, .ref a0), (1, .int i1)]) (by decide) (Nat.le_of_ble_eq_true rfl) rfl ?_
  intro X h he z hX hf C E hnm hh
  have hl := hle.rf he
  subst hX
  unfold f_X17_number at hf
  refine v_aload_n C 0 dX17_number_0 rfl rfl ?_
  refine v_iconst (x := 1) C dX17_number_1 (by decide) ?_
  refine v_callV (stk := fun b => .int b :: []) C (ct_X17_row _ a0 (1 : Int32)) rfl ⟨rfl, nd_X17_row⟩ rfl (Nat.le_of_ble_eq_true rfl) (Nat.le_of_ble_eq_true rfl) [] (Nat.le_of_ble_eq_true rfl) (fun _ => rfl) rfl q2093 q2095 qs62 q127 q2096 hf hl dX17_number_2 (fun x1 h2 hf => ?_)
  refine v_istore_n (ls' := [(2, _), (0, _), (1, _)]) C dX17_number_5 rfl (by decide) rfl ?_
  refine v_iload_n C 0 dX17_number_6 rfl rfl ?_
  refine v_iconst (x := 1) C dX17_number_7 (by decide) ?_
  obtain ⟨x3, h4, hAh4, hf, hlh4⟩ := mb_inv hf hl
  refine v_cut (h1 := h4) (pc1 := 68) (ls1 := [(0, .ref a0), (1, .int i1), (2, .int x1)]) (st1 := [.int x3]) ?_ (fun Jh4 => ?_)
  · clear hAh4 hlh4
    refine v_istore_n (ls' := [(3, _), (0, _), (1, _), (2, _)]) C dX17_number_68 rfl (by decide) rfl ?_
    refine v_iload_n C 3 dX17_number_69 rfl rfl ?_
    refine v_if_eq C hf (tgt := 78) dX17_number_70 (by decide) (fun c70 hf => ?_) (fun c70 hf => ?_)
    · refine v_aload_n C 1 dX17_number_78 rfl rfl ?_
      refine v_dup C dX17_number_79 rfl ?_
      refine v_gI (Cn := RX17) (T := TX17) (N := 37) C hf in_X17 rfl (by decide) q1814 rfl dX17_number_80 (fun x5 hf => ?_)
      refine v_iload_n C 3 dX17_number_83 rfl rfl ?_
      refine v_isub C dX17_number_84 ?_
      refine v_putv (Cn := RX17) (T := TX17) (N := 37) (ty0 := tyX17) C hf in_X17 tyX17_ok nmX17 rfl (by decide) q1814 rfl rfl rfl rfl dX17_number_85 (fun h6 hf => ?_)
      refine v_iconst (x := (-1)) C dX17_number_88 (by decide) ?_
      exact v_iret C E hf dX17_number_89
    · refine v_iload_n C 0 dX17_number_73 rfl rfl ?_
      refine v_iload_n C 2 dX17_number_74 rfl rfl ?_
      refine v_icmp_le C hf (tgt := 90) dX17_number_75 (by decide) (fun c75 hf => ?_) (fun c75 hf => ?_)
      · refine v_iload_n C 0 dX17_number_90 rfl rfl ?_
        exact v_iret C E hf dX17_number_91
      · refine v_aload_n C 1 dX17_number_78 rfl rfl ?_
        refine v_dup C dX17_number_79 rfl ?_
        refine v_gI (Cn := RX17) (T := TX17) (N := 37) C hf in_X17 rfl (by decide) q1814 rfl dX17_number_80 (fun x7 hf => ?_)
        refine v_iload_n C 3 dX17_number_83 rfl rfl ?_
        refine v_isub C dX17_number_84 ?_
        refine v_putv (Cn := RX17) (T := TX17) (N := 37) (ty0 := tyX17) C hf in_X17 tyX17_ok nmX17 rfl (by decide) q1814 rfl rfl rfl rfl dX17_number_85 (fun h8 hf => ?_)
        refine v_iconst (x := (-1)) C dX17_number_88 (by decide) ?_
        exact v_iret C E hf dX17_number_89
  · clear hf
    have hf := hAh4
    have hl := hlh4
    refine v_icmp_ne C hf (tgt := 28) dX17_number_8 (by decide) (fun c8 hf => ?_) (fun c8 hf => ?_)
    · refine v_iload_n C 0 dX17_number_28 rfl rfl ?_
      refine v_iconst (x := 2) C dX17_number_29 (by decide) ?_
      refine v_icmp_ne C hf (tgt := 66) dX17_number_30 (by decide) (fun c30 hf => ?_) (fun c30 hf => ?_)
      · refine v_bipush (x := 100) C dX17_number_66 (by decide) ?_
        obtain ⟨e1, rfl⟩ := mret_inv hf
        subst e1
        exact v_sub (ls' := _) [1, 2, 0] rfl Jh4
      · refine v_bipush (x := 10) C dX17_number_33 (by decide) ?_
        refine v_aload_n C 1 dX17_number_35 rfl rfl ?_
        refine v_gR (Cn := RX17) (T := TX17) (N := 37) C hf in_X17 rfl (by decide) q1812 rfl dX17_number_36 (fun x9 hf => ?_)
        refine v_aload_n C 1 dX17_number_39 rfl rfl ?_
        refine v_gI (Cn := RX17) (T := TX17) (N := 37) C hf in_X17 rfl (by decide) q1814 rfl dX17_number_40 (fun x10 hf => ?_)
        refine v_iconst (x := 2) C dX17_number_43 (by decide) ?_
        refine v_isub C dX17_number_44 ?_
        refine v_iaload C hf dX17_number_45 (fun x11 hf => ?_)
        refine v_imul C dX17_number_46 ?_
        refine v_aload_n C 1 dX17_number_47 rfl rfl ?_
        refine v_gR (Cn := RX17) (T := TX17) (N := 37) C hf in_X17 rfl (by decide) q1812 rfl dX17_number_48 (fun x12 hf => ?_)
        refine v_aload_n C 1 dX17_number_51 rfl rfl ?_
        refine v_gI (Cn := RX17) (T := TX17) (N := 37) C hf in_X17 rfl (by decide) q1814 rfl dX17_number_52 (fun x13 hf => ?_)
        refine v_iconst (x := 1) C dX17_number_55 (by decide) ?_
        refine v_isub C dX17_number_56 ?_
        refine v_iaload C hf dX17_number_57 (fun x14 hf => ?_)
        refine v_iadd C dX17_number_58 ?_
        refine v_sipush (x := 528) C dX17_number_59 (by decide) ?_
        refine v_isub C dX17_number_62 ?_
        refine v_goto (tgt := 68) C dX17_number_63 (by decide) ?_
        obtain ⟨e1, rfl⟩ := mret_inv hf
        subst e1
        exact v_sub (ls' := _) [1, 2, 0] rfl Jh4
    · refine v_aload_n C 1 dX17_number_11 rfl rfl ?_
      refine v_gR (Cn := RX17) (T := TX17) (N := 37) C hf in_X17 rfl (by decide) q1812 rfl dX17_number_12 (fun x15 hf => ?_)
      refine v_aload_n C 1 dX17_number_15 rfl rfl ?_
      refine v_gI (Cn := RX17) (T := TX17) (N := 37) C hf in_X17 rfl (by decide) q1814 rfl dX17_number_16 (fun x16 hf => ?_)
      refine v_iconst (x := 1) C dX17_number_19 (by decide) ?_
      refine v_isub C dX17_number_20 ?_
      refine v_iaload C hf dX17_number_21 (fun x17 hf => ?_)
      refine v_bipush (x := 48) C dX17_number_22 (by decide) ?_
      refine v_isub C dX17_number_24 ?_
      refine v_goto (tgt := 68) C dX17_number_25 (by decide) ?_
      obtain ⟨e1, rfl⟩ := mret_inv hf
      subst e1
      exact v_sub (ls' := _) [1, 2, 0] rfl Jh4
def l_X17_readsOften_81 (a0 : Nat) (i1 : Int32) (i2 : Int32) : Nat → Int32 → Int32 → hM (Int32)
  | 0, _, _ => mfail
  | n + 1, i3, i4 => mi (i1 ≤ i4) (mret i3) (mb (gR a0 15 11) fun x8 => mb (aI 1 x8 i3) fun x9 => l_X17_readsOften_81 a0 i1 i2 n x9 (i4 + (1 : Int32)))
def l_X17_readsOften_53 (a0 : Nat) (i1 : Int32) : Nat → Int32 → hM (Unit)
  | 0, _ => mfail
  | n + 1, i2 => mi ((24 : Int32) ≤ i2) (mret ()) (mi (i1 < 0) (mret ()) (mb (gR a0 15 12) fun x5 => mb (gI a0 15 14) fun x6 => mb (aI 1 x5 (((24 : Int32) * x6) + i2)) fun x7 => mb (l_X17_readsOften_81 a0 i1 i2 FU x7 (0 : Int32)) fun x10 => mb (gR a0 15 12) fun x12 => mb (gI a0 15 14) fun x13 => mb (sI 1 x12 (((24 : Int32) * x13) + i2) x10) fun _ => l_X17_readsOften_53 a0 i1 n (i2 + (1 : Int32))))
def f_X17_readsOften (a0 : Nat) : hM Int32 :=
  mb (mat a0 15 (f_X17_here a0)) fun x1 => mb (mi (¬ x1 = (94 : Int32)) (mret (1 : Int32)) (mb (gI a0 15 10) fun x19 => mb (pF a0 15 10 (.int (x19 + (1 : Int32)))) fun _ => mb (mat a0 15 (f_X17_here a0)) fun x21 => mb (mi (¬ x21 = (45 : Int32)) (mret ()) (mb (gI a0 15 10) fun x26 => mb (pF a0 15 10 (.int (x26 + (1 : Int32)))) fun _ => mb (mat a0 15 (f_X17_turnsBack a0)) fun _ => mret ())) fun _ => mb (mat a0 15 (f_X17_number a0 (99 : Int32))) fun x24 => mret x24)) fun x3 => mb (l_X17_readsOften_53 a0 x3 FU (0 : Int32)) fun x15 => mb (mi (x3 < 0) (mret (0 : Int32)) (mret (1 : Int32))) fun x17 => mrt .boolean x17
theorem nd_X17_readsOften : yX17_readsOften.cls ≠ "java/lang/invoke/MethodHandle" ∧ yX17_readsOften.cls ≠ "java/lang/invoke/VarHandle" ∧ (parseMethodDescriptor yX17_readsOften.desc).map (fun d => d.parameters.length) = some 0 := by decide +kernel
set_option maxHeartbeats 4000000 in
theorem ct_X17_readsOften (l : Launch) (a0 : Nat) : CT l yX17_readsOften cX17_readsOften 5 (some .boolean) 4 90 rvI [.ref a0] (f_X17_readsOften a0) := by
  refine CT_of (ls := [(0, .ref a0)]) (by decide) (Nat.le_of_ble_eq_true rfl) rfl ?_
  intro X h he z hX hf C E hnm hh
  have hl := hle.rf he
  subst hX
  have L81 : ∀ (a0 : Nat) (i1 : Int32) (i2 : Int32) (n : Nat) (i3 : Int32) (i4 : Int32) (h h1 : Hp) (o : Int32), (l_X17_readsOften_81 a0 i1 i2 n i3 i4).1 h = some (o, h1) → hle h1 he → V X h1 100 [(0, .ref a0), (1, .int i1), (2, .int i2), (3, .int o)] [] → V X h 81 [(0, .ref a0), (1, .int i1), (2, .int i2), (3, .int i3), (4, .int i4)] [] := by
    intro a0 i1 i2 n
    induction n with
    | zero => intro i3 i4 h h1 o hf; exact mfail_inv hf
    | succ n ih =>
      intro i3 i4 h h1 o hf hl J
      rw [l_X17_readsOften_81] at hf
      refine v_iload C 4 dX17_readsOften_81 rfl ?_
      refine v_iload_n C 1 dX17_readsOften_83 rfl rfl ?_
      refine v_icmp_ge C hf (tgt := 100) dX17_readsOften_84 (by decide) (fun c84 hf => ?_) (fun c84 hf => ?_)
      · obtain ⟨e1, rfl⟩ := mret_inv hf
        subst e1
        exact v_sub (ls' := _) [0, 1, 2, 3] rfl J
      · refine v_aload_n C 0 dX17_readsOften_87 rfl rfl ?_
        refine v_gR (Cn := RX17) (T := TX17) (N := 37) C hf in_X17 rfl (by decide) q1815 rfl dX17_readsOften_88 (fun x8 hf => ?_)
        refine v_iload_n C 3 dX17_readsOften_91 rfl rfl ?_
        refine v_iaload C hf dX17_readsOften_92 (fun x9 hf => ?_)
        refine v_istore_n (ls' := [(3, _), (0, _), (1, _), (2, _), (4, _)]) C dX17_readsOften_93 rfl (by decide) rfl ?_
        refine v_iinc (ls' := [(4, _), (3, _), (0, _), (1, _), (2, _)]) (y := i4 + (1 : Int32)) C 4 dX17_readsOften_94 rfl rfl (by decide) rfl ?_
        refine v_goto (tgt := 81) C dX17_readsOften_97 (by decide) ?_
        refine v_sub (ls' := _) [2, 3, 4, 1, 0] rfl (ih x9 (i4 + (1 : Int32)) _ _ _ hf hl J)
  have L53 : ∀ (a0 : Nat) (i1 : Int32) (n : Nat) (i2 : Int32) (h h1 : Hp) (o : Unit), (l_X17_readsOften_53 a0 i1 n i2).1 h = some (o, h1) → hle h1 he → V X h1 121 [(1, .int i1)] [] → V X h 53 [(0, .ref a0), (1, .int i1), (2, .int i2)] [] := by
    intro a0 i1 n
    induction n with
    | zero => intro i2 h h1 o hf; exact mfail_inv hf
    | succ n ih =>
      intro i2 h h1 o hf hl J
      rw [l_X17_readsOften_53] at hf
      refine v_iload_n C 2 dX17_readsOften_53 rfl rfl ?_
      refine v_bipush (x := 24) C dX17_readsOften_54 (by decide) ?_
      refine v_icmp_ge C hf (tgt := 121) dX17_readsOften_56 (by decide) (fun c56 hf => ?_) (fun c56 hf => ?_)
      · obtain ⟨e1, rfl⟩ := mret_inv hf
        subst e1
        exact v_sub (ls' := _) [1] rfl J
      · refine v_iload_n C 1 dX17_readsOften_59 rfl rfl ?_
        refine v_if_lt C hf (tgt := 121) dX17_readsOften_60 (by decide) (fun c60 hf => ?_) (fun c60 hf => ?_)
        · obtain ⟨e1, rfl⟩ := mret_inv hf
          subst e1
          exact v_sub (ls' := _) [1] rfl J
        · refine v_aload_n C 0 dX17_readsOften_63 rfl rfl ?_
          refine v_gR (Cn := RX17) (T := TX17) (N := 37) C hf in_X17 rfl (by decide) q1816 rfl dX17_readsOften_64 (fun x5 hf => ?_)
          refine v_bipush (x := 24) C dX17_readsOften_67 (by decide) ?_
          refine v_aload_n C 0 dX17_readsOften_69 rfl rfl ?_
          refine v_gI (Cn := RX17) (T := TX17) (N := 37) C hf in_X17 rfl (by decide) q1818 rfl dX17_readsOften_70 (fun x6 hf => ?_)
          refine v_imul C dX17_readsOften_73 ?_
          refine v_iload_n C 2 dX17_readsOften_74 rfl rfl ?_
          refine v_iadd C dX17_readsOften_75 ?_
          refine v_iaload C hf dX17_readsOften_76 (fun x7 hf => ?_)
          refine v_istore_n (ls' := [(3, _), (0, _), (1, _), (2, _)]) C dX17_readsOften_77 rfl (by decide) rfl ?_
          refine v_iconst (x := 0) C dX17_readsOften_78 (by decide) ?_
          refine v_istore (ls' := [(4, _), (3, _), (0, _), (1, _), (2, _)]) C dX17_readsOften_79 (by decide) rfl ?_
          obtain ⟨x10, h11, eh11, hf, hlh11⟩ := mb_inv hf hl
          refine v_sub (ls' := _) [2, 3, 4, 1, 0] rfl (L81 a0 i1 i2 FU x7 (0 : Int32) _ _ _ eh11 hlh11 ?_)
          refine v_aload_n C 0 dX17_readsOften_100 rfl rfl ?_
          refine v_gR (Cn := RX17) (T := TX17) (N := 37) C hf in_X17 rfl (by decide) q1816 rfl dX17_readsOften_101 (fun x12 hf => ?_)
          refine v_bipush (x := 24) C dX17_readsOften_104 (by decide) ?_
          refine v_aload_n C 0 dX17_readsOften_106 rfl rfl ?_
          refine v_gI (Cn := RX17) (T := TX17) (N := 37) C hf in_X17 rfl (by decide) q1818 rfl dX17_readsOften_107 (fun x13 hf => ?_)
          refine v_imul C dX17_readsOften_110 ?_
          refine v_iload_n C 2 dX17_readsOften_111 rfl rfl ?_
          refine v_iadd C dX17_readsOften_112 ?_
          refine v_iload_n C 3 dX17_readsOften_113 rfl rfl ?_
          refine v_iastore C hf dX17_readsOften_114 (fun h14 hf => ?_)
          refine v_iinc (ls' := [(2, _), (0, _), (1, _), (3, _)]) (y := i2 + (1 : Int32)) C 2 dX17_readsOften_115 rfl rfl (by decide) rfl ?_
          refine v_goto (tgt := 53) C dX17_readsOften_118 (by decide) ?_
          refine v_sub (ls' := _) [1, 2, 0] rfl (ih (i2 + (1 : Int32)) _ _ _ hf hl J)
  unfold f_X17_readsOften at hf
  refine v_iconst (x := 1) C dX17_readsOften_0 (by decide) ?_
  refine v_istore_n (ls' := [(1, _), (0, _)]) C dX17_readsOften_1 rfl (by decide) rfl ?_
  refine v_aload_n C 1 dX17_readsOften_2 rfl rfl ?_
  refine v_callV (stk := fun b => .int b :: []) C (ct_X17_here _ a0) rfl ⟨rfl, nd_X17_here⟩ rfl (Nat.le_of_ble_eq_true rfl) (Nat.le_of_ble_eq_true rfl) [] (Nat.le_of_ble_eq_true rfl) (fun _ => rfl) rfl q2076 q2078 qs59 q127 q2079 hf hl dX17_readsOften_3 (fun x1 h2 hf => ?_)
  refine v_bipush (x := 94) C dX17_readsOften_6 (by decide) ?_
  obtain ⟨x3, h4, hAh4, hf, hlh4⟩ := mb_inv hf hl
  refine v_cut (h1 := h4) (pc1 := 51) (ls1 := [(0, .ref a0), (1, .int x3)]) (st1 := []) ?_ (fun Jh4 => ?_)
  · clear hAh4 hlh4
    refine v_iconst (x := 0) C dX17_readsOften_51 (by decide) ?_
    refine v_istore_n (ls' := [(2, _), (0, _), (1, _)]) C dX17_readsOften_52 rfl (by decide) rfl ?_
    obtain ⟨x15, h16, eh16, hf, hlh16⟩ := mb_inv hf hl
    refine v_sub (ls' := _) [1, 2, 0] rfl (L53 a0 x3 FU (0 : Int32) _ _ _ eh16 hlh16 ?_)
    refine v_iload_n C 0 dX17_readsOften_121 rfl rfl ?_
    obtain ⟨x17, h18, hAh18, hf, hlh18⟩ := mb_inv hf hl
    refine v_cut (h1 := h18) (pc1 := 130) (ls1 := []) (st1 := [.int x17]) ?_ (fun Jh18 => ?_)
    · clear hAh18 hlh18
      exact v_zret C E hf dX17_readsOften_130
    · clear hf
      have hf := hAh18
      have hl := hlh18
      refine v_if_lt C hf (tgt := 129) dX17_readsOften_122 (by decide) (fun c122 hf => ?_) (fun c122 hf => ?_)
      · refine v_iconst (x := 0) C dX17_readsOften_129 (by decide) ?_
        obtain ⟨e1, rfl⟩ := mret_inv hf
        subst e1
        exact v_sub (ls' := _) [] rfl Jh18
      · refine v_iconst (x := 1) C dX17_readsOften_125 (by decide) ?_
        refine v_goto (tgt := 130) C dX17_readsOften_126 (by decide) ?_
        obtain ⟨e1, rfl⟩ := mret_inv hf
        subst e1
        exact v_sub (ls' := _) [] rfl Jh18
  · clear hf
    have hf := hAh4
    have hl := hlh4
    refine v_icmp_ne C hf (tgt := 51) dX17_readsOften_8 (by decide) (fun c8 hf => ?_) (fun c8 hf => ?_)
    · obtain ⟨e1, rfl⟩ := mret_inv hf
      subst e1
      exact v_sub (ls' := _) [1, 0] rfl Jh4
    · refine v_aload_n C 1 dX17_readsOften_11 rfl rfl ?_
      refine v_dup C dX17_readsOften_12 rfl ?_
      refine v_gI (Cn := RX17) (T := TX17) (N := 37) C hf in_X17 rfl (by decide) q1814 rfl dX17_readsOften_13 (fun x19 hf => ?_)
      refine v_iconst (x := 1) C dX17_readsOften_16 (by decide) ?_
      refine v_iadd C dX17_readsOften_17 ?_
      refine v_putv (Cn := RX17) (T := TX17) (N := 37) (ty0 := tyX17) C hf in_X17 tyX17_ok nmX17 rfl (by decide) q1814 rfl rfl rfl rfl dX17_readsOften_18 (fun h20 hf => ?_)
      refine v_aload_n C 1 dX17_readsOften_21 rfl rfl ?_
      refine v_callV (stk := fun b => .int b :: []) C (ct_X17_here _ a0) rfl ⟨rfl, nd_X17_here⟩ rfl (Nat.le_of_ble_eq_true rfl) (Nat.le_of_ble_eq_true rfl) [] (Nat.le_of_ble_eq_true rfl) (fun _ => rfl) rfl q2076 q2078 qs59 q127 q2079 hf hl dX17_readsOften_22 (fun x21 h22 hf => ?_)
      refine v_bipush (x := 45) C dX17_readsOften_25 (by decide) ?_
      obtain ⟨_u, h23, hAh23, hf, hlh23⟩ := mb_inv hf hl
      refine v_cut (h1 := h23) (pc1 := 44) (ls1 := [(0, .ref a0)]) (st1 := []) ?_ (fun Jh23 => ?_)
      · clear hAh23 hlh23
        refine v_aload_n C 0 dX17_readsOften_44 rfl rfl ?_
        refine v_bipush (x := 99) C dX17_readsOften_45 (by decide) ?_
        refine v_callV (stk := fun b => .int b :: []) C (ct_X17_number _ a0 (99 : Int32)) rfl ⟨rfl, nd_X17_number⟩ rfl (Nat.le_of_ble_eq_true rfl) (Nat.le_of_ble_eq_true rfl) [] (Nat.le_of_ble_eq_true rfl) (fun _ => rfl) rfl q2115 q2117 qs66 q127 q2118 hf hl dX17_readsOften_47 (fun x24 h25 hf => ?_)
        refine v_istore_n (ls' := [(1, _), (0, _)]) C dX17_readsOften_50 rfl (by decide) rfl ?_
        obtain ⟨e1, rfl⟩ := mret_inv hf
        subst e1
        exact v_sub (ls' := _) [1, 0] rfl Jh4
      · clear hf
        have hf := hAh23
        have hl := hlh23
        refine v_icmp_ne C hf (tgt := 44) dX17_readsOften_27 (by decide) (fun c27 hf => ?_) (fun c27 hf => ?_)
        · obtain ⟨e1, rfl⟩ := mret_inv hf
          exact v_sub (ls' := _) [1] rfl Jh23
        · refine v_aload_n C 1 dX17_readsOften_30 rfl rfl ?_
          refine v_dup C dX17_readsOften_31 rfl ?_
          refine v_gI (Cn := RX17) (T := TX17) (N := 37) C hf in_X17 rfl (by decide) q1814 rfl dX17_readsOften_32 (fun x26 hf => ?_)
          refine v_iconst (x := 1) C dX17_readsOften_35 (by decide) ?_
          refine v_iadd C dX17_readsOften_36 ?_
          refine v_putv (Cn := RX17) (T := TX17) (N := 37) (ty0 := tyX17) C hf in_X17 tyX17_ok nmX17 rfl (by decide) q1814 rfl rfl rfl rfl dX17_readsOften_37 (fun h27 hf => ?_)
          refine v_aload_n C 1 dX17_readsOften_40 rfl rfl ?_
          refine v_callV (stk := fun _ => []) C (ct_X17_turnsBack _ a0) rfl ⟨rfl, nd_X17_turnsBack⟩ rfl (Nat.le_of_ble_eq_true rfl) (Nat.le_of_ble_eq_true rfl) [] (Nat.le_of_ble_eq_true rfl) (fun _ => rfl) rfl q2123 q2125 qs68 q127 q2126 hf hl dX17_readsOften_41 (fun x28 h29 hf => ?_)
          obtain ⟨e1, rfl⟩ := mret_inv hf
          exact v_sub (ls' := _) [1] rfl Jh23
def l_X17_sifts_2 (a0 : Nat) : Nat → Int32 → hM ((Unit) ⊕ (Int32))
  | 0, _ => mfail
  | n + 1, i1 => mi ((24 : Int32) ≤ i1) (mret (Sum.inl ())) (mb (gR a0 15 20) fun x1 => mb (gR a0 15 15) fun x2 => mb (aI 1 x2 i1) fun x3 => mb (aI 1 x1 x3) fun x4 => mb (gR a0 15 16) fun x5 => mb (aI 1 x5 (((24 : Int32) * i1) + x4)) fun x6 => mi (0 ≤ x6) (mb (mi (x6 < 0) (mret ()) (mb (mat a0 15 (f_X17_takesBack a0 x6)) fun _ => mret ())) fun _ => l_X17_sifts_2 a0 n (i1 + (1 : Int32))) (mb (gR a0 15 15) fun x10 => mb (aI 1 x10 i1) fun x11 => mi (x4 = x11) (mb (mi (x6 < 0) (mret ()) (mb (mat a0 15 (f_X17_takesBack a0 x6)) fun _ => mret ())) fun _ => l_X17_sifts_2 a0 n (i1 + (1 : Int32))) (mret (Sum.inr i1))))
def f_X17_sifts (a0 : Nat) : hM Int32 :=
  mbs (l_X17_sifts_2 a0 FU (0 : Int32)) (fun x15 => mret (-1 : Int32)) id
theorem nd_X17_sifts : yX17_sifts.cls ≠ "java/lang/invoke/MethodHandle" ∧ yX17_sifts.cls ≠ "java/lang/invoke/VarHandle" ∧ (parseMethodDescriptor yX17_sifts.desc).map (fun d => d.parameters.length) = some 0 := by decide +kernel
set_option maxHeartbeats 4000000 in
theorem ct_X17_sifts (l : Launch) (a0 : Nat) : CT l yX17_sifts cX17_sifts 4 (some .int) 1 22 rvI [.ref a0] (f_X17_sifts a0) := by
  refine CT_of (ls := [(0, .ref a0)]) (by decide) (Nat.le_of_ble_eq_true rfl) rfl ?_
  intro X h he z hX hf C E hnm hh
  have hl := hle.rf he
  subst hX
  have L2 : ∀ (a0 : Nat) (n : Nat) (i1 : Int32) (h h1 : Hp) (o : (Unit) ⊕ (Int32)), (l_X17_sifts_2 a0 n i1).1 h = some (o, h1) → hle h1 he → (∀ b, o = Sum.inl b → V X h1 63 [] []) → (∀ c, o = Sum.inr c → (mret c).1 h1 = some (z, he)) → V X h 2 [(0, .ref a0), (1, .int i1)] [] := by
    intro a0 n
    induction n with
    | zero => intro i1 h h1 o hf; exact mfail_inv hf
    | succ n ih =>
      intro i1 h h1 o hf hl J hret
      rw [l_X17_sifts_2] at hf
      refine v_iload_n C 1 dX17_sifts_2 rfl rfl ?_
      refine v_bipush (x := 24) C dX17_sifts_3 (by decide) ?_
      refine v_icmp_ge C hf (tgt := 63) dX17_sifts_5 (by decide) (fun c5 hf => ?_) (fun c5 hf => ?_)
      · obtain ⟨e1, rfl⟩ := mret_inv hf
        subst e1
        exact v_sub (ls' := _) [] rfl (J _ rfl)
      · refine v_aload_n C 0 dX17_sifts_8 rfl rfl ?_
        refine v_gR (Cn := RX17) (T := TX17) (N := 37) C hf in_X17 rfl (by decide) q1824 rfl dX17_sifts_9 (fun x1 hf => ?_)
        refine v_aload_n C 0 dX17_sifts_12 rfl rfl ?_
        refine v_gR (Cn := RX17) (T := TX17) (N := 37) C hf in_X17 rfl (by decide) q1819 rfl dX17_sifts_13 (fun x2 hf => ?_)
        refine v_iload_n C 1 dX17_sifts_16 rfl rfl ?_
        refine v_iaload C hf dX17_sifts_17 (fun x3 hf => ?_)
        refine v_iaload C hf dX17_sifts_18 (fun x4 hf => ?_)
        refine v_istore_n (ls' := [(2, _), (0, _), (1, _)]) C dX17_sifts_19 rfl (by decide) rfl ?_
        refine v_aload_n C 1 dX17_sifts_20 rfl rfl ?_
        refine v_gR (Cn := RX17) (T := TX17) (N := 37) C hf in_X17 rfl (by decide) q1820 rfl dX17_sifts_21 (fun x5 hf => ?_)
        refine v_bipush (x := 24) C dX17_sifts_24 (by decide) ?_
        refine v_iload_n C 2 dX17_sifts_26 rfl rfl ?_
        refine v_imul C dX17_sifts_27 ?_
        refine v_iload_n C 0 dX17_sifts_28 rfl rfl ?_
        refine v_iadd C dX17_sifts_29 ?_
        refine v_iaload C hf dX17_sifts_30 (fun x6 hf => ?_)
        refine v_istore_n (ls' := [(3, _), (2, _), (0, _), (1, _)]) C dX17_sifts_31 rfl (by decide) rfl ?_
        refine v_iload_n C 0 dX17_sifts_32 rfl rfl ?_
        refine v_if_ge C hf (tgt := 48) dX17_sifts_33 (by decide) (fun c33 hf => ?_) (fun c33 hf => ?_)
        · refine v_iload_n C 0 dX17_sifts_48 rfl rfl ?_
          obtain ⟨_u, h7, hAh7, hf, hlh7⟩ := mb_inv hf hl
          refine v_cut (h1 := h7) (pc1 := 57) (ls1 := [(0, .ref a0), (1, .int i1)]) (st1 := []) ?_ (fun Jh7 => ?_)
          · clear hAh7 hlh7
            refine v_iinc (ls' := [(1, _), (0, _)]) (y := i1 + (1 : Int32)) C 1 dX17_sifts_57 rfl rfl (by decide) rfl ?_
            refine v_goto (tgt := 2) C dX17_sifts_60 (by decide) ?_
            refine v_sub (ls' := _) [1, 0] rfl (ih (i1 + (1 : Int32)) _ _ _ hf hl J hret)
          · clear hf
            have hf := hAh7
            have hl := hlh7
            refine v_if_lt C hf (tgt := 57) dX17_sifts_49 (by decide) (fun c49 hf => ?_) (fun c49 hf => ?_)
            · obtain ⟨e1, rfl⟩ := mret_inv hf
              exact v_sub (ls' := _) [2, 3] rfl Jh7
            · refine v_aload_n C 2 dX17_sifts_52 rfl rfl ?_
              refine v_iload_n C 0 dX17_sifts_53 rfl rfl ?_
              refine v_callV (stk := fun _ => []) C (ct_X17_takesBack _ a0 x6) rfl ⟨rfl, nd_X17_takesBack⟩ rfl (Nat.le_of_ble_eq_true rfl) (Nat.le_of_ble_eq_true rfl) [] (Nat.le_of_ble_eq_true rfl) (fun _ => rfl) rfl q2167 q2169 qs77 q127 q2170 hf hl dX17_sifts_54 (fun x8 h9 hf => ?_)
              obtain ⟨e1, rfl⟩ := mret_inv hf
              exact v_sub (ls' := _) [2, 3] rfl Jh7
        · refine v_iload_n C 1 dX17_sifts_36 rfl rfl ?_
          refine v_aload_n C 2 dX17_sifts_37 rfl rfl ?_
          refine v_gR (Cn := RX17) (T := TX17) (N := 37) C hf in_X17 rfl (by decide) q1819 rfl dX17_sifts_38 (fun x10 hf => ?_)
          refine v_iload_n C 3 dX17_sifts_41 rfl rfl ?_
          refine v_iaload C hf dX17_sifts_42 (fun x11 hf => ?_)
          refine v_icmp_eq C hf (tgt := 48) dX17_sifts_43 (by decide) (fun c43 hf => ?_) (fun c43 hf => ?_)
          · refine v_iload_n C 0 dX17_sifts_48 rfl rfl ?_
            obtain ⟨_u, h12, hAh12, hf, hlh12⟩ := mb_inv hf hl
            refine v_cut (h1 := h12) (pc1 := 57) (ls1 := [(0, .ref a0), (1, .int i1)]) (st1 := []) ?_ (fun Jh12 => ?_)
            · clear hAh12 hlh12
              refine v_iinc (ls' := [(1, _), (0, _)]) (y := i1 + (1 : Int32)) C 1 dX17_sifts_57 rfl rfl (by decide) rfl ?_
              refine v_goto (tgt := 2) C dX17_sifts_60 (by decide) ?_
              refine v_sub (ls' := _) [1, 0] rfl (ih (i1 + (1 : Int32)) _ _ _ hf hl J hret)
            · clear hf
              have hf := hAh12
              have hl := hlh12
              refine v_if_lt C hf (tgt := 57) dX17_sifts_49 (by decide) (fun c49 hf => ?_) (fun c49 hf => ?_)
              · obtain ⟨e1, rfl⟩ := mret_inv hf
                exact v_sub (ls' := _) [2, 3] rfl Jh12
              · refine v_aload_n C 2 dX17_sifts_52 rfl rfl ?_
                refine v_iload_n C 0 dX17_sifts_53 rfl rfl ?_
                refine v_callV (stk := fun _ => []) C (ct_X17_takesBack _ a0 x6) rfl ⟨rfl, nd_X17_takesBack⟩ rfl (Nat.le_of_ble_eq_true rfl) (Nat.le_of_ble_eq_true rfl) [] (Nat.le_of_ble_eq_true rfl) (fun _ => rfl) rfl q2167 q2169 qs77 q127 q2170 hf hl dX17_sifts_54 (fun x13 h14 hf => ?_)
                obtain ⟨e1, rfl⟩ := mret_inv hf
                exact v_sub (ls' := _) [2, 3] rfl Jh12
          · refine v_iload_n C 3 dX17_sifts_46 rfl rfl ?_
            exact v_iret C E (mret_up hf hret) dX17_sifts_47
  unfold f_X17_sifts at hf
  refine v_iconst (x := 0) C dX17_sifts_0 (by decide) ?_
  refine v_istore_n (ls' := [(1, _), (0, _)]) C dX17_sifts_1 rfl (by decide) rfl ?_
  obtain ⟨ox15, h16, eh16, hlh16, hkh16, hrh16⟩ := mbs_inv hf hl
  refine v_sub (ls' := _) [1, 0] rfl (L2 a0 FU (0 : Int32) _ _ _ eh16 hlh16 (fun x15 eo => ?_) hrh16)
  have hf := hkh16 x15 eo
  clear hkh16 hrh16
  refine v_iconst (x := (-1)) C dX17_sifts_63 (by decide) ?_
  exact v_iret C E hf dX17_sifts_64
def l_X17_orbitsOfPlaces_8 (a0 : Nat) (i1 : Int32) : Nat → Int32 → Int32 → Int32 → hM (Int32)
  | 0, _, _, _ => mfail
  | n + 1, i2, i3, i4 => mi ((24 : Int32) ≤ i4) (mret i2) (mi (i3 = 0) (mret i2) (mb (f_X17_lowest i3) fun x1 => mb (mat a0 15 (f_X17_reaches a0 i1 ((1 : Int32) <<< (x1 &&& 31)))) fun x3 => l_X17_orbitsOfPlaces_8 a0 i1 n (i2 + (1 : Int32)) (i3 &&& (x3 ^^^ (-1 : Int32))) (i4 + (1 : Int32))))
def f_X17_orbitsOfPlaces (a0 : Nat) (i1 : Int32) : hM Int32 :=
  mb (l_X17_orbitsOfPlaces_8 a0 i1 FU (0 : Int32) (16777215 : Int32) (0 : Int32)) fun x5 => mret x5
theorem nd_X17_orbitsOfPlaces : yX17_orbitsOfPlaces.cls ≠ "java/lang/invoke/MethodHandle" ∧ yX17_orbitsOfPlaces.cls ≠ "java/lang/invoke/VarHandle" ∧ (parseMethodDescriptor yX17_orbitsOfPlaces.desc).map (fun d => d.parameters.length) = some 1 := by decide +kernel
set_option maxHeartbeats 4000000 in
theorem ct_X17_orbitsOfPlaces (l : Launch) (a0 : Nat) (i1 : Int32) : CT l yX17_orbitsOfPlaces cX17_orbitsOfPlaces 5 (some .int) 3 72 rvI [.ref a0, .int i1] (f_X17_orbitsOfPlaces a0 i1) := by
  refine CT_of (ls := [(0, .ref a0), (1, .int i1)]) (by decide) (Nat.le_of_ble_eq_true rfl) rfl ?_
  intro X h he z hX hf C E hnm hh
  have hl := hle.rf he
  subst hX
  have L8 : ∀ (a0 : Nat) (i1 : Int32) (n : Nat) (i2 : Int32) (i3 : Int32) (i4 : Int32) (h h1 : Hp) (o : Int32), (l_X17_orbitsOfPlaces_8 a0 i1 n i2 i3 i4).1 h = some (o, h1) → hle h1 he → V X h1 44 [(2, .int o)] [] → V X h 8 [(0, .ref a0), (1, .int i1), (2, .int i2), (3, .int i3), (4, .int i4)] [] := by
    intro a0 i1 n
    induction n with
    | zero => intro i2 i3 i4 h h1 o hf; exact mfail_inv hf
    | succ n ih =>
      intro i2 i3 i4 h h1 o hf hl J
      rw [l_X17_orbitsOfPlaces_8] at hf
      refine v_iload C 4 dX17_orbitsOfPlaces_8 rfl ?_
      refine v_bipush (x := 24) C dX17_orbitsOfPlaces_10 (by decide) ?_
      refine v_icmp_ge C hf (tgt := 44) dX17_orbitsOfPlaces_12 (by decide) (fun c12 hf => ?_) (fun c12 hf => ?_)
      · obtain ⟨e1, rfl⟩ := mret_inv hf
        subst e1
        exact v_sub (ls' := _) [2] rfl J
      · refine v_iload_n C 3 dX17_orbitsOfPlaces_15 rfl rfl ?_
        refine v_if_eq C hf (tgt := 44) dX17_orbitsOfPlaces_16 (by decide) (fun c16 hf => ?_) (fun c16 hf => ?_)
        · obtain ⟨e1, rfl⟩ := mret_inv hf
          subst e1
          exact v_sub (ls' := _) [2] rfl J
        · refine v_iload_n C 3 dX17_orbitsOfPlaces_19 rfl rfl ?_
          refine v_aload_n C 0 dX17_orbitsOfPlaces_20 rfl rfl ?_
          refine v_iload_n C 1 dX17_orbitsOfPlaces_21 rfl rfl ?_
          refine v_iconst (x := 1) C dX17_orbitsOfPlaces_22 (by decide) ?_
          refine v_iload_n C 3 dX17_orbitsOfPlaces_23 rfl rfl ?_
          refine v_callS (stk := fun b => .int b :: [.int (1 : Int32), .int i1, .ref a0, .int i3]) C (ct_X17_lowest _ i3) nd_X17_lowest rfl (Nat.le_of_ble_eq_true rfl) (Nat.le_of_ble_eq_true rfl) [.int (1 : Int32), .int i1, .ref a0, .int i3] (Nat.le_of_ble_eq_true rfl) (fun _ => rfl) rfl q1798 q1799 q127 q1800 hf hl dX17_orbitsOfPlaces_24 (fun x1 h2 hf => ?_)
          refine v_ishl C dX17_orbitsOfPlaces_27 ?_
          refine v_callV (stk := fun b => .int b :: [.int i3]) C (ct_X17_reaches _ a0 i1 ((1 : Int32) <<< (x1 &&& 31))) rfl ⟨rfl, nd_X17_reaches⟩ rfl (Nat.le_of_ble_eq_true rfl) (Nat.le_of_ble_eq_true rfl) [.int i3] (Nat.le_of_ble_eq_true rfl) (fun _ => rfl) rfl q2183 q2185 qs81 q127 q2186 hf hl dX17_orbitsOfPlaces_28 (fun x3 h4 hf => ?_)
          refine v_iconst (x := (-1)) C dX17_orbitsOfPlaces_31 (by decide) ?_
          refine v_ixor C dX17_orbitsOfPlaces_32 ?_
          refine v_iand C dX17_orbitsOfPlaces_33 ?_
          refine v_istore_n (ls' := [(3, _), (0, _), (1, _), (2, _), (4, _)]) C dX17_orbitsOfPlaces_34 rfl (by decide) rfl ?_
          refine v_iinc (ls' := [(2, _), (3, _), (0, _), (1, _), (4, _)]) (y := i2 + (1 : Int32)) C 3 dX17_orbitsOfPlaces_35 rfl rfl (by decide) rfl ?_
          refine v_iinc (ls' := [(4, _), (2, _), (3, _), (0, _), (1, _)]) (y := i4 + (1 : Int32)) C 4 dX17_orbitsOfPlaces_38 rfl rfl (by decide) rfl ?_
          refine v_goto (tgt := 8) C dX17_orbitsOfPlaces_41 (by decide) ?_
          refine v_sub (ls' := _) [3, 4, 1, 2, 0] rfl (ih (i2 + (1 : Int32)) (i3 &&& (x3 ^^^ (-1 : Int32))) (i4 + (1 : Int32)) _ _ _ hf hl J)
  unfold f_X17_orbitsOfPlaces at hf
  refine v_iconst (x := 0) C dX17_orbitsOfPlaces_0 (by decide) ?_
  refine v_istore_n (ls' := [(2, _), (0, _), (1, _)]) C dX17_orbitsOfPlaces_1 rfl (by decide) rfl ?_
  refine v_ldc (x := 16777215) C q1967 dX17_orbitsOfPlaces_2 ?_
  refine v_istore_n (ls' := [(3, _), (2, _), (0, _), (1, _)]) C dX17_orbitsOfPlaces_4 rfl (by decide) rfl ?_
  refine v_iconst (x := 0) C dX17_orbitsOfPlaces_5 (by decide) ?_
  refine v_istore (ls' := [(4, _), (3, _), (2, _), (0, _), (1, _)]) C dX17_orbitsOfPlaces_6 (by decide) rfl ?_
  obtain ⟨x5, h6, eh6, hf, hlh6⟩ := mb_inv hf hl
  refine v_sub (ls' := _) [3, 4, 2, 1, 0] rfl (L8 a0 i1 FU (0 : Int32) (16777215 : Int32) (0 : Int32) _ _ _ eh6 hlh6 ?_)
  refine v_iload_n C 0 dX17_orbitsOfPlaces_44 rfl rfl ?_
  exact v_iret C E hf dX17_orbitsOfPlaces_45
def l_X17_spreadsFours_45 (a0 : Nat) (i1 : Int32) (i4 : Int32) : Nat → Int32 → Int32 → hM (Int32)
  | 0, _, _ => mfail
  | n + 1, i3, i5 => mi ((4 : Int32) ≤ i5) (mret i3) (mb (f_X17_has i1 i5) fun x11 => mb (mi (x11 = 0) (mb (gR a0 15 26) fun x27 => mb (aI 1 x27 i4) fun x28 => mret x28) (mb (gR a0 15 26) fun x29 => mb (aI 1 x29 i4) fun x30 => mb (mat a0 15 (f_X17_fourBy a0 i5 x30)) fun x31 => mret x31)) fun x13 => mb (gR a0 15 25) fun x15 => mb (f_X17_rankOf x13) fun x16 => mb (aI 2 x15 x16) fun x18 => mb (mi (¬ x18 = 0) (mret i3) (mb (gR a0 15 25) fun x21 => mb (f_X17_rankOf x13) fun x22 => mb (sI 2 x21 x22 (1 : Int32)) fun _ => mb (gR a0 15 26) fun x25 => mb (sI 1 x25 i3 x13) fun _ => mret (i3 + (1 : Int32)))) fun x19 => l_X17_spreadsFours_45 a0 i1 i4 n x19 (i5 + (1 : Int32)))
def l_X17_spreadsFours_36 (a0 : Nat) (i1 : Int32) : Nat → Int32 → Int32 → hM (Int32)
  | 0, _, _ => mfail
  | n + 1, i3, i4 => mi (i3 ≤ i4) (mret i3) (mb (l_X17_spreadsFours_45 a0 i1 i4 FU i3 (0 : Int32)) fun x33 => l_X17_spreadsFours_36 a0 i1 n x33 (i4 + (1 : Int32)))
def f_X17_spreadsFours (a0 : Nat) (i1 : Int32) (i2 : Int32) : hM Int32 :=
  mb (gR a0 15 25) fun x1 => mb (f_X17_rankOf i2) fun x2 => mb (aI 2 x1 x2) fun x4 => mi (x4 = 0) (mb (gR a0 15 25) fun x5 => mb (f_X17_rankOf i2) fun x6 => mb (sI 2 x5 x6 (1 : Int32)) fun _ => mb (gR a0 15 26) fun x9 => mb (sI 1 x9 (0 : Int32) i2) fun _ => mb (l_X17_spreadsFours_36 a0 i1 FU (1 : Int32) (0 : Int32)) fun x35 => mret x35) (mret (0 : Int32))
theorem nd_X17_spreadsFours : yX17_spreadsFours.cls ≠ "java/lang/invoke/MethodHandle" ∧ yX17_spreadsFours.cls ≠ "java/lang/invoke/VarHandle" ∧ (parseMethodDescriptor yX17_spreadsFours.desc).map (fun d => d.parameters.length) = some 2 := by decide +kernel
set_option maxHeartbeats 4000000 in
theorem ct_X17_spreadsFours (l : Launch) (a0 : Nat) (i1 : Int32) (i2 : Int32) : CT l yX17_spreadsFours cX17_spreadsFours 7 (some .int) 3 68 rvI [.ref a0, .int i1, .int i2] (f_X17_spreadsFours a0 i1 i2) := by
  refine CT_of (ls := [(0, .ref a0), (1, .int i1), (2, .int i2)]) (by decide) (Nat.le_of_ble_eq_true rfl) rfl ?_
  intro X h he z hX hf C E hnm hh
  have hl := hle.rf he
  subst hX
  have L45 : ∀ (a0 : Nat) (i1 : Int32) (i4 : Int32) (n : Nat) (i3 : Int32) (i5 : Int32) (h h1 : Hp) (o : Int32), (l_X17_spreadsFours_45 a0 i1 i4 n i3 i5).1 h = some (o, h1) → hle h1 he → V X h1 126 [(0, .ref a0), (1, .int i1), (3, .int o), (4, .int i4)] [] → V X h 45 [(0, .ref a0), (1, .int i1), (3, .int i3), (4, .int i4), (5, .int i5)] [] := by
    intro a0 i1 i4 n
    induction n with
    | zero => intro i3 i5 h h1 o hf; exact mfail_inv hf
    | succ n ih =>
      intro i3 i5 h h1 o hf hl J
      rw [l_X17_spreadsFours_45] at hf
      refine v_iload C 4 dX17_spreadsFours_45 rfl ?_
      refine v_iconst (x := 4) C dX17_spreadsFours_47 (by decide) ?_
      refine v_icmp_ge C hf (tgt := 126) dX17_spreadsFours_48 (by decide) (fun c48 hf => ?_) (fun c48 hf => ?_)
      · obtain ⟨e1, rfl⟩ := mret_inv hf
        subst e1
        exact v_sub (ls' := _) [0, 1, 2, 3] rfl J
      · refine v_iload_n C 1 dX17_spreadsFours_51 rfl rfl ?_
        refine v_iload C 4 dX17_spreadsFours_52 rfl ?_
        refine v_callS (stk := fun b => .int b :: []) C (ct_X17_has _ i1 i5) nd_X17_has rfl (Nat.le_of_ble_eq_true rfl) (Nat.le_of_ble_eq_true rfl) [] (Nat.le_of_ble_eq_true rfl) (fun _ => rfl) rfl q1783 q1784 q127 q1785 hf hl dX17_spreadsFours_54 (fun x11 h12 hf => ?_)
        obtain ⟨x13, h14, hAh14, hf, hlh14⟩ := mb_inv hf hl
        refine v_cut (h1 := h14) (pc1 := 83) (ls1 := [(0, .ref a0), (1, .int i1), (3, .int i3), (4, .int i4), (5, .int i5)]) (st1 := [.int x13]) ?_ (fun Jh14 => ?_)
        · clear hAh14 hlh14
          refine v_istore (ls' := [(6, _), (0, _), (1, _), (3, _), (4, _), (5, _)]) C dX17_spreadsFours_83 (by decide) rfl ?_
          refine v_aload_n C 1 dX17_spreadsFours_85 rfl rfl ?_
          refine v_gR (Cn := RX17) (T := TX17) (N := 37) C hf in_X17 rfl (by decide) q1829 rfl dX17_spreadsFours_86 (fun x15 hf => ?_)
          refine v_iload C 0 dX17_spreadsFours_89 rfl ?_
          refine v_callS (stk := fun b => .int b :: [.ref x15]) C (ct_X17_rankOf _ x13) nd_X17_rankOf rfl (Nat.le_of_ble_eq_true rfl) (Nat.le_of_ble_eq_true rfl) [.ref x15] (Nat.le_of_ble_eq_true rfl) (fun _ => rfl) rfl q2199 q2200 q127 q2201 hf hl dX17_spreadsFours_91 (fun x16 h17 hf => ?_)
          refine v_zaload C hf dX17_spreadsFours_94 (fun x18 hf => ?_)
          obtain ⟨x19, h20, hAh20, hf, hlh20⟩ := mb_inv hf hl
          refine v_cut (h1 := h20) (pc1 := 120) (ls1 := [(0, .ref a0), (1, .int i1), (3, .int x19), (4, .int i4), (5, .int i5)]) (st1 := []) ?_ (fun Jh20 => ?_)
          · clear hAh20 hlh20
            refine v_iinc (ls' := [(5, _), (0, _), (1, _), (3, _), (4, _)]) (y := i5 + (1 : Int32)) C 4 dX17_spreadsFours_120 rfl rfl (by decide) rfl ?_
            refine v_goto (tgt := 45) C dX17_spreadsFours_123 (by decide) ?_
            refine v_sub (ls' := _) [1, 2, 3, 4, 0] rfl (ih x19 (i5 + (1 : Int32)) _ _ _ hf hl J)
          · clear hf
            have hf := hAh20
            have hl := hlh20
            refine v_if_ne C hf (tgt := 120) dX17_spreadsFours_95 (by decide) (fun c95 hf => ?_) (fun c95 hf => ?_)
            · obtain ⟨e1, rfl⟩ := mret_inv hf
              subst e1
              exact v_sub (ls' := _) [1, 2, 3, 4, 5] rfl Jh20
            · refine v_aload_n C 1 dX17_spreadsFours_98 rfl rfl ?_
              refine v_gR (Cn := RX17) (T := TX17) (N := 37) C hf in_X17 rfl (by decide) q1829 rfl dX17_spreadsFours_99 (fun x21 hf => ?_)
              refine v_iload C 0 dX17_spreadsFours_102 rfl ?_
              refine v_callS (stk := fun b => .int b :: [.ref x21]) C (ct_X17_rankOf _ x13) nd_X17_rankOf rfl (Nat.le_of_ble_eq_true rfl) (Nat.le_of_ble_eq_true rfl) [.ref x21] (Nat.le_of_ble_eq_true rfl) (fun _ => rfl) rfl q2199 q2200 q127 q2201 hf hl dX17_spreadsFours_104 (fun x22 h23 hf => ?_)
              refine v_iconst (x := 1) C dX17_spreadsFours_107 (by decide) ?_
              refine v_zastore C hf dX17_spreadsFours_108 (fun h24 hf => ?_)
              refine v_aload_n C 1 dX17_spreadsFours_109 rfl rfl ?_
              refine v_gR (Cn := RX17) (T := TX17) (N := 37) C hf in_X17 rfl (by decide) q1830 rfl dX17_spreadsFours_110 (fun x25 hf => ?_)
              refine v_iload_n C 3 dX17_spreadsFours_113 rfl rfl ?_
              refine v_iload C 0 dX17_spreadsFours_114 rfl ?_
              refine v_iastore C hf dX17_spreadsFours_116 (fun h26 hf => ?_)
              refine v_iinc (ls' := [(3, _), (6, _), (0, _), (1, _), (4, _), (5, _)]) (y := i3 + (1 : Int32)) C 3 dX17_spreadsFours_117 rfl rfl (by decide) rfl ?_
              obtain ⟨e1, rfl⟩ := mret_inv hf
              subst e1
              exact v_sub (ls' := _) [2, 3, 0, 4, 5] rfl Jh20
        · clear hf
          have hf := hAh14
          have hl := hlh14
          refine v_if_eq C hf (tgt := 76) dX17_spreadsFours_57 (by decide) (fun c57 hf => ?_) (fun c57 hf => ?_)
          · refine v_aload_n C 0 dX17_spreadsFours_76 rfl rfl ?_
            refine v_gR (Cn := RX17) (T := TX17) (N := 37) C hf in_X17 rfl (by decide) q1830 rfl dX17_spreadsFours_77 (fun x27 hf => ?_)
            refine v_iload C 3 dX17_spreadsFours_80 rfl ?_
            refine v_iaload C hf dX17_spreadsFours_82 (fun x28 hf => ?_)
            obtain ⟨e1, rfl⟩ := mret_inv hf
            subst e1
            exact v_sub (ls' := _) [0, 1, 2, 3, 4] rfl Jh14
          · refine v_aload_n C 0 dX17_spreadsFours_60 rfl rfl ?_
            refine v_iload C 4 dX17_spreadsFours_61 rfl ?_
            refine v_aload_n C 0 dX17_spreadsFours_63 rfl rfl ?_
            refine v_gR (Cn := RX17) (T := TX17) (N := 37) C hf in_X17 rfl (by decide) q1830 rfl dX17_spreadsFours_64 (fun x29 hf => ?_)
            refine v_iload C 3 dX17_spreadsFours_67 rfl ?_
            refine v_iaload C hf dX17_spreadsFours_69 (fun x30 hf => ?_)
            refine v_callV (stk := fun b => .int b :: []) C (ct_X17_fourBy _ a0 i5 x30) rfl ⟨rfl, nd_X17_fourBy⟩ rfl (Nat.le_of_ble_eq_true rfl) (Nat.le_of_ble_eq_true rfl) [] (Nat.le_of_ble_eq_true rfl) (fun _ => rfl) rfl q2202 q2204 qs85 q127 q2205 hf hl dX17_spreadsFours_70 (fun x31 h32 hf => ?_)
            refine v_goto (tgt := 83) C dX17_spreadsFours_73 (by decide) ?_
            obtain ⟨e1, rfl⟩ := mret_inv hf
            subst e1
            exact v_sub (ls' := _) [0, 1, 2, 3, 4] rfl Jh14
  have L36 : ∀ (a0 : Nat) (i1 : Int32) (n : Nat) (i3 : Int32) (i4 : Int32) (h h1 : Hp) (o : Int32), (l_X17_spreadsFours_36 a0 i1 n i3 i4).1 h = some (o, h1) → hle h1 he → V X h1 132 [(3, .int o)] [] → V X h 36 [(0, .ref a0), (1, .int i1), (3, .int i3), (4, .int i4)] [] := by
    intro a0 i1 n
    induction n with
    | zero => intro i3 i4 h h1 o hf; exact mfail_inv hf
    | succ n ih =>
      intro i3 i4 h h1 o hf hl J
      rw [l_X17_spreadsFours_36] at hf
      refine v_iload C 3 dX17_spreadsFours_36 rfl ?_
      refine v_iload_n C 2 dX17_spreadsFours_38 rfl rfl ?_
      refine v_icmp_ge C hf (tgt := 132) dX17_spreadsFours_39 (by decide) (fun c39 hf => ?_) (fun c39 hf => ?_)
      · obtain ⟨e1, rfl⟩ := mret_inv hf
        subst e1
        exact v_sub (ls' := _) [2] rfl J
      · refine v_iconst (x := 0) C dX17_spreadsFours_42 (by decide) ?_
        refine v_istore (ls' := [(5, _), (0, _), (1, _), (3, _), (4, _)]) C dX17_spreadsFours_43 (by decide) rfl ?_
        obtain ⟨x33, h34, eh34, hf, hlh34⟩ := mb_inv hf hl
        refine v_sub (ls' := _) [1, 2, 3, 4, 0] rfl (L45 a0 i1 i4 FU i3 (0 : Int32) _ _ _ eh34 hlh34 ?_)
        refine v_iinc (ls' := [(4, _), (0, _), (1, _), (3, _)]) (y := i4 + (1 : Int32)) C 3 dX17_spreadsFours_126 rfl rfl (by decide) rfl ?_
        refine v_goto (tgt := 36) C dX17_spreadsFours_129 (by decide) ?_
        refine v_sub (ls' := _) [1, 2, 3, 0] rfl (ih x33 (i4 + (1 : Int32)) _ _ _ hf hl J)
  unfold f_X17_spreadsFours at hf
  refine v_aload_n C 0 dX17_spreadsFours_0 rfl rfl ?_
  refine v_gR (Cn := RX17) (T := TX17) (N := 37) C hf in_X17 rfl (by decide) q1829 rfl dX17_spreadsFours_1 (fun x1 hf => ?_)
  refine v_iload_n C 2 dX17_spreadsFours_4 rfl rfl ?_
  refine v_callS (stk := fun b => .int b :: [.ref x1]) C (ct_X17_rankOf _ i2) nd_X17_rankOf rfl (Nat.le_of_ble_eq_true rfl) (Nat.le_of_ble_eq_true rfl) [.ref x1] (Nat.le_of_ble_eq_true rfl) (fun _ => rfl) rfl q2199 q2200 q127 q2201 hf hl dX17_spreadsFours_5 (fun x2 h3 hf => ?_)
  refine v_zaload C hf dX17_spreadsFours_8 (fun x4 hf => ?_)
  refine v_if_eq C hf (tgt := 14) dX17_spreadsFours_9 (by decide) (fun c9 hf => ?_) (fun c9 hf => ?_)
  · refine v_iconst (x := 1) C dX17_spreadsFours_14 (by decide) ?_
    refine v_istore_n (ls' := [(3, _), (0, _), (1, _), (2, _)]) C dX17_spreadsFours_15 rfl (by decide) rfl ?_
    refine v_aload_n C 1 dX17_spreadsFours_16 rfl rfl ?_
    refine v_gR (Cn := RX17) (T := TX17) (N := 37) C hf in_X17 rfl (by decide) q1829 rfl dX17_spreadsFours_17 (fun x5 hf => ?_)
    refine v_iload_n C 3 dX17_spreadsFours_20 rfl rfl ?_
    refine v_callS (stk := fun b => .int b :: [.ref x5]) C (ct_X17_rankOf _ i2) nd_X17_rankOf rfl (Nat.le_of_ble_eq_true rfl) (Nat.le_of_ble_eq_true rfl) [.ref x5] (Nat.le_of_ble_eq_true rfl) (fun _ => rfl) rfl q2199 q2200 q127 q2201 hf hl dX17_spreadsFours_21 (fun x6 h7 hf => ?_)
    refine v_iconst (x := 1) C dX17_spreadsFours_24 (by decide) ?_
    refine v_zastore C hf dX17_spreadsFours_25 (fun h8 hf => ?_)
    refine v_aload_n C 1 dX17_spreadsFours_26 rfl rfl ?_
    refine v_gR (Cn := RX17) (T := TX17) (N := 37) C hf in_X17 rfl (by decide) q1830 rfl dX17_spreadsFours_27 (fun x9 hf => ?_)
    refine v_iconst (x := 0) C dX17_spreadsFours_30 (by decide) ?_
    refine v_iload_n C 3 dX17_spreadsFours_31 rfl rfl ?_
    refine v_iastore C hf dX17_spreadsFours_32 (fun h10 hf => ?_)
    refine v_iconst (x := 0) C dX17_spreadsFours_33 (by decide) ?_
    refine v_istore (ls' := [(4, _), (3, _), (0, _), (1, _), (2, _)]) C dX17_spreadsFours_34 (by decide) rfl ?_
    obtain ⟨x35, h36, eh36, hf, hlh36⟩ := mb_inv hf hl
    refine v_sub (ls' := _) [2, 3, 1, 0] rfl (L36 a0 i1 FU (1 : Int32) (0 : Int32) _ _ _ eh36 hlh36 ?_)
    refine v_iload_n C 0 dX17_spreadsFours_132 rfl rfl ?_
    exact v_iret C E hf dX17_spreadsFours_133
  · refine v_iconst (x := 0) C dX17_spreadsFours_12 (by decide) ?_
    exact v_iret C E hf dX17_spreadsFours_13
def l_X17_spreads_37 (a0 : Nat) (i3 : Int32) : Nat → Int32 → Int32 → hM (Int32)
  | 0, _, _ => mfail
  | n + 1, i2, i4 => mi ((4 : Int32) ≤ i4) (mret i2) (mb (gR a0 15 26) fun x7 => mb (aI 1 x7 i3) fun x8 => mb (mat a0 15 (f_X17_imageOf a0 i4 x8)) fun x9 => mb (gR a0 15 25) fun x11 => mb (aI 2 x11 x9) fun x12 => mb (mi (¬ x12 = 0) (mret i2) (mb (gR a0 15 25) fun x15 => mb (sI 2 x15 x9 (1 : Int32)) fun _ => mb (gR a0 15 26) fun x17 => mb (sI 1 x17 i2 x9) fun _ => mret (i2 + (1 : Int32)))) fun x13 => l_X17_spreads_37 a0 i3 n x13 (i4 + (1 : Int32)))
def l_X17_spreads_29 (a0 : Nat) : Nat → Int32 → Int32 → hM (Int32)
  | 0, _, _ => mfail
  | n + 1, i2, i3 => mi (i2 ≤ i3) (mret i2) (mb (l_X17_spreads_37 a0 i3 FU i2 (0 : Int32)) fun x19 => l_X17_spreads_29 a0 n x19 (i3 + (1 : Int32)))
def f_X17_spreads (a0 : Nat) (i1 : Int32) : hM Int32 :=
  mb (gR a0 15 25) fun x1 => mb (aI 2 x1 i1) fun x2 => mi (x2 = 0) (mb (gR a0 15 25) fun x3 => mb (sI 2 x3 i1 (1 : Int32)) fun _ => mb (gR a0 15 26) fun x5 => mb (sI 1 x5 (0 : Int32) i1) fun _ => mb (l_X17_spreads_29 a0 FU (1 : Int32) (0 : Int32)) fun x21 => mret x21) (mret (0 : Int32))
theorem nd_X17_spreads : yX17_spreads.cls ≠ "java/lang/invoke/MethodHandle" ∧ yX17_spreads.cls ≠ "java/lang/invoke/VarHandle" ∧ (parseMethodDescriptor yX17_spreads.desc).map (fun d => d.parameters.length) = some 1 := by decide +kernel
set_option maxHeartbeats 4000000 in
theorem ct_X17_spreads (l : Launch) (a0 : Nat) (i1 : Int32) : CT l yX17_spreads cX17_spreads 6 (some .int) 2 45 rvI [.ref a0, .int i1] (f_X17_spreads a0 i1) := by
  refine CT_of (ls := [(0, .ref a0), (1, .int i1)]) (by decide) (Nat.le_of_ble_eq_true rfl) rfl ?_
  intro X h he z hX hf C E hnm hh
  have hl := hle.rf he
  subst hX
  have L37 : ∀ (a0 : Nat) (i3 : Int32) (n : Nat) (i2 : Int32) (i4 : Int32) (h h1 : Hp) (o : Int32), (l_X17_spreads_37 a0 i3 n i2 i4).1 h = some (o, h1) → hle h1 he → V X h1 92 [(0, .ref a0), (2, .int o), (3, .int i3)] [] → V X h 37 [(0, .ref a0), (2, .int i2), (3, .int i3), (4, .int i4)] [] := by
    intro a0 i3 n
    induction n with
    | zero => intro i2 i4 h h1 o hf; exact mfail_inv hf
    | succ n ih =>
      intro i2 i4 h h1 o hf hl J
      rw [l_X17_spreads_37] at hf
      refine v_iload C 3 dX17_spreads_37 rfl ?_
      refine v_iconst (x := 4) C dX17_spreads_39 (by decide) ?_
      refine v_icmp_ge C hf (tgt := 92) dX17_spreads_40 (by decide) (fun c40 hf => ?_) (fun c40 hf => ?_)
      · obtain ⟨e1, rfl⟩ := mret_inv hf
        subst e1
        exact v_sub (ls' := _) [0, 1, 2] rfl J
      · refine v_aload_n C 0 dX17_spreads_43 rfl rfl ?_
        refine v_iload C 3 dX17_spreads_44 rfl ?_
        refine v_aload_n C 0 dX17_spreads_46 rfl rfl ?_
        refine v_gR (Cn := RX17) (T := TX17) (N := 37) C hf in_X17 rfl (by decide) q1830 rfl dX17_spreads_47 (fun x7 hf => ?_)
        refine v_iload_n C 2 dX17_spreads_50 rfl rfl ?_
        refine v_iaload C hf dX17_spreads_51 (fun x8 hf => ?_)
        refine v_callV (stk := fun b => .int b :: []) C (ct_X17_imageOf _ a0 i4 x8) rfl ⟨rfl, nd_X17_imageOf⟩ rfl (Nat.le_of_ble_eq_true rfl) (Nat.le_of_ble_eq_true rfl) [] (Nat.le_of_ble_eq_true rfl) (fun _ => rfl) rfl q2218 q2220 qs89 q127 q2221 hf hl dX17_spreads_52 (fun x9 h10 hf => ?_)
        refine v_istore (ls' := [(5, _), (0, _), (2, _), (3, _), (4, _)]) C dX17_spreads_55 (by decide) rfl ?_
        refine v_aload_n C 1 dX17_spreads_57 rfl rfl ?_
        refine v_gR (Cn := RX17) (T := TX17) (N := 37) C hf in_X17 rfl (by decide) q1829 rfl dX17_spreads_58 (fun x11 hf => ?_)
        refine v_iload C 0 dX17_spreads_61 rfl ?_
        refine v_zaload C hf dX17_spreads_63 (fun x12 hf => ?_)
        obtain ⟨x13, h14, hAh14, hf, hlh14⟩ := mb_inv hf hl
        refine v_cut (h1 := h14) (pc1 := 86) (ls1 := [(0, .ref a0), (2, .int x13), (3, .int i3), (4, .int i4)]) (st1 := []) ?_ (fun Jh14 => ?_)
        · clear hAh14 hlh14
          refine v_iinc (ls' := [(4, _), (0, _), (2, _), (3, _)]) (y := i4 + (1 : Int32)) C 3 dX17_spreads_86 rfl rfl (by decide) rfl ?_
          refine v_goto (tgt := 37) C dX17_spreads_89 (by decide) ?_
          refine v_sub (ls' := _) [1, 2, 3, 0] rfl (ih x13 (i4 + (1 : Int32)) _ _ _ hf hl J)
        · clear hf
          have hf := hAh14
          have hl := hlh14
          refine v_if_ne C hf (tgt := 86) dX17_spreads_64 (by decide) (fun c64 hf => ?_) (fun c64 hf => ?_)
          · obtain ⟨e1, rfl⟩ := mret_inv hf
            subst e1
            exact v_sub (ls' := _) [1, 2, 3, 4] rfl Jh14
          · refine v_aload_n C 1 dX17_spreads_67 rfl rfl ?_
            refine v_gR (Cn := RX17) (T := TX17) (N := 37) C hf in_X17 rfl (by decide) q1829 rfl dX17_spreads_68 (fun x15 hf => ?_)
            refine v_iload C 0 dX17_spreads_71 rfl ?_
            refine v_iconst (x := 1) C dX17_spreads_73 (by decide) ?_
            refine v_zastore C hf dX17_spreads_74 (fun h16 hf => ?_)
            refine v_aload_n C 1 dX17_spreads_75 rfl rfl ?_
            refine v_gR (Cn := RX17) (T := TX17) (N := 37) C hf in_X17 rfl (by decide) q1830 rfl dX17_spreads_76 (fun x17 hf => ?_)
            refine v_iload_n C 2 dX17_spreads_79 rfl rfl ?_
            refine v_iload C 0 dX17_spreads_80 rfl ?_
            refine v_iastore C hf dX17_spreads_82 (fun h18 hf => ?_)
            refine v_iinc (ls' := [(2, _), (5, _), (0, _), (3, _), (4, _)]) (y := i2 + (1 : Int32)) C 2 dX17_spreads_83 rfl rfl (by decide) rfl ?_
            obtain ⟨e1, rfl⟩ := mret_inv hf
            subst e1
            exact v_sub (ls' := _) [2, 0, 3, 4] rfl Jh14
  have L29 : ∀ (a0 : Nat) (n : Nat) (i2 : Int32) (i3 : Int32) (h h1 : Hp) (o : Int32), (l_X17_spreads_29 a0 n i2 i3).1 h = some (o, h1) → hle h1 he → V X h1 98 [(2, .int o)] [] → V X h 29 [(0, .ref a0), (2, .int i2), (3, .int i3)] [] := by
    intro a0 n
    induction n with
    | zero => intro i2 i3 h h1 o hf; exact mfail_inv hf
    | succ n ih =>
      intro i2 i3 h h1 o hf hl J
      rw [l_X17_spreads_29] at hf
      refine v_iload_n C 2 dX17_spreads_29 rfl rfl ?_
      refine v_iload_n C 1 dX17_spreads_30 rfl rfl ?_
      refine v_icmp_ge C hf (tgt := 98) dX17_spreads_31 (by decide) (fun c31 hf => ?_) (fun c31 hf => ?_)
      · obtain ⟨e1, rfl⟩ := mret_inv hf
        subst e1
        exact v_sub (ls' := _) [1] rfl J
      · refine v_iconst (x := 0) C dX17_spreads_34 (by decide) ?_
        refine v_istore (ls' := [(4, _), (0, _), (2, _), (3, _)]) C dX17_spreads_35 (by decide) rfl ?_
        obtain ⟨x19, h20, eh20, hf, hlh20⟩ := mb_inv hf hl
        refine v_sub (ls' := _) [1, 2, 3, 0] rfl (L37 a0 i3 FU i2 (0 : Int32) _ _ _ eh20 hlh20 ?_)
        refine v_iinc (ls' := [(3, _), (0, _), (2, _)]) (y := i3 + (1 : Int32)) C 2 dX17_spreads_92 rfl rfl (by decide) rfl ?_
        refine v_goto (tgt := 29) C dX17_spreads_95 (by decide) ?_
        refine v_sub (ls' := _) [1, 2, 0] rfl (ih x19 (i3 + (1 : Int32)) _ _ _ hf hl J)
  unfold f_X17_spreads at hf
  refine v_aload_n C 0 dX17_spreads_0 rfl rfl ?_
  refine v_gR (Cn := RX17) (T := TX17) (N := 37) C hf in_X17 rfl (by decide) q1829 rfl dX17_spreads_1 (fun x1 hf => ?_)
  refine v_iload_n C 1 dX17_spreads_4 rfl rfl ?_
  refine v_zaload C hf dX17_spreads_5 (fun x2 hf => ?_)
  refine v_if_eq C hf (tgt := 11) dX17_spreads_6 (by decide) (fun c6 hf => ?_) (fun c6 hf => ?_)
  · refine v_iconst (x := 1) C dX17_spreads_11 (by decide) ?_
    refine v_istore_n (ls' := [(2, _), (0, _), (1, _)]) C dX17_spreads_12 rfl (by decide) rfl ?_
    refine v_aload_n C 1 dX17_spreads_13 rfl rfl ?_
    refine v_gR (Cn := RX17) (T := TX17) (N := 37) C hf in_X17 rfl (by decide) q1829 rfl dX17_spreads_14 (fun x3 hf => ?_)
    refine v_iload_n C 2 dX17_spreads_17 rfl rfl ?_
    refine v_iconst (x := 1) C dX17_spreads_18 (by decide) ?_
    refine v_zastore C hf dX17_spreads_19 (fun h4 hf => ?_)
    refine v_aload_n C 1 dX17_spreads_20 rfl rfl ?_
    refine v_gR (Cn := RX17) (T := TX17) (N := 37) C hf in_X17 rfl (by decide) q1830 rfl dX17_spreads_21 (fun x5 hf => ?_)
    refine v_iconst (x := 0) C dX17_spreads_24 (by decide) ?_
    refine v_iload_n C 2 dX17_spreads_25 rfl rfl ?_
    refine v_iastore C hf dX17_spreads_26 (fun h6 hf => ?_)
    refine v_iconst (x := 0) C dX17_spreads_27 (by decide) ?_
    refine v_istore_n (ls' := [(3, _), (2, _), (0, _), (1, _)]) C dX17_spreads_28 rfl (by decide) rfl ?_
    obtain ⟨x21, h22, eh22, hf, hlh22⟩ := mb_inv hf hl
    refine v_sub (ls' := _) [2, 1, 0] rfl (L29 a0 FU (1 : Int32) (0 : Int32) _ _ _ eh22 hlh22 ?_)
    refine v_iload_n C 0 dX17_spreads_98 rfl rfl ?_
    exact v_iret C E hf dX17_spreads_99
  · refine v_iconst (x := 0) C dX17_spreads_9 (by decide) ?_
    exact v_iret C E hf dX17_spreads_10
def l_X17_drift_16 (a0 : Nat) (i1 : Int32) : Nat → Int32 → hM (Unit)
  | 0, _ => mfail
  | n + 1, i2 => mi (i1 ≤ i2) (mret ()) (mb (mat a0 15 (f_X17_notes a0)) fun _ => mb (gR a0 15 0) fun x5 => mb (aI 1 x5 (121 : Int32)) fun x6 => mb (mreml ((x6.toInt64 * (1103515245 : Int64)) + (12345 : Int64)) (2147483648 : Int64)) fun x7 => mb (mdivl x7 (65536 : Int64)) fun x8 => mb (gR a0 15 0) fun x9 => mb (sI 1 x9 (121 : Int32) x7.toInt32) fun _ => mb (mrem x8.toInt32 (8 : Int32)) fun x11 => mb (mi (¬ x11 = 0) (mb (mrem x8.toInt32 (4 : Int32)) fun x13 => mb (mdiv x8.toInt32 (8 : Int32)) fun x14 => mb (mrem x14 (5 : Int32)) fun x15 => mb (mat a0 15 (f_X17_doubles a0 x13 x15)) fun _ => mret ()) (mb (gR a0 15 0) fun x18 => mb (mdiv x8.toInt32 (8 : Int32)) fun x19 => mb (mrem x19 (2576 : Int32)) fun x20 => mb (mat a0 15 (f_X17_dodecad a0 x20)) fun x21 => mb (sI 1 x18 (120 : Int32) x21) fun _ => mret ())) fun _ => l_X17_drift_16 a0 i1 n (i2 + (1 : Int32)))
def f_X17_drift (a0 : Nat) (i1 : Int32) : hM Int32 :=
  mb (f_X17_in i1.toInt64 (1 : Int64) (40 : Int64)) fun x1 => mi (¬ x1 = 0) (mb (l_X17_drift_16 a0 i1 FU (0 : Int32)) fun x24 => mb (gR a0 15 0) fun x26 => mb (aI 1 x26 (120 : Int32)) fun x27 => mret x27) (mret (-1 : Int32))
theorem nd_X17_drift : yX17_drift.cls ≠ "java/lang/invoke/MethodHandle" ∧ yX17_drift.cls ≠ "java/lang/invoke/VarHandle" ∧ (parseMethodDescriptor yX17_drift.desc).map (fun d => d.parameters.length) = some 1 := by decide +kernel
set_option maxHeartbeats 4000000 in
theorem ct_X17_drift (l : Launch) (a0 : Nat) (i1 : Int32) : CT l yX17_drift cX17_drift 6 (some .int) 2 45 rvI [.ref a0, .int i1] (f_X17_drift a0 i1) := by
  refine CT_of (ls := [(0, .ref a0), (1, .int i1)]) (by decide) (Nat.le_of_ble_eq_true rfl) rfl ?_
  intro X h he z hX hf C E hnm hh
  have hl := hle.rf he
  subst hX
  have L16 : ∀ (a0 : Nat) (i1 : Int32) (n : Nat) (i2 : Int32) (h h1 : Hp) (o : Unit), (l_X17_drift_16 a0 i1 n i2).1 h = some (o, h1) → hle h1 he → V X h1 115 [(0, .ref a0)] [] → V X h 16 [(0, .ref a0), (1, .int i1), (2, .int i2)] [] := by
    intro a0 i1 n
    induction n with
    | zero => intro i2 h h1 o hf; exact mfail_inv hf
    | succ n ih =>
      intro i2 h h1 o hf hl J
      rw [l_X17_drift_16] at hf
      refine v_iload_n C 2 dX17_drift_16 rfl rfl ?_
      refine v_iload_n C 1 dX17_drift_17 rfl rfl ?_
      refine v_icmp_ge C hf (tgt := 115) dX17_drift_18 (by decide) (fun c18 hf => ?_) (fun c18 hf => ?_)
      · obtain ⟨e1, rfl⟩ := mret_inv hf
        subst e1
        exact v_sub (ls' := _) [0] rfl J
      · refine v_aload_n C 0 dX17_drift_21 rfl rfl ?_
        refine v_callV (stk := fun _ => []) C (ct_X17_notes _ a0) rfl ⟨rfl, nd_X17_notes⟩ rfl (Nat.le_of_ble_eq_true rfl) (Nat.le_of_ble_eq_true rfl) [] (Nat.le_of_ble_eq_true rfl) (fun _ => rfl) rfl q2131 q2133 qs70 q127 q2134 hf hl dX17_drift_22 (fun x3 h4 hf => ?_)
        refine v_aload_n C 0 dX17_drift_25 rfl rfl ?_
        refine v_gR (Cn := RX17) (T := TX17) (N := 37) C hf in_X17 rfl (by decide) q1804 rfl dX17_drift_26 (fun x5 hf => ?_)
        refine v_bipush (x := 121) C dX17_drift_29 (by decide) ?_
        refine v_iaload C hf dX17_drift_31 (fun x6 hf => ?_)
        refine v_i2l C dX17_drift_32 ?_
        refine v_ldc2 (x := 1103515245) C q2256 dX17_drift_33 ?_
        refine v_lmul C dX17_drift_36 ?_
        refine v_ldc2 (x := 12345) C q2257 dX17_drift_37 ?_
        refine v_ladd C dX17_drift_40 ?_
        refine v_ldc2 (x := 2147483648) C q2258 dX17_drift_41 ?_
        refine v_lrem C hf dX17_drift_44 (fun x7 hf => ?_)
        refine v_lstore_n (ls' := [(3, _), (0, _), (1, _), (2, _)]) C dX17_drift_45 rfl (by decide) rfl ?_
        refine v_lload_n C 0 dX17_drift_46 rfl rfl ?_
        refine v_ldc2 (x := 65536) C q2259 dX17_drift_47 ?_
        refine v_ldiv C hf dX17_drift_50 (fun x8 hf => ?_)
        refine v_l2i C dX17_drift_51 ?_
        refine v_istore (ls' := [(5, _), (3, _), (0, _), (1, _), (2, _)]) C dX17_drift_52 (by decide) rfl ?_
        refine v_aload_n C 2 dX17_drift_54 rfl rfl ?_
        refine v_gR (Cn := RX17) (T := TX17) (N := 37) C hf in_X17 rfl (by decide) q1804 rfl dX17_drift_55 (fun x9 hf => ?_)
        refine v_bipush (x := 121) C dX17_drift_58 (by decide) ?_
        refine v_lload_n C 1 dX17_drift_60 rfl rfl ?_
        refine v_l2i C dX17_drift_61 ?_
        refine v_iastore C hf dX17_drift_62 (fun h10 hf => ?_)
        refine v_iload C 0 dX17_drift_63 rfl ?_
        refine v_bipush (x := 8) C dX17_drift_65 (by decide) ?_
        refine v_irem C hf dX17_drift_67 (fun x11 hf => ?_)
        obtain ⟨_u, h12, hAh12, hf, hlh12⟩ := mb_inv hf hl
        refine v_cut (h1 := h12) (pc1 := 109) (ls1 := [(0, .ref a0), (1, .int i1), (2, .int i2)]) (st1 := []) ?_ (fun Jh12 => ?_)
        · clear hAh12 hlh12
          refine v_iinc (ls' := [(2, _), (0, _), (1, _)]) (y := i2 + (1 : Int32)) C 2 dX17_drift_109 rfl rfl (by decide) rfl ?_
          refine v_goto (tgt := 16) C dX17_drift_112 (by decide) ?_
          refine v_sub (ls' := _) [1, 2, 0] rfl (ih (i2 + (1 : Int32)) _ _ _ hf hl J)
        · clear hf
          have hf := hAh12
          have hl := hlh12
          refine v_if_ne C hf (tgt := 94) dX17_drift_68 (by decide) (fun c68 hf => ?_) (fun c68 hf => ?_)
          · refine v_aload_n C 2 dX17_drift_94 rfl rfl ?_
            refine v_iload C 0 dX17_drift_95 rfl ?_
            refine v_iconst (x := 4) C dX17_drift_97 (by decide) ?_
            refine v_irem C hf dX17_drift_98 (fun x13 hf => ?_)
            refine v_iload C 0 dX17_drift_99 rfl ?_
            refine v_bipush (x := 8) C dX17_drift_101 (by decide) ?_
            refine v_idiv C hf dX17_drift_103 (fun x14 hf => ?_)
            refine v_iconst (x := 5) C dX17_drift_104 (by decide) ?_
            refine v_irem C hf dX17_drift_105 (fun x15 hf => ?_)
            refine v_callV (stk := fun _ => []) C (ct_X17_doubles _ a0 x13 x15) rfl ⟨rfl, nd_X17_doubles⟩ rfl (Nat.le_of_ble_eq_true rfl) (Nat.le_of_ble_eq_true rfl) [] (Nat.le_of_ble_eq_true rfl) (fun _ => rfl) rfl q2260 q2262 qs90 q127 q2263 hf hl dX17_drift_106 (fun x16 h17 hf => ?_)
            obtain ⟨e1, rfl⟩ := mret_inv hf
            exact v_sub (ls' := _) [2, 3, 4] rfl Jh12
          · refine v_aload_n C 2 dX17_drift_71 rfl rfl ?_
            refine v_gR (Cn := RX17) (T := TX17) (N := 37) C hf in_X17 rfl (by decide) q1804 rfl dX17_drift_72 (fun x18 hf => ?_)
            refine v_bipush (x := 120) C dX17_drift_75 (by decide) ?_
            refine v_aload_n C 2 dX17_drift_77 rfl rfl ?_
            refine v_iload C 0 dX17_drift_78 rfl ?_
            refine v_bipush (x := 8) C dX17_drift_80 (by decide) ?_
            refine v_idiv C hf dX17_drift_82 (fun x19 hf => ?_)
            refine v_sipush (x := 2576) C dX17_drift_83 (by decide) ?_
            refine v_irem C hf dX17_drift_86 (fun x20 hf => ?_)
            refine v_callV (stk := fun b => .int b :: [.int (120 : Int32), .ref x18]) C (ct_X17_dodecad _ a0 x20) rfl ⟨rfl, nd_X17_dodecad⟩ rfl (Nat.le_of_ble_eq_true rfl) (Nat.le_of_ble_eq_true rfl) [.int (120 : Int32), .ref x18] (Nat.le_of_ble_eq_true rfl) (fun _ => rfl) rfl q1950 q1952 qs41 q127 q1953 hf hl dX17_drift_87 (fun x21 h22 hf => ?_)
            refine v_iastore C hf dX17_drift_90 (fun h23 hf => ?_)
            refine v_goto (tgt := 109) C dX17_drift_91 (by decide) ?_
            obtain ⟨e1, rfl⟩ := mret_inv hf
            exact v_sub (ls' := _) [2, 3, 4] rfl Jh12
  unfold f_X17_drift at hf
  refine v_iload_n C 1 dX17_drift_0 rfl rfl ?_
  refine v_i2l C dX17_drift_1 ?_
  refine v_lconst (x := 1) C dX17_drift_2 (by decide) ?_
  refine v_ldc2 (x := 40) C q2255 dX17_drift_3 ?_
  refine v_callS (stk := fun b => .int b :: []) C (ct_X17_in _ i1.toInt64 (1 : Int64) (40 : Int64)) nd_X17_in rfl (Nat.le_of_ble_eq_true rfl) (Nat.le_of_ble_eq_true rfl) [] (Nat.le_of_ble_eq_true rfl) (fun _ => rfl) rfl q1779 q1780 q127 q1781 hf hl dX17_drift_6 (fun x1 h2 hf => ?_)
  refine v_if_ne C hf (tgt := 14) dX17_drift_9 (by decide) (fun c9 hf => ?_) (fun c9 hf => ?_)
  · refine v_iconst (x := 0) C dX17_drift_14 (by decide) ?_
    refine v_istore_n (ls' := [(2, _), (0, _), (1, _)]) C dX17_drift_15 rfl (by decide) rfl ?_
    obtain ⟨x24, h25, eh25, hf, hlh25⟩ := mb_inv hf hl
    refine v_sub (ls' := _) [1, 2, 0] rfl (L16 a0 i1 FU (0 : Int32) _ _ _ eh25 hlh25 ?_)
    refine v_aload_n C 0 dX17_drift_115 rfl rfl ?_
    refine v_gR (Cn := RX17) (T := TX17) (N := 37) C hf in_X17 rfl (by decide) q1804 rfl dX17_drift_116 (fun x26 hf => ?_)
    refine v_bipush (x := 120) C dX17_drift_119 (by decide) ?_
    refine v_iaload C hf dX17_drift_121 (fun x27 hf => ?_)
    exact v_iret C E hf dX17_drift_122
  · refine v_iconst (x := (-1)) C dX17_drift_12 (by decide) ?_
    exact v_iret C E hf dX17_drift_13
def l_X17_sheet_51 (a0 : Nat) (i1 : Int32) (i3 : Int32) : Nat → Int32 → hM (Unit)
  | 0, _ => mfail
  | n + 1, i4 => mi ((32 : Int32) ≤ i4) (mret ()) (mb (gR a0 15 34) fun x9 => mb (sL 5 x9 (((32 : Int32) * i1) + i4) (0 : Int64)) fun _ => l_X17_sheet_51 a0 i1 i3 n (i4 + (1 : Int32)))
def f_X17_sheet (a0 : Nat) (i1 : Int32) (i2 : Int32) (i3 : Int32) : hM Int32 :=
  mb (f_X17_isSheet i1) fun x1 => mi (x1 = 0) (mret (-1 : Int32)) (mb (f_X17_in i2.toInt64 (0 : Int64) (3 : Int64)) fun x3 => mi (x3 = 0) (mret (-1 : Int32)) (mi (i3 ≤ (32 : Int32)) (mi (0 ≤ i3) (mb (gR a0 15 32) fun x5 => mb (sI 1 x5 i1 i2) fun _ => mb (gR a0 15 33) fun x7 => mb (sI 1 x7 i1 i3) fun _ => mb (l_X17_sheet_51 a0 i1 i3 FU (0 : Int32)) fun x11 => mret i3) (mret (-14 : Int32))) (mret (-1 : Int32))))
theorem nd_X17_sheet : yX17_sheet.cls ≠ "java/lang/invoke/MethodHandle" ∧ yX17_sheet.cls ≠ "java/lang/invoke/VarHandle" ∧ (parseMethodDescriptor yX17_sheet.desc).map (fun d => d.parameters.length) = some 3 := by decide +kernel
set_option maxHeartbeats 4000000 in
theorem ct_X17_sheet (l : Launch) (a0 : Nat) (i1 : Int32) (i2 : Int32) (i3 : Int32) : CT l yX17_sheet cX17_sheet 5 (some .int) 2 45 rvI [.ref a0, .int i1, .int i2, .int i3] (f_X17_sheet a0 i1 i2 i3) := by
  refine CT_of (ls := [(0, .ref a0), (1, .int i1), (2, .int i2), (3, .int i3)]) (by decide) (Nat.le_of_ble_eq_true rfl) rfl ?_
  intro X h he z hX hf C E hnm hh
  have hl := hle.rf he
  subst hX
  have L51 : ∀ (a0 : Nat) (i1 : Int32) (i3 : Int32) (n : Nat) (i4 : Int32) (h h1 : Hp) (o : Unit), (l_X17_sheet_51 a0 i1 i3 n i4).1 h = some (o, h1) → hle h1 he → V X h1 77 [(3, .int i3)] [] → V X h 51 [(0, .ref a0), (1, .int i1), (3, .int i3), (4, .int i4)] [] := by
    intro a0 i1 i3 n
    induction n with
    | zero => intro i4 h h1 o hf; exact mfail_inv hf
    | succ n ih =>
      intro i4 h h1 o hf hl J
      rw [l_X17_sheet_51] at hf
      refine v_iload C 3 dX17_sheet_51 rfl ?_
      refine v_bipush (x := 32) C dX17_sheet_53 (by decide) ?_
      refine v_icmp_ge C hf (tgt := 77) dX17_sheet_55 (by decide) (fun c55 hf => ?_) (fun c55 hf => ?_)
      · obtain ⟨e1, rfl⟩ := mret_inv hf
        subst e1
        exact v_sub (ls' := _) [2] rfl J
      · refine v_aload_n C 0 dX17_sheet_58 rfl rfl ?_
        refine v_gR (Cn := RX17) (T := TX17) (N := 37) C hf in_X17 rfl (by decide) q1838 rfl dX17_sheet_59 (fun x9 hf => ?_)
        refine v_bipush (x := 32) C dX17_sheet_62 (by decide) ?_
        refine v_iload_n C 1 dX17_sheet_64 rfl rfl ?_
        refine v_imul C dX17_sheet_65 ?_
        refine v_iload C 3 dX17_sheet_66 rfl ?_
        refine v_iadd C dX17_sheet_68 ?_
        refine v_lconst (x := 0) C dX17_sheet_69 (by decide) ?_
        refine v_lastore C hf dX17_sheet_70 (fun h10 hf => ?_)
        refine v_iinc (ls' := [(4, _), (0, _), (1, _), (3, _)]) (y := i4 + (1 : Int32)) C 3 dX17_sheet_71 rfl rfl (by decide) rfl ?_
        refine v_goto (tgt := 51) C dX17_sheet_74 (by decide) ?_
        refine v_sub (ls' := _) [1, 2, 3, 0] rfl (ih (i4 + (1 : Int32)) _ _ _ hf hl J)
  unfold f_X17_sheet at hf
  refine v_iload_n C 1 dX17_sheet_0 rfl rfl ?_
  refine v_callS (stk := fun b => .int b :: []) C (ct_X17_isSheet _ i1) nd_X17_isSheet rfl (Nat.le_of_ble_eq_true rfl) (Nat.le_of_ble_eq_true rfl) [] (Nat.le_of_ble_eq_true rfl) (fun _ => rfl) rfl q2284 q2285 q127 q2286 hf hl dX17_sheet_1 (fun x1 h2 hf => ?_)
  refine v_if_eq C hf (tgt := 25) dX17_sheet_4 (by decide) (fun c4 hf => ?_) (fun c4 hf => ?_)
  · refine v_iconst (x := (-1)) C dX17_sheet_25 (by decide) ?_
    exact v_iret C E hf dX17_sheet_26
  · refine v_iload_n C 2 dX17_sheet_7 rfl rfl ?_
    refine v_i2l C dX17_sheet_8 ?_
    refine v_lconst (x := 0) C dX17_sheet_9 (by decide) ?_
    refine v_ldc2 (x := 3) C q2067 dX17_sheet_10 ?_
    refine v_callS (stk := fun b => .int b :: []) C (ct_X17_in _ i2.toInt64 (0 : Int64) (3 : Int64)) nd_X17_in rfl (Nat.le_of_ble_eq_true rfl) (Nat.le_of_ble_eq_true rfl) [] (Nat.le_of_ble_eq_true rfl) (fun _ => rfl) rfl q1779 q1780 q127 q1781 hf hl dX17_sheet_13 (fun x3 h4 hf => ?_)
    refine v_if_eq C hf (tgt := 25) dX17_sheet_16 (by decide) (fun c16 hf => ?_) (fun c16 hf => ?_)
    · refine v_iconst (x := (-1)) C dX17_sheet_25 (by decide) ?_
      exact v_iret C E hf dX17_sheet_26
    · refine v_iload_n C 3 dX17_sheet_19 rfl rfl ?_
      refine v_bipush (x := 32) C dX17_sheet_20 (by decide) ?_
      refine v_icmp_le C hf (tgt := 27) dX17_sheet_22 (by decide) (fun c22 hf => ?_) (fun c22 hf => ?_)
      · refine v_iload_n C 3 dX17_sheet_27 rfl rfl ?_
        refine v_if_ge C hf (tgt := 34) dX17_sheet_28 (by decide) (fun c28 hf => ?_) (fun c28 hf => ?_)
        · refine v_aload_n C 0 dX17_sheet_34 rfl rfl ?_
          refine v_gR (Cn := RX17) (T := TX17) (N := 37) C hf in_X17 rfl (by decide) q1836 rfl dX17_sheet_35 (fun x5 hf => ?_)
          refine v_iload_n C 1 dX17_sheet_38 rfl rfl ?_
          refine v_iload_n C 2 dX17_sheet_39 rfl rfl ?_
          refine v_iastore C hf dX17_sheet_40 (fun h6 hf => ?_)
          refine v_aload_n C 0 dX17_sheet_41 rfl rfl ?_
          refine v_gR (Cn := RX17) (T := TX17) (N := 37) C hf in_X17 rfl (by decide) q1837 rfl dX17_sheet_42 (fun x7 hf => ?_)
          refine v_iload_n C 1 dX17_sheet_45 rfl rfl ?_
          refine v_iload_n C 3 dX17_sheet_46 rfl rfl ?_
          refine v_iastore C hf dX17_sheet_47 (fun h8 hf => ?_)
          refine v_iconst (x := 0) C dX17_sheet_48 (by decide) ?_
          refine v_istore (ls' := [(4, _), (0, _), (1, _), (2, _), (3, _)]) C dX17_sheet_49 (by decide) rfl ?_
          obtain ⟨x11, h12, eh12, hf, hlh12⟩ := mb_inv hf hl
          refine v_sub (ls' := _) [1, 2, 4, 0] rfl (L51 a0 i1 i3 FU (0 : Int32) _ _ _ eh12 hlh12 ?_)
          refine v_iload_n C 0 dX17_sheet_77 rfl rfl ?_
          exact v_iret C E hf dX17_sheet_78
        · refine v_bipush (x := (-14)) C dX17_sheet_31 (by decide) ?_
          exact v_iret C E hf dX17_sheet_33
      · refine v_iconst (x := (-1)) C dX17_sheet_25 (by decide) ?_
        exact v_iret C E hf dX17_sheet_26
def f_X17_item (a0 : Nat) (i1 : Int32) (i2 : Int32) (i3 : Int32) (l4 : Int64) : hM Int32 :=
  mb (f_X17_isSheet i1) fun x1 => mi (x1 = 0) (mret (-1 : Int32)) (mb (f_X17_in i2.toInt64 (0 : Int64) (3 : Int64)) fun x3 => mi (¬ x3 = 0) (mb (mat a0 15 (f_X17_why a0 i1 i2 i3 (1 : Int32))) fun x5 => mi (0 ≤ x5) (mb (gR a0 15 34) fun x7 => mb (f_X17_cut l4 i2) fun x8 => mb (sL 5 x7 (((32 : Int32) * i1) + i3) x8) fun _ => mret (1 : Int32)) (mret x5)) (mret (-1 : Int32)))
theorem nd_X17_item : yX17_item.cls ≠ "java/lang/invoke/MethodHandle" ∧ yX17_item.cls ≠ "java/lang/invoke/VarHandle" ∧ (parseMethodDescriptor yX17_item.desc).map (fun d => d.parameters.length) = some 4 := by decide +kernel
set_option maxHeartbeats 4000000 in
theorem ct_X17_item (l : Launch) (a0 : Nat) (i1 : Int32) (i2 : Int32) (i3 : Int32) (l4 : Int64) : CT l yX17_item cX17_item 7 (some .int) 2 45 rvI [.ref a0, .int i1, .int i2, .int i3, .long l4] (f_X17_item a0 i1 i2 i3 l4) := by
  refine CT_of (ls := [(0, .ref a0), (1, .int i1), (2, .int i2), (3, .int i3), (4, .long l4)]) (by decide) (Nat.le_of_ble_eq_true rfl) rfl ?_
  intro X h he z hX hf C E hnm hh
  have hl := hle.rf he
  subst hX
  unfold f_X17_item at hf
  refine v_iload_n C 1 dX17_item_0 rfl rfl ?_
  refine v_callS (stk := fun b => .int b :: []) C (ct_X17_isSheet _ i1) nd_X17_isSheet rfl (Nat.le_of_ble_eq_true rfl) (Nat.le_of_ble_eq_true rfl) [] (Nat.le_of_ble_eq_true rfl) (fun _ => rfl) rfl q2284 q2285 q127 q2286 hf hl dX17_item_1 (fun x1 h2 hf => ?_)
  refine v_if_eq C hf (tgt := 19) dX17_item_4 (by decide) (fun c4 hf => ?_) (fun c4 hf => ?_)
  · refine v_iconst (x := (-1)) C dX17_item_19 (by decide) ?_
    exact v_iret C E hf dX17_item_20
  · refine v_iload_n C 2 dX17_item_7 rfl rfl ?_
    refine v_i2l C dX17_item_8 ?_
    refine v_lconst (x := 0) C dX17_item_9 (by decide) ?_
    refine v_ldc2 (x := 3) C q2067 dX17_item_10 ?_
    refine v_callS (stk := fun b => .int b :: []) C (ct_X17_in _ i2.toInt64 (0 : Int64) (3 : Int64)) nd_X17_in rfl (Nat.le_of_ble_eq_true rfl) (Nat.le_of_ble_eq_true rfl) [] (Nat.le_of_ble_eq_true rfl) (fun _ => rfl) rfl q1779 q1780 q127 q1781 hf hl dX17_item_13 (fun x3 h4 hf => ?_)
    refine v_if_ne C hf (tgt := 21) dX17_item_16 (by decide) (fun c16 hf => ?_) (fun c16 hf => ?_)
    · refine v_aload_n C 0 dX17_item_21 rfl rfl ?_
      refine v_iload_n C 1 dX17_item_22 rfl rfl ?_
      refine v_iload_n C 2 dX17_item_23 rfl rfl ?_
      refine v_iload_n C 3 dX17_item_24 rfl rfl ?_
      refine v_iconst (x := 1) C dX17_item_25 (by decide) ?_
      refine v_callV (stk := fun b => .int b :: []) C (ct_X17_why _ a0 i1 i2 i3 (1 : Int32)) rfl ⟨rfl, nd_X17_why⟩ rfl (Nat.le_of_ble_eq_true rfl) (Nat.le_of_ble_eq_true rfl) [] (Nat.le_of_ble_eq_true rfl) (fun _ => rfl) rfl q2295 q2297 qs91 q127 q2298 hf hl dX17_item_26 (fun x5 h6 hf => ?_)
      refine v_istore (ls' := [(6, _), (0, _), (1, _), (2, _), (3, _), (4, _)]) C dX17_item_29 (by decide) rfl ?_
      refine v_iload C 0 dX17_item_31 rfl ?_
      refine v_if_ge C hf (tgt := 39) dX17_item_33 (by decide) (fun c33 hf => ?_) (fun c33 hf => ?_)
      · refine v_aload_n C 1 dX17_item_39 rfl rfl ?_
        refine v_gR (Cn := RX17) (T := TX17) (N := 37) C hf in_X17 rfl (by decide) q1838 rfl dX17_item_40 (fun x7 hf => ?_)
        refine v_bipush (x := 32) C dX17_item_43 (by decide) ?_
        refine v_iload_n C 2 dX17_item_45 rfl rfl ?_
        refine v_imul C dX17_item_46 ?_
        refine v_iload_n C 4 dX17_item_47 rfl rfl ?_
        refine v_iadd C dX17_item_48 ?_
        refine v_lload C 5 dX17_item_49 rfl ?_
        refine v_iload_n C 3 dX17_item_51 rfl rfl ?_
        refine v_callS (stk := fun b => .long b :: [.int (((32 : Int32) * i1) + i3), .ref x7]) C (ct_X17_cut _ l4 i2) nd_X17_cut rfl (Nat.le_of_ble_eq_true rfl) (Nat.le_of_ble_eq_true rfl) [.int (((32 : Int32) * i1) + i3), .ref x7] (Nat.le_of_ble_eq_true rfl) (fun _ => rfl) rfl q2299 q2300 q127 q2301 hf hl dX17_item_52 (fun x8 h9 hf => ?_)
        refine v_lastore C hf dX17_item_55 (fun h10 hf => ?_)
        refine v_iconst (x := 1) C dX17_item_56 (by decide) ?_
        exact v_iret C E hf dX17_item_57
      · refine v_iload C 0 dX17_item_36 rfl ?_
        exact v_iret C E hf dX17_item_38
    · refine v_iconst (x := (-1)) C dX17_item_19 (by decide) ?_
      exact v_iret C E hf dX17_item_20
def l_X17_finds_2 (a0 : Nat) (i1 : Int32) : Nat → Int32 → hM (Unit)
  | 0, _ => mfail
  | n + 1, i2 => mi ((24 : Int32) ≤ i2) (mret ()) (mb (gR a0 15 20) fun x1 => mb (sI 1 x1 i2 i2) fun _ => l_X17_finds_2 a0 i1 n (i2 + (1 : Int32)))
def l_X17_finds_58 (a0 : Nat) (i1 : Int32) (i2 : Int32) (i4 : Int32) : Nat → Int32 → hM (Unit)
  | 0, _ => mfail
  | n + 1, i5 => mi ((24 : Int32) ≤ i5) (mret ()) (mb (gR a0 15 13) fun x9 => mb (mi (0 ≤ i4) (mb (gR a0 15 20) fun x13 => mb (gR a0 15 17) fun x14 => mb (aI 1 x14 (((24 : Int32) * i4) + i5)) fun x15 => mb (aI 1 x13 x15) fun x16 => mret x16) (mb (gR a0 15 20) fun x17 => mb (aI 1 x17 i5) fun x18 => mret x18)) fun x10 => mb (sI 1 x9 i5 x10) fun _ => l_X17_finds_58 a0 i1 i2 i4 n (i5 + (1 : Int32)))
def l_X17_finds_114 (a0 : Nat) (i1 : Int32) (i2 : Int32) : Nat → Int32 → hM (Unit)
  | 0, _ => mfail
  | n + 1, i5 => mi ((24 : Int32) ≤ i5) (mret ()) (mb (gR a0 15 20) fun x21 => mb (gR a0 15 13) fun x22 => mb (aI 1 x22 i5) fun x23 => mb (sI 1 x21 i5 x23) fun _ => l_X17_finds_114 a0 i1 i2 n (i5 + (1 : Int32)))
def l_X17_finds_23 (a0 : Nat) (i1 : Int32) : Nat → Int32 → hM ((Unit) ⊕ (Int32))
  | 0, _ => mfail
  | n + 1, i2 => mi ((24 : Int32) ≤ i2) (mret (Sum.inl ())) (mb (mat a0 15 (f_X17_sends a0 i2 i1)) fun x5 => mi (0 ≤ x5) (mb (gR a0 15 16) fun x7 => mb (aI 1 x7 (((24 : Int32) * i2) + x5)) fun x8 => mb (l_X17_finds_58 a0 i1 i2 x8 FU (0 : Int32)) fun x19 => mb (l_X17_finds_114 a0 i1 i2 FU (0 : Int32)) fun x25 => l_X17_finds_23 a0 i1 n (i2 + (1 : Int32))) (mb (mrt .boolean (0 : Int32)) fun c => mret (Sum.inr c)))
def f_X17_finds (a0 : Nat) (i1 : Int32) : hM Int32 :=
  mb (l_X17_finds_2 a0 i1 FU (0 : Int32)) fun x3 => mbs (l_X17_finds_23 a0 i1 FU (0 : Int32)) (fun x27 => mrt .boolean (1 : Int32)) id
theorem nd_X17_finds : yX17_finds.cls ≠ "java/lang/invoke/MethodHandle" ∧ yX17_finds.cls ≠ "java/lang/invoke/VarHandle" ∧ (parseMethodDescriptor yX17_finds.desc).map (fun d => d.parameters.length) = some 1 := by decide +kernel
set_option maxHeartbeats 4000000 in
theorem ct_X17_finds (l : Launch) (a0 : Nat) (i1 : Int32) : CT l yX17_finds cX17_finds 6 (some .boolean) 1 26 rvI [.ref a0, .int i1] (f_X17_finds a0 i1) := by
  refine CT_of (ls := [(0, .ref a0), (1, .int i1)]) (by decide) (Nat.le_of_ble_eq_true rfl) rfl ?_
  intro X h he z hX hf C E hnm hh
  have hl := hle.rf he
  subst hX
  have L2 : ∀ (a0 : Nat) (i1 : Int32) (n : Nat) (i2 : Int32) (h h1 : Hp) (o : Unit), (l_X17_finds_2 a0 i1 n i2).1 h = some (o, h1) → hle h1 he → V X h1 21 [(0, .ref a0), (1, .int i1)] [] → V X h 2 [(0, .ref a0), (1, .int i1), (2, .int i2)] [] := by
    intro a0 i1 n
    induction n with
    | zero => intro i2 h h1 o hf; exact mfail_inv hf
    | succ n ih =>
      intro i2 h h1 o hf hl J
      rw [l_X17_finds_2] at hf
      refine v_iload_n C 2 dX17_finds_2 rfl rfl ?_
      refine v_bipush (x := 24) C dX17_finds_3 (by decide) ?_
      refine v_icmp_ge C hf (tgt := 21) dX17_finds_5 (by decide) (fun c5 hf => ?_) (fun c5 hf => ?_)
      · obtain ⟨e1, rfl⟩ := mret_inv hf
        subst e1
        exact v_sub (ls' := _) [0, 1] rfl J
      · refine v_aload_n C 0 dX17_finds_8 rfl rfl ?_
        refine v_gR (Cn := RX17) (T := TX17) (N := 37) C hf in_X17 rfl (by decide) q1824 rfl dX17_finds_9 (fun x1 hf => ?_)
        refine v_iload_n C 2 dX17_finds_12 rfl rfl ?_
        refine v_iload_n C 2 dX17_finds_13 rfl rfl ?_
        refine v_iastore C hf dX17_finds_14 (fun h2 hf => ?_)
        refine v_iinc (ls' := [(2, _), (0, _), (1, _)]) (y := i2 + (1 : Int32)) C 2 dX17_finds_15 rfl rfl (by decide) rfl ?_
        refine v_goto (tgt := 2) C dX17_finds_18 (by decide) ?_
        refine v_sub (ls' := _) [1, 2, 0] rfl (ih (i2 + (1 : Int32)) _ _ _ hf hl J)
  have L58 : ∀ (a0 : Nat) (i1 : Int32) (i2 : Int32) (i4 : Int32) (n : Nat) (i5 : Int32) (h h1 : Hp) (o : Unit), (l_X17_finds_58 a0 i1 i2 i4 n i5).1 h = some (o, h1) → hle h1 he → V X h1 111 [(0, .ref a0), (1, .int i1), (2, .int i2)] [] → V X h 58 [(0, .ref a0), (1, .int i1), (2, .int i2), (4, .int i4), (5, .int i5)] [] := by
    intro a0 i1 i2 i4 n
    induction n with
    | zero => intro i5 h h1 o hf; exact mfail_inv hf
    | succ n ih =>
      intro i5 h h1 o hf hl J
      rw [l_X17_finds_58] at hf
      refine v_iload C 4 dX17_finds_58 rfl ?_
      refine v_bipush (x := 24) C dX17_finds_60 (by decide) ?_
      refine v_icmp_ge C hf (tgt := 111) dX17_finds_62 (by decide) (fun c62 hf => ?_) (fun c62 hf => ?_)
      · obtain ⟨e1, rfl⟩ := mret_inv hf
        subst e1
        exact v_sub (ls' := _) [0, 1, 2] rfl J
      · refine v_aload_n C 0 dX17_finds_65 rfl rfl ?_
        refine v_gR (Cn := RX17) (T := TX17) (N := 37) C hf in_X17 rfl (by decide) q1817 rfl dX17_finds_66 (fun x9 hf => ?_)
        refine v_iload C 4 dX17_finds_69 rfl ?_
        refine v_iload C 3 dX17_finds_71 rfl ?_
        obtain ⟨x10, h11, hAh11, hf, hlh11⟩ := mb_inv hf hl
        refine v_cut (h1 := h11) (pc1 := 104) (ls1 := [(0, .ref a0), (1, .int i1), (2, .int i2), (4, .int i4), (5, .int i5)]) (st1 := [.int x10, .int i5, .ref x9]) ?_ (fun Jh11 => ?_)
        · clear hAh11 hlh11
          refine v_iastore C hf dX17_finds_104 (fun h12 hf => ?_)
          refine v_iinc (ls' := [(5, _), (0, _), (1, _), (2, _), (4, _)]) (y := i5 + (1 : Int32)) C 4 dX17_finds_105 rfl rfl (by decide) rfl ?_
          refine v_goto (tgt := 58) C dX17_finds_108 (by decide) ?_
          refine v_sub (ls' := _) [1, 2, 3, 4, 0] rfl (ih (i5 + (1 : Int32)) _ _ _ hf hl J)
        · clear hf
          have hf := hAh11
          have hl := hlh11
          refine v_if_ge C hf (tgt := 86) dX17_finds_73 (by decide) (fun c73 hf => ?_) (fun c73 hf => ?_)
          · refine v_aload_n C 0 dX17_finds_86 rfl rfl ?_
            refine v_gR (Cn := RX17) (T := TX17) (N := 37) C hf in_X17 rfl (by decide) q1824 rfl dX17_finds_87 (fun x13 hf => ?_)
            refine v_aload_n C 0 dX17_finds_90 rfl rfl ?_
            refine v_gR (Cn := RX17) (T := TX17) (N := 37) C hf in_X17 rfl (by decide) q1821 rfl dX17_finds_91 (fun x14 hf => ?_)
            refine v_bipush (x := 24) C dX17_finds_94 (by decide) ?_
            refine v_iload C 3 dX17_finds_96 rfl ?_
            refine v_imul C dX17_finds_98 ?_
            refine v_iload C 4 dX17_finds_99 rfl ?_
            refine v_iadd C dX17_finds_101 ?_
            refine v_iaload C hf dX17_finds_102 (fun x15 hf => ?_)
            refine v_iaload C hf dX17_finds_103 (fun x16 hf => ?_)
            obtain ⟨e1, rfl⟩ := mret_inv hf
            subst e1
            exact v_sub (ls' := _) [0, 1, 2, 3, 4] rfl Jh11
          · refine v_aload_n C 0 dX17_finds_76 rfl rfl ?_
            refine v_gR (Cn := RX17) (T := TX17) (N := 37) C hf in_X17 rfl (by decide) q1824 rfl dX17_finds_77 (fun x17 hf => ?_)
            refine v_iload C 4 dX17_finds_80 rfl ?_
            refine v_iaload C hf dX17_finds_82 (fun x18 hf => ?_)
            refine v_goto (tgt := 104) C dX17_finds_83 (by decide) ?_
            obtain ⟨e1, rfl⟩ := mret_inv hf
            subst e1
            exact v_sub (ls' := _) [0, 1, 2, 3, 4] rfl Jh11
  have L114 : ∀ (a0 : Nat) (i1 : Int32) (i2 : Int32) (n : Nat) (i5 : Int32) (h h1 : Hp) (o : Unit), (l_X17_finds_114 a0 i1 i2 n i5).1 h = some (o, h1) → hle h1 he → V X h1 141 [(0, .ref a0), (1, .int i1), (2, .int i2)] [] → V X h 114 [(0, .ref a0), (1, .int i1), (2, .int i2), (5, .int i5)] [] := by
    intro a0 i1 i2 n
    induction n with
    | zero => intro i5 h h1 o hf; exact mfail_inv hf
    | succ n ih =>
      intro i5 h h1 o hf hl J
      rw [l_X17_finds_114] at hf
      refine v_iload C 3 dX17_finds_114 rfl ?_
      refine v_bipush (x := 24) C dX17_finds_116 (by decide) ?_
      refine v_icmp_ge C hf (tgt := 141) dX17_finds_118 (by decide) (fun c118 hf => ?_) (fun c118 hf => ?_)
      · obtain ⟨e1, rfl⟩ := mret_inv hf
        subst e1
        exact v_sub (ls' := _) [0, 1, 2] rfl J
      · refine v_aload_n C 0 dX17_finds_121 rfl rfl ?_
        refine v_gR (Cn := RX17) (T := TX17) (N := 37) C hf in_X17 rfl (by decide) q1824 rfl dX17_finds_122 (fun x21 hf => ?_)
        refine v_iload C 3 dX17_finds_125 rfl ?_
        refine v_aload_n C 0 dX17_finds_127 rfl rfl ?_
        refine v_gR (Cn := RX17) (T := TX17) (N := 37) C hf in_X17 rfl (by decide) q1817 rfl dX17_finds_128 (fun x22 hf => ?_)
        refine v_iload C 3 dX17_finds_131 rfl ?_
        refine v_iaload C hf dX17_finds_133 (fun x23 hf => ?_)
        refine v_iastore C hf dX17_finds_134 (fun h24 hf => ?_)
        refine v_iinc (ls' := [(5, _), (0, _), (1, _), (2, _)]) (y := i5 + (1 : Int32)) C 3 dX17_finds_135 rfl rfl (by decide) rfl ?_
        refine v_goto (tgt := 114) C dX17_finds_138 (by decide) ?_
        refine v_sub (ls' := _) [1, 2, 3, 0] rfl (ih (i5 + (1 : Int32)) _ _ _ hf hl J)
  have L23 : ∀ (a0 : Nat) (i1 : Int32) (n : Nat) (i2 : Int32) (h h1 : Hp) (o : (Unit) ⊕ (Int32)), (l_X17_finds_23 a0 i1 n i2).1 h = some (o, h1) → hle h1 he → (∀ b, o = Sum.inl b → V X h1 147 [] []) → (∀ c, o = Sum.inr c → (mret c).1 h1 = some (z, he)) → V X h 23 [(0, .ref a0), (1, .int i1), (2, .int i2)] [] := by
    intro a0 i1 n
    induction n with
    | zero => intro i2 h h1 o hf; exact mfail_inv hf
    | succ n ih =>
      intro i2 h h1 o hf hl J hret
      rw [l_X17_finds_23] at hf
      refine v_iload_n C 2 dX17_finds_23 rfl rfl ?_
      refine v_bipush (x := 24) C dX17_finds_24 (by decide) ?_
      refine v_icmp_ge C hf (tgt := 147) dX17_finds_26 (by decide) (fun c26 hf => ?_) (fun c26 hf => ?_)
      · obtain ⟨e1, rfl⟩ := mret_inv hf
        subst e1
        exact v_sub (ls' := _) [] rfl (J _ rfl)
      · refine v_aload_n C 0 dX17_finds_29 rfl rfl ?_
        refine v_iload_n C 2 dX17_finds_30 rfl rfl ?_
        refine v_iload_n C 1 dX17_finds_31 rfl rfl ?_
        refine v_callV (stk := fun b => .int b :: []) C (ct_X17_sends _ a0 i2 i1) rfl ⟨rfl, nd_X17_sends⟩ rfl (Nat.le_of_ble_eq_true rfl) (Nat.le_of_ble_eq_true rfl) [] (Nat.le_of_ble_eq_true rfl) (fun _ => rfl) rfl q2322 q2324 qs94 q127 q2325 hf hl dX17_finds_32 (fun x5 h6 hf => ?_)
        refine v_istore_n (ls' := [(3, _), (0, _), (1, _), (2, _)]) C dX17_finds_35 rfl (by decide) rfl ?_
        refine v_iload_n C 0 dX17_finds_36 rfl rfl ?_
        refine v_if_ge C hf (tgt := 42) dX17_finds_37 (by decide) (fun c37 hf => ?_) (fun c37 hf => ?_)
        · refine v_aload_n C 1 dX17_finds_42 rfl rfl ?_
          refine v_gR (Cn := RX17) (T := TX17) (N := 37) C hf in_X17 rfl (by decide) q1820 rfl dX17_finds_43 (fun x7 hf => ?_)
          refine v_bipush (x := 24) C dX17_finds_46 (by decide) ?_
          refine v_iload_n C 3 dX17_finds_48 rfl rfl ?_
          refine v_imul C dX17_finds_49 ?_
          refine v_iload_n C 0 dX17_finds_50 rfl rfl ?_
          refine v_iadd C dX17_finds_51 ?_
          refine v_iaload C hf dX17_finds_52 (fun x8 hf => ?_)
          refine v_istore (ls' := [(4, _), (3, _), (0, _), (1, _), (2, _)]) C dX17_finds_53 (by decide) rfl ?_
          refine v_iconst (x := 0) C dX17_finds_55 (by decide) ?_
          refine v_istore (ls' := [(5, _), (4, _), (3, _), (0, _), (1, _), (2, _)]) C dX17_finds_56 (by decide) rfl ?_
          obtain ⟨x19, h20, eh20, hf, hlh20⟩ := mb_inv hf hl
          refine v_sub (ls' := _) [3, 4, 5, 1, 0] rfl (L58 a0 i1 i2 x8 FU (0 : Int32) _ _ _ eh20 hlh20 ?_)
          refine v_iconst (x := 0) C dX17_finds_111 (by decide) ?_
          refine v_istore (ls' := [(5, _), (0, _), (1, _), (2, _)]) C dX17_finds_112 (by decide) rfl ?_
          obtain ⟨x25, h26, eh26, hf, hlh26⟩ := mb_inv hf hl
          refine v_sub (ls' := _) [1, 2, 3, 0] rfl (L114 a0 i1 i2 FU (0 : Int32) _ _ _ eh26 hlh26 ?_)
          refine v_iinc (ls' := [(2, _), (0, _), (1, _)]) (y := i2 + (1 : Int32)) C 2 dX17_finds_141 rfl rfl (by decide) rfl ?_
          refine v_goto (tgt := 23) C dX17_finds_144 (by decide) ?_
          refine v_sub (ls' := _) [1, 2, 0] rfl (ih (i2 + (1 : Int32)) _ _ _ hf hl J hret)
        · refine v_iconst (x := 0) C dX17_finds_40 (by decide) ?_
          exact v_zret C E (mrt_ret hf hret) dX17_finds_41
  unfold f_X17_finds at hf
  refine v_iconst (x := 0) C dX17_finds_0 (by decide) ?_
  refine v_istore_n (ls' := [(2, _), (0, _), (1, _)]) C dX17_finds_1 rfl (by decide) rfl ?_
  obtain ⟨x3, h4, eh4, hf, hlh4⟩ := mb_inv hf hl
  refine v_sub (ls' := _) [1, 2, 0] rfl (L2 a0 i1 FU (0 : Int32) _ _ _ eh4 hlh4 ?_)
  refine v_iconst (x := 0) C dX17_finds_21 (by decide) ?_
  refine v_istore_n (ls' := [(2, _), (0, _), (1, _)]) C dX17_finds_22 rfl (by decide) rfl ?_
  obtain ⟨ox27, h28, eh28, hlh28, hkh28, hrh28⟩ := mbs_inv hf hl
  refine v_sub (ls' := _) [1, 2, 0] rfl (L23 a0 i1 FU (0 : Int32) _ _ _ eh28 hlh28 (fun x27 eo => ?_) hrh28)
  have hf := hkh28 x27 eo
  clear hkh28 hrh28
  refine v_iconst (x := 1) C dX17_finds_147 (by decide) ?_
  exact v_zret C E hf dX17_finds_148
def f_X19_of (i0 : Int32) (a1 : Nat) : hM Nat :=
  mb (mi (i0 = 1) (mb (newO 16 0 []) fun x3 => mb (f_X20_init x3) fun _ => mret x3) (mi (i0 = 2) (mb (newO 17 1 [.null]) fun x7 => mb (gR a1 1 3) fun x9 => mb (f_X21_init x7 x9) fun _ => mret x7) (mi (i0 = 3) (mb (newO 17 1 [.null]) fun x12 => mb (gR a1 1 4) fun x14 => mb (f_X21_init x12 x14) fun _ => mret x12) (mb (newO 18 2 [.null, .null]) fun x17 => mb (f_X22_init x17 a1) fun _ => mret x17)))) fun x1 => mret x1
theorem nd_X19_of : yX19_of.cls ≠ "java/lang/invoke/MethodHandle" ∧ yX19_of.cls ≠ "java/lang/invoke/VarHandle" ∧ (parseMethodDescriptor yX19_of.desc).map (fun d => d.parameters.length) = some 2 := by decide +kernel
set_option maxHeartbeats 4000000 in
theorem ct_X19_of (l : Launch) (i0 : Int32) (a1 : Nat) : CT l yX19_of cX19_of 2 (some (.object "EightBlocks$Things")) 2 33 rvR [.int i0, .ref a1] (f_X19_of i0 a1) := by
  refine CT_of (ls := [(0, .int i0), (1, .ref a1)]) (by decide) (Nat.le_of_ble_eq_true rfl) rfl ?_
  intro X h he z hX hf C E hnm hh
  have hl := hle.rf he
  subst hX
  unfold f_X19_of at hf
  refine v_iload_n C 0 dX19_of_0 rfl rfl ?_
  obtain ⟨x1, h2, hAh2, hf, hlh2⟩ := mb_inv hf hl
  refine v_cut (h1 := h2) (pc1 := 74) (ls1 := []) (st1 := [.ref x1]) ?_ (fun Jh2 => ?_)
  · clear hAh2 hlh2
    exact v_aret C E hf (Or.inl ⟨_, rfl⟩) dX19_of_74
  · clear hf
    have hf := hAh2
    have hl := hlh2
    by_cases e1_0 : i0 = 1
    · have hf := mi_pos e1_0 hf
      refine v_tswI C (k := 1) e1_0 dX19_of_1 (by decide) (by decide) rfl (tgt := 28) (by decide) ?_
      refine v_new (Cn := RX20) (T := T0G) (N := 0) (ty0 := fun _ => .int) C hf hl (by intro w hw; cases hw) (fun k hk => absurd hk (Nat.not_lt_zero k)) rfl q1441 q1442 q135 (fun k hk => absurd hk (Nat.not_lt_zero k)) dX19_of_28 (fun x3 h4 hf => ?_)
      refine v_dup C dX19_of_31 rfl ?_
      refine v_callIN (stk := fun _ => [.ref x3]) C (ct_X20_init _ x3) nd_X20_init rfl (Nat.le_of_ble_eq_true rfl) (Nat.le_of_ble_eq_true rfl) [.ref x3] (Nat.le_of_ble_eq_true rfl) (fun _ => rfl) rfl rfl q1443 q1444 q135 q1445 hf hl dX19_of_32 (fun x5 h6 hf => ?_)
      refine v_goto (tgt := 74) C dX19_of_35 (by decide) ?_
      obtain ⟨e1, rfl⟩ := mret_inv hf
      subst e1
      exact v_sub (ls' := _) [] rfl Jh2
    have hf := mi_neg e1_0 hf
    by_cases e1_1 : i0 = 2
    · have hf := mi_pos e1_1 hf
      refine v_tswI C (k := 2) e1_1 dX19_of_1 (by decide) (by decide) rfl (tgt := 38) (by decide) ?_
      refine v_new (Cn := RX21) (T := TX21) (N := 1) (ty0 := tyX21) C hf hl in_X21 tyX21_ok rfl q1448 q1449 q136 dvX21 dX19_of_38 (fun x7 h8 hf => ?_)
      refine v_dup C dX19_of_41 rfl ?_
      refine v_aload_n C 1 dX19_of_42 rfl rfl ?_
      refine v_gRN (Cn := RX1) (T := TX1) (N := 10) C hf in_X1 rfl (by decide) q201 rfl dX19_of_43 (fun x9 hf => ?_)
      refine v_callI (stk := fun _ => [.ref x7]) C (ct_X21_init _ x7 x9) nd_X21_init rfl (Nat.le_of_ble_eq_true rfl) (Nat.le_of_ble_eq_true rfl) [.ref x7] (Nat.le_of_ble_eq_true rfl) (fun _ => rfl) rfl rfl q1450 q1451 q136 q1452 hf hl dX19_of_46 (fun x10 h11 hf => ?_)
      refine v_goto (tgt := 74) C dX19_of_49 (by decide) ?_
      obtain ⟨e1, rfl⟩ := mret_inv hf
      subst e1
      exact v_sub (ls' := _) [] rfl Jh2
    have hf := mi_neg e1_1 hf
    by_cases e1_2 : i0 = 3
    · have hf := mi_pos e1_2 hf
      refine v_tswI C (k := 3) e1_2 dX19_of_1 (by decide) (by decide) rfl (tgt := 52) (by decide) ?_
      refine v_new (Cn := RX21) (T := TX21) (N := 1) (ty0 := tyX21) C hf hl in_X21 tyX21_ok rfl q1448 q1449 q136 dvX21 dX19_of_52 (fun x12 h13 hf => ?_)
      refine v_dup C dX19_of_55 rfl ?_
      refine v_aload_n C 1 dX19_of_56 rfl rfl ?_
      refine v_gRN (Cn := RX1) (T := TX1) (N := 10) C hf in_X1 rfl (by decide) q204 rfl dX19_of_57 (fun x14 hf => ?_)
      refine v_callI (stk := fun _ => [.ref x12]) C (ct_X21_init _ x12 x14) nd_X21_init rfl (Nat.le_of_ble_eq_true rfl) (Nat.le_of_ble_eq_true rfl) [.ref x12] (Nat.le_of_ble_eq_true rfl) (fun _ => rfl) rfl rfl q1450 q1451 q136 q1452 hf hl dX19_of_60 (fun x15 h16 hf => ?_)
      refine v_goto (tgt := 74) C dX19_of_63 (by decide) ?_
      obtain ⟨e1, rfl⟩ := mret_inv hf
      subst e1
      exact v_sub (ls' := _) [] rfl Jh2
    have hf := mi_neg e1_2 hf
    refine v_tswO C (n := 3) (lo := 1) (x := i0) (fun j hj => ?_) dX19_of_1 rfl rfl (tgt := 66) (by decide) ?_
    · rcases (show j = 0 ∨ j = 1 ∨ j = 2 by omega) with rfl | rfl | rfl
      · exact e1_0
      · exact e1_1
      · exact e1_2
    refine v_new (Cn := RX22) (T := TX22) (N := 2) (ty0 := tyX22) C hf hl in_X22 tyX22_ok rfl q1458 q1459 q137 dvX22 dX19_of_66 (fun x17 h18 hf => ?_)
    refine v_dup C dX19_of_69 rfl ?_
    refine v_aload_n C 1 dX19_of_70 rfl rfl ?_
    refine v_callI (stk := fun _ => [.ref x17]) C (ct_X22_init _ x17 a1) nd_X22_init rfl (Nat.le_of_ble_eq_true rfl) (Nat.le_of_ble_eq_true rfl) [.ref x17] (Nat.le_of_ble_eq_true rfl) (fun _ => rfl) rfl rfl q1460 q1461 q137 q1462 hf hl dX19_of_71 (fun x19 h20 hf => ?_)
    obtain ⟨e1, rfl⟩ := mret_inv hf
    subst e1
    exact v_sub (ls' := _) [] rfl Jh2
def l_X2_init_14 (a0 : Nat) : Nat → Int32 → hM (Unit)
  | 0, _ => mfail
  | n + 1, i1 => mi ((5 : Int32) ≤ i1) (mret ()) (mb (gR a0 2 0) fun x4 => mb (newO 3 2 [.null, .null]) fun x5 => mb (f_X3_init x5) fun _ => mb (sR 6 3 x4 i1 x5) fun _ => l_X2_init_14 a0 n (i1 + (1 : Int32)))
def f_X2_init (a0 : Nat) : hM Unit :=
  mb (newA 6 (5 : Int32)) fun x1 => mb (pF a0 2 0 (.ref x1)) fun _ => mb (l_X2_init_14 a0 FU (0 : Int32)) fun x10 => mret ()
theorem nd_X2_init : yX2_init.cls ≠ "java/lang/invoke/MethodHandle" ∧ yX2_init.cls ≠ "java/lang/invoke/VarHandle" ∧ (parseMethodDescriptor yX2_init.desc).map (fun d => d.parameters.length) = some 0 := by decide +kernel
set_option maxHeartbeats 4000000 in
theorem ct_X2_init (l : Launch) (a0 : Nat) : CT l yX2_init cX2_init 2 none 2 32 rv0 [.ref a0] (f_X2_init a0) := by
  refine CT_of (ls := [(0, .ref a0)]) (by decide) (Nat.le_of_ble_eq_true rfl) rfl ?_
  intro X h he z hX hf C E hnm hh
  have hl := hle.rf he
  subst hX
  have L14 : ∀ (a0 : Nat) (n : Nat) (i1 : Int32) (h h1 : Hp) (o : Unit), (l_X2_init_14 a0 n i1).1 h = some (o, h1) → hle h1 he → V X h1 38 [] [] → V X h 14 [(0, .ref a0), (1, .int i1)] [] := by
    intro a0 n
    induction n with
    | zero => intro i1 h h1 o hf; exact mfail_inv hf
    | succ n ih =>
      intro i1 h h1 o hf hl J
      rw [l_X2_init_14] at hf
      refine v_iload_n C 1 dX2_init_14 rfl rfl ?_
      refine v_iconst (x := 5) C dX2_init_15 (by decide) ?_
      refine v_icmp_ge C hf (tgt := 38) dX2_init_16 (by decide) (fun c16 hf => ?_) (fun c16 hf => ?_)
      · obtain ⟨e1, rfl⟩ := mret_inv hf
        subst e1
        exact v_sub (ls' := _) [] rfl J
      · refine v_aload_n C 0 dX2_init_19 rfl rfl ?_
        refine v_gR (Cn := RX2) (T := TX2) (N := 3) C hf in_X2 rfl (by decide) q257 rfl dX2_init_20 (fun x4 hf => ?_)
        refine v_iload_n C 1 dX2_init_23 rfl rfl ?_
        refine v_new (Cn := RX3) (T := TX3) (N := 2) (ty0 := tyX3) C hf hl in_X3 tyX3_ok rfl q241 q243 q103 dvX3 dX2_init_24 (fun x5 h6 hf => ?_)
        refine v_dup C dX2_init_27 rfl ?_
        refine v_callIN (stk := fun _ => [.ref x5, .int i1, .ref x4]) C (ct_X3_init _ x5) nd_X3_init rfl (Nat.le_of_ble_eq_true rfl) (Nat.le_of_ble_eq_true rfl) [.ref x5, .int i1, .ref x4] (Nat.le_of_ble_eq_true rfl) (fun _ => rfl) rfl rfl q244 q245 q103 q246 hf hl dX2_init_28 (fun x7 h8 hf => ?_)
        refine v_aastore C hf (by decide) rfl rfl dX2_init_31 (fun h9 hf => ?_)
        refine v_iinc (ls' := [(1, _), (0, _)]) (y := i1 + (1 : Int32)) C 1 dX2_init_32 rfl rfl (by decide) rfl ?_
        refine v_goto (tgt := 14) C dX2_init_35 (by decide) ?_
        refine v_sub (ls' := _) [1, 0] rfl (ih (i1 + (1 : Int32)) _ _ _ hf hl J)
  unfold f_X2_init at hf
  refine v_aload_n C 0 dX2_init_0 rfl rfl ?_
  refine v_objInit C q240 q147 q148 (Nat.le_of_ble_eq_true rfl) (Nat.le_of_ble_eq_true rfl) dX2_init_1 ?_
  refine v_aload_n C 0 dX2_init_4 rfl rfl ?_
  refine v_iconst (x := 5) C dX2_init_5 (by decide) ?_
  refine v_anewarray (kd := 6) (Cn := "EightBlocks$Move") C hf hl (by decide) (by decide) rfl q241 q242 dX2_init_6 (fun x1 h2 hf => ?_)
  refine v_putvF (Cn := RX2) (T := TX2) (N := 3) (ty0 := tyX2) C hf in_X2 tyX2_ok nmX2 rfl (by decide) q257 rfl rfl rfl hnm rfl rfl dX2_init_9 (fun h3 hf => ?_)
  refine v_iconst (x := 0) C dX2_init_12 (by decide) ?_
  refine v_istore_n (ls' := [(1, _), (0, _)]) C dX2_init_13 rfl (by decide) rfl ?_
  obtain ⟨x10, h11, eh11, hf, hlh11⟩ := mb_inv hf hl
  refine v_sub (ls' := _) [1, 0] rfl (L14 a0 FU (0 : Int32) _ _ _ eh11 hlh11 ?_)
  exact v_vret C E hf dX2_init_38
def f_X20_next (a0 : Nat) (i1 : Int32) (a2 : Nat) : hM Int32 :=
  mb (mat a2 3 (f_X3_to a2 i1)) fun x1 => mret x1
theorem nd_X20_next : yX20_next.cls ≠ "java/lang/invoke/MethodHandle" ∧ yX20_next.cls ≠ "java/lang/invoke/VarHandle" ∧ (parseMethodDescriptor yX20_next.desc).map (fun d => d.parameters.length) = some 2 := by decide +kernel
set_option maxHeartbeats 4000000 in
theorem ct_X20_next (l : Launch) (a0 : Nat) (i1 : Int32) (a2 : Nat) : CT l yX20_next cX20_next 3 (some .int) 1 21 rvI [.ref a0, .int i1, .ref a2] (f_X20_next a0 i1 a2) := by
  refine CT_of (ls := [(0, .ref a0), (1, .int i1), (2, .ref a2)]) (by decide) (Nat.le_of_ble_eq_true rfl) rfl ?_
  intro X h he z hX hf C E hnm hh
  have hl := hle.rf he
  subst hX
  unfold f_X20_next at hf
  refine v_aload_n C 2 dX20_next_0 rfl rfl ?_
  refine v_iload_n C 1 dX20_next_1 rfl rfl ?_
  refine v_callV (stk := fun b => .int b :: []) C (ct_X3_to _ a2 i1) rfl ⟨rfl, nd_X3_to⟩ rfl (Nat.le_of_ble_eq_true rfl) (Nat.le_of_ble_eq_true rfl) [] (Nat.le_of_ble_eq_true rfl) (fun _ => rfl) rfl q1536 q646 q2328 q103 q648 hf hl dX20_next_2 (fun x1 h2 hf => ?_)
  exact v_iret C E hf dX20_next_5
def f_X5_init (a0 : Nat) : hM Unit :=
  mb (f_J8_init_2 a0 none none (0 : Int32) (0 : Int32)) fun _ => mret ()
theorem nd_X5_init : yX5_init.cls ≠ "java/lang/invoke/MethodHandle" ∧ yX5_init.cls ≠ "java/lang/invoke/VarHandle" ∧ (parseMethodDescriptor yX5_init.desc).map (fun d => d.parameters.length) = some 0 := by decide +kernel
set_option maxHeartbeats 4000000 in
theorem ct_X5_init (l : Launch) (a0 : Nat) : CT l yX5_init cX5_init 1 none 3 60 rv0 [.ref a0] (f_X5_init a0) := by
  refine CT_of (ls := [(0, .ref a0)]) (by decide) (Nat.le_of_ble_eq_true rfl) rfl ?_
  intro X h he z hX hf C E hnm hh
  have hl := hle.rf he
  subst hX
  unfold f_X5_init at hf
  refine v_aload_n C 0 dX5_init_0 rfl rfl ?_
  refine v_null C dX5_init_1 ?_
  refine v_null C dX5_init_2 ?_
  refine v_iconst (x := 0) C dX5_init_3 (by decide) ?_
  refine v_iconst (x := 0) C dX5_init_4 (by decide) ?_
  refine v_callI (stk := fun _ => []) C (ct_J8_init_2 _ a0 none none (0 : Int32) (0 : Int32)) nd_J8_init_2 rfl (Nat.le_of_ble_eq_true rfl) (Nat.le_of_ble_eq_true rfl) [] (Nat.le_of_ble_eq_true rfl) (fun _ => rfl) rfl rfl q411 q412 q110 q413 hf hl dX5_init_5 (fun x1 h2 hf => ?_)
  exact v_vret C E hf dX5_init_8
def l_X6_init_56 (a0 : Nat) : Nat → Int32 → hM (Unit)
  | 0, _ => mfail
  | n + 1, i1 => mi ((24 : Int32) ≤ i1) (mret ()) (mb (gR a0 6 0) fun x20 => mb (newO 8 5 [.int 0, .null, .null, .int 0, .int 0]) fun x21 => mb (f_X8_init x21) fun _ => mb (sR 7 8 x20 i1 x21) fun _ => l_X6_init_56 a0 n (i1 + (1 : Int32)))
def f_X6_init (a0 : Nat) : hM Unit :=
  mb (newA 7 (24 : Int32)) fun x1 => mb (pF a0 6 0 (.ref x1)) fun _ => mb (newA 6 (300 : Int32)) fun x4 => mb (pF a0 6 1 (.ref x4)) fun _ => mb (newA 1 (300 : Int32)) fun x7 => mb (pF a0 6 2 (.ref x7)) fun _ => mb (newO 3 2 [.null, .null]) fun x10 => mb (f_X3_init x10) fun _ => mb (pF a0 6 4 (.ref x10)) fun _ => mb (newO 7 0 []) fun x15 => mb (f_X7_init x15) fun _ => mb (pF a0 6 5 (.ref x15)) fun _ => mb (l_X6_init_56 a0 FU (0 : Int32)) fun x26 => mret ()
theorem nd_X6_init : yX6_init.cls ≠ "java/lang/invoke/MethodHandle" ∧ yX6_init.cls ≠ "java/lang/invoke/VarHandle" ∧ (parseMethodDescriptor yX6_init.desc).map (fun d => d.parameters.length) = some 0 := by decide +kernel
set_option maxHeartbeats 4000000 in
theorem ct_X6_init (l : Launch) (a0 : Nat) : CT l yX6_init cX6_init 2 none 2 32 rv0 [.ref a0] (f_X6_init a0) := by
  refine CT_of (ls := [(0, .ref a0)]) (by decide) (Nat.le_of_ble_eq_true rfl) rfl ?_
  intro X h he z hX hf C E hnm hh
  have hl := hle.rf he
  subst hX
  have L56 : ∀ (a0 : Nat) (n : Nat) (i1 : Int32) (h h1 : Hp) (o : Unit), (l_X6_init_56 a0 n i1).1 h = some (o, h1) → hle h1 he → V X h1 81 [] [] → V X h 56 [(0, .ref a0), (1, .int i1)] [] := by
    intro a0 n
    induction n with
    | zero => intro i1 h h1 o hf; exact mfail_inv hf
    | succ n ih =>
      intro i1 h h1 o hf hl J
      rw [l_X6_init_56] at hf
      refine v_iload_n C 1 dX6_init_56 rfl rfl ?_
      refine v_bipush (x := 24) C dX6_init_57 (by decide) ?_
      refine v_icmp_ge C hf (tgt := 81) dX6_init_59 (by decide) (fun c59 hf => ?_) (fun c59 hf => ?_)
      · obtain ⟨e1, rfl⟩ := mret_inv hf
        subst e1
        exact v_sub (ls' := _) [] rfl J
      · refine v_aload_n C 0 dX6_init_62 rfl rfl ?_
        refine v_gR (Cn := RX6) (T := TX6) (N := 6) C hf in_X6 rfl (by decide) q466 rfl dX6_init_63 (fun x20 hf => ?_)
        refine v_iload_n C 1 dX6_init_66 rfl rfl ?_
        refine v_new (Cn := RX8) (T := TX8) (N := 5) (ty0 := tyX8) C hf hl in_X8 tyX8_ok rfl q428 q439 q116 dvX8 dX6_init_67 (fun x21 h22 hf => ?_)
        refine v_dup C dX6_init_70 rfl ?_
        refine v_callIN (stk := fun _ => [.ref x21, .int i1, .ref x20]) C (ct_X8_init _ x21) nd_X8_init rfl (Nat.le_of_ble_eq_true rfl) (Nat.le_of_ble_eq_true rfl) [.ref x21, .int i1, .ref x20] (Nat.le_of_ble_eq_true rfl) (fun _ => rfl) rfl rfl q440 q441 q116 q442 hf hl dX6_init_71 (fun x23 h24 hf => ?_)
        refine v_aastore C hf (by decide) rfl rfl dX6_init_74 (fun h25 hf => ?_)
        refine v_iinc (ls' := [(1, _), (0, _)]) (y := i1 + (1 : Int32)) C 1 dX6_init_75 rfl rfl (by decide) rfl ?_
        refine v_goto (tgt := 56) C dX6_init_78 (by decide) ?_
        refine v_sub (ls' := _) [1, 0] rfl (ih (i1 + (1 : Int32)) _ _ _ hf hl J)
  unfold f_X6_init at hf
  refine v_aload_n C 0 dX6_init_0 rfl rfl ?_
  refine v_objInit C q427 q147 q148 (Nat.le_of_ble_eq_true rfl) (Nat.le_of_ble_eq_true rfl) dX6_init_1 ?_
  refine v_aload_n C 0 dX6_init_4 rfl rfl ?_
  refine v_bipush (x := 24) C dX6_init_5 (by decide) ?_
  refine v_anewarray (kd := 7) (Cn := "EightBlocks$Level") C hf hl (by decide) (by decide) rfl q428 q429 dX6_init_7 (fun x1 h2 hf => ?_)
  refine v_putvF (Cn := RX6) (T := TX6) (N := 6) (ty0 := tyX6) C hf in_X6 tyX6_ok nmX6 rfl (by decide) q466 rfl rfl rfl hnm rfl rfl dX6_init_10 (fun h3 hf => ?_)
  refine v_aload_n C 0 dX6_init_13 rfl rfl ?_
  refine v_sipush (x := 300) C dX6_init_14 (by decide) ?_
  refine v_anewarray (kd := 6) (Cn := "EightBlocks$Move") C hf hl (by decide) (by decide) rfl q430 q242 dX6_init_17 (fun x4 h5 hf => ?_)
  refine v_putvF (Cn := RX6) (T := TX6) (N := 6) (ty0 := tyX6) C hf in_X6 tyX6_ok nmX6 rfl (by decide) q467 rfl rfl rfl hnm rfl rfl dX6_init_20 (fun h6 hf => ?_)
  refine v_aload_n C 0 dX6_init_23 rfl rfl ?_
  refine v_sipush (x := 300) C dX6_init_24 (by decide) ?_
  refine v_newarrayint C hf hl q234 dX6_init_27 (fun x7 h8 hf => ?_)
  refine v_putvF (Cn := RX6) (T := TX6) (N := 6) (ty0 := tyX6) C hf in_X6 tyX6_ok nmX6 rfl (by decide) q468 rfl rfl rfl hnm rfl rfl dX6_init_29 (fun h9 hf => ?_)
  refine v_aload_n C 0 dX6_init_32 rfl rfl ?_
  refine v_new (Cn := RX3) (T := TX3) (N := 2) (ty0 := tyX3) C hf hl in_X3 tyX3_ok rfl q430 q243 q103 dvX3 dX6_init_33 (fun x10 h11 hf => ?_)
  refine v_dup C dX6_init_36 rfl ?_
  refine v_callIN (stk := fun _ => [.ref x10, .ref a0]) C (ct_X3_init _ x10) nd_X3_init rfl (Nat.le_of_ble_eq_true rfl) (Nat.le_of_ble_eq_true rfl) [.ref x10, .ref a0] (Nat.le_of_ble_eq_true rfl) (fun _ => rfl) rfl rfl q431 q245 q103 q246 hf hl dX6_init_37 (fun x12 h13 hf => ?_)
  refine v_putvF (Cn := RX6) (T := TX6) (N := 6) (ty0 := tyX6) C hf in_X6 tyX6_ok nmX6 rfl (by decide) q470 rfl rfl rfl hnm rfl rfl dX6_init_40 (fun h14 hf => ?_)
  refine v_aload_n C 0 dX6_init_43 rfl rfl ?_
  refine v_new (Cn := RX7) (T := T0G) (N := 0) (ty0 := fun _ => .int) C hf hl (by intro w hw; cases hw) (fun k hk => absurd hk (Nat.not_lt_zero k)) rfl q432 q433 q115 (fun k hk => absurd hk (Nat.not_lt_zero k)) dX6_init_44 (fun x15 h16 hf => ?_)
  refine v_dup C dX6_init_47 rfl ?_
  refine v_callIN (stk := fun _ => [.ref x15, .ref a0]) C (ct_X7_init _ x15) nd_X7_init rfl (Nat.le_of_ble_eq_true rfl) (Nat.le_of_ble_eq_true rfl) [.ref x15, .ref a0] (Nat.le_of_ble_eq_true rfl) (fun _ => rfl) rfl rfl q434 q435 q115 q436 hf hl dX6_init_48 (fun x17 h18 hf => ?_)
  refine v_putvF (Cn := RX6) (T := TX6) (N := 6) (ty0 := tyX6) C hf in_X6 tyX6_ok nmX6 rfl (by decide) q471 rfl rfl rfl hnm rfl rfl dX6_init_51 (fun h19 hf => ?_)
  refine v_iconst (x := 0) C dX6_init_54 (by decide) ?_
  refine v_istore_n (ls' := [(1, _), (0, _)]) C dX6_init_55 rfl (by decide) rfl ?_
  obtain ⟨x26, h27, eh27, hf, hlh27⟩ := mb_inv hf hl
  refine v_sub (ls' := _) [1, 0] rfl (L56 a0 FU (0 : Int32) _ _ _ eh27 hlh27 ?_)
  exact v_vret C E hf dX6_init_81
def f_X9_clear (a0 : Nat) : hM Unit :=
  mb (gR a0 9 0) fun x1 => mb (f_J2_fill_3 x1 (0 : Int32)) fun _ => mret ()
theorem nd_X9_clear : yX9_clear.cls ≠ "java/lang/invoke/MethodHandle" ∧ yX9_clear.cls ≠ "java/lang/invoke/VarHandle" ∧ (parseMethodDescriptor yX9_clear.desc).map (fun d => d.parameters.length) = some 0 := by decide +kernel
set_option maxHeartbeats 4000000 in
theorem ct_X9_clear (l : Launch) (a0 : Nat) : CT l yX9_clear cX9_clear 1 none 1 23 rv0 [.ref a0] (f_X9_clear a0) := by
  refine CT_of (ls := [(0, .ref a0)]) (by decide) (Nat.le_of_ble_eq_true rfl) rfl ?_
  intro X h he z hX hf C E hnm hh
  have hl := hle.rf he
  subst hX
  unfold f_X9_clear at hf
  refine v_aload_n C 0 dX9_clear_0 rfl rfl ?_
  refine v_gR (Cn := RX9) (T := TX9) (N := 2) C hf in_X9 rfl (by decide) q491 rfl dX9_clear_1 (fun x1 hf => ?_)
  refine v_iconst (x := 0) C dX9_clear_4 (by decide) ?_
  refine v_callS (stk := fun _ => []) C (ct_J2_fill_3 _ x1 (0 : Int32)) nd_J2_fill_3 rfl (Nat.le_of_ble_eq_true rfl) (Nat.le_of_ble_eq_true rfl) [] (Nat.le_of_ble_eq_true rfl) (fun _ => rfl) rfl q1484 q1485 q101 q1486 hf hl dX9_clear_5 (fun x2 h3 hf => ?_)
  exact v_vret C E hf dX9_clear_8
def f_J11_charAt (a0 : Nat) (i1 : Int32) : hM Int32 :=
  mb (alen 0 a0) fun x1 => mb (f_J5_checkIndex i1 x1) fun _ => mb (aI 0 a0 i1) fun x4 => mrt .char (ji2c (x4 &&& (255 : Int32)))
theorem nd_J11_charAt : yJ11_charAt.cls ≠ "java/lang/invoke/MethodHandle" ∧ yJ11_charAt.cls ≠ "java/lang/invoke/VarHandle" ∧ (parseMethodDescriptor yJ11_charAt.desc).map (fun d => d.parameters.length) = some 2 := by decide +kernel
set_option maxHeartbeats 4000000 in
theorem ct_J11_charAt (l : Launch) (a0 : Nat) (i1 : Int32) : CT l yJ11_charAt cJ11_charAt 2 (some .char) 1 21 rvI [.ref a0, .int i1] (f_J11_charAt a0 i1) := by
  refine CT_of (ls := [(0, .ref a0), (1, .int i1)]) (by decide) (Nat.le_of_ble_eq_true rfl) rfl ?_
  intro X h he z hX hf C E hnm hh
  have hl := hle.rf he
  subst hX
  unfold f_J11_charAt at hf
  refine v_iload_n C 1 dJ11_charAt_0 rfl rfl ?_
  refine v_aload_n C 0 dJ11_charAt_1 rfl rfl ?_
  refine v_alen C hf (by decide) dJ11_charAt_2 (fun x1 hf => ?_)
  refine v_callS (stk := fun _ => []) C (ct_J5_checkIndex _ i1 x1) nd_J5_checkIndex rfl (Nat.le_of_ble_eq_true rfl) (Nat.le_of_ble_eq_true rfl) [] (Nat.le_of_ble_eq_true rfl) (fun _ => rfl) rfl q1097 q1098 q107 q1099 hf hl dJ11_charAt_3 (fun x2 h3 hf => ?_)
  refine v_aload_n C 0 dJ11_charAt_6 rfl rfl ?_
  refine v_iload_n C 1 dJ11_charAt_7 rfl rfl ?_
  refine v_baload C hf dJ11_charAt_8 (fun x4 hf => ?_)
  refine v_sipush (x := 255) C dJ11_charAt_9 (by decide) ?_
  refine v_iand C dJ11_charAt_12 ?_
  refine v_i2c C dJ11_charAt_13 ?_
  exact v_zret C E hf dJ11_charAt_14
def f_J12_vectorizedHashCode (a0 : Nat) (i1 : Int32) (i2 : Int32) (i3 : Int32) (i4 : Int32) : hM Int32 :=
  mi (i4 = 4) (mb (mca 0 a0) fun _ => mb (f_J12_signedHashCode i3 a0 i1 i2) fun x1 => mret x1) (mi (i4 = 5) (mb (mia 0 a0) fun x3 => mb (mi (x3 = 0) (mfail) (mb (mca 0 a0) fun _ => mb (f_J12_utf16hashCode i3 a0 i1 i2) fun x6 => mret x6)) fun x4 => mret x4) (mi (i4 = 6) (mfail) (mi (i4 = 7) (mfail) (mi (i4 = 8) (mb (mca 0 a0) fun _ => mb (f_J12_hashCode_2 i3 a0 i1 i2) fun x8 => mret x8) (mi (i4 = 9) (mb (mca 4 a0) fun _ => mb (f_J12_hashCode_3 i3 a0 i1 i2) fun x10 => mret x10) (mi (i4 = 10) (mb (mca 1 a0) fun _ => mb (f_J12_hashCode_4 i3 a0 i1 i2) fun x12 => mret x12) (mfail)))))))
theorem nd_J12_vectorizedHashCode : yJ12_vectorizedHashCode.cls ≠ "java/lang/invoke/MethodHandle" ∧ yJ12_vectorizedHashCode.cls ≠ "java/lang/invoke/VarHandle" ∧ (parseMethodDescriptor yJ12_vectorizedHashCode.desc).map (fun d => d.parameters.length) = some 5 := by decide +kernel
set_option maxHeartbeats 4000000 in
theorem ct_J12_vectorizedHashCode (l : Launch) (a0 : Nat) (i1 : Int32) (i2 : Int32) (i3 : Int32) (i4 : Int32) : CT l yJ12_vectorizedHashCode cJ12_vectorizedHashCode 5 (some .int) 1 25 rvI [.ref a0, .int i1, .int i2, .int i3, .int i4] (f_J12_vectorizedHashCode a0 i1 i2 i3 i4) := by
  refine CT_of (ls := [(0, .ref a0), (1, .int i1), (2, .int i2), (3, .int i3), (4, .int i4)]) (by decide) (Nat.le_of_ble_eq_true rfl) rfl ?_
  intro X h he z hX hf C E hnm hh
  have hl := hle.rf he
  subst hX
  unfold f_J12_vectorizedHashCode at hf
  refine v_iload C 4 dJ12_vectorizedHashCode_0 rfl ?_
  by_cases e2_0 : i4 = 4
  · have hf := mi_pos e2_0 hf
    refine v_tswI C (k := 4) e2_0 dJ12_vectorizedHashCode_2 (by decide) (by decide) rfl (tgt := 44) (by decide) ?_
    refine v_iload_n C 3 dJ12_vectorizedHashCode_44 rfl rfl ?_
    refine v_aload_n C 0 dJ12_vectorizedHashCode_45 rfl rfl ?_
    refine v_casta (kd := 0) C hf (by simp [kd4]) q538 dJ12_vectorizedHashCode_46 (fun hf => ?_)
    refine v_iload_n C 1 dJ12_vectorizedHashCode_49 rfl rfl ?_
    refine v_iload_n C 2 dJ12_vectorizedHashCode_50 rfl rfl ?_
    refine v_callS (stk := fun b => .int b :: []) C (ct_J12_signedHashCode _ i3 a0 i1 i2) nd_J12_signedHashCode rfl (Nat.le_of_ble_eq_true rfl) (Nat.le_of_ble_eq_true rfl) [] (Nat.le_of_ble_eq_true rfl) (fun _ => rfl) rfl q539 q540 q121 q541 hf hl dJ12_vectorizedHashCode_51 (fun x1 h2 hf => ?_)
    refine v_goto (tgt := 157) C dJ12_vectorizedHashCode_54 (by decide) ?_
    exact v_iret C E hf dJ12_vectorizedHashCode_157
  have hf := mi_neg e2_0 hf
  by_cases e2_1 : i4 = 5
  · have hf := mi_pos e2_1 hf
    refine v_tswI C (k := 5) e2_1 dJ12_vectorizedHashCode_2 (by decide) (by decide) rfl (tgt := 57) (by decide) ?_
    refine v_aload_n C 0 dJ12_vectorizedHashCode_57 rfl rfl ?_
    refine v_insta (kd := 0) C hf (by simp [kd4]) q538 dJ12_vectorizedHashCode_58 (fun x3 hf => ?_)
    obtain ⟨x4, h5, hAh5, hf, hlh5⟩ := mb_inv hf hl
    refine v_cut (h1 := h5) (pc1 := 157) (ls1 := []) (st1 := [.int x4]) ?_ (fun Jh5 => ?_)
    · clear hAh5 hlh5
      exact v_iret C E hf dJ12_vectorizedHashCode_157
    · clear hf
      have hf := hAh5
      have hl := hlh5
      refine v_if_eq C hf (tgt := 77) dJ12_vectorizedHashCode_61 (by decide) (fun c61 hf => ?_) (fun c61 hf => ?_)
      · refine v_iload_n C 3 dJ12_vectorizedHashCode_77 rfl rfl ?_
        refine v_aload_n C 0 dJ12_vectorizedHashCode_78 rfl rfl ?_
        exact mfail_inv hf
      · refine v_iload_n C 3 dJ12_vectorizedHashCode_64 rfl rfl ?_
        refine v_aload_n C 0 dJ12_vectorizedHashCode_65 rfl rfl ?_
        refine v_casta (kd := 0) C hf (by simp [kd4]) q538 dJ12_vectorizedHashCode_66 (fun hf => ?_)
        refine v_iload_n C 1 dJ12_vectorizedHashCode_69 rfl rfl ?_
        refine v_iload_n C 2 dJ12_vectorizedHashCode_70 rfl rfl ?_
        refine v_callS (stk := fun b => .int b :: []) C (ct_J12_utf16hashCode _ i3 a0 i1 i2) nd_J12_utf16hashCode rfl (Nat.le_of_ble_eq_true rfl) (Nat.le_of_ble_eq_true rfl) [] (Nat.le_of_ble_eq_true rfl) (fun _ => rfl) rfl q542 q543 q121 q544 hf hl dJ12_vectorizedHashCode_71 (fun x6 h7 hf => ?_)
        refine v_goto (tgt := 157) C dJ12_vectorizedHashCode_74 (by decide) ?_
        obtain ⟨e1, rfl⟩ := mret_inv hf
        subst e1
        exact v_sub (ls' := _) [] rfl Jh5
  have hf := mi_neg e2_1 hf
  by_cases e2_2 : i4 = 6
  · have hf := mi_pos e2_2 hf
    refine v_tswI C (k := 6) e2_2 dJ12_vectorizedHashCode_2 (by decide) (by decide) rfl (tgt := 129) (by decide) ?_
    exact mfail_inv hf
  have hf := mi_neg e2_2 hf
  by_cases e2_3 : i4 = 7
  · have hf := mi_pos e2_3 hf
    refine v_tswI C (k := 7) e2_3 dJ12_vectorizedHashCode_2 (by decide) (by decide) rfl (tgt := 129) (by decide) ?_
    exact mfail_inv hf
  have hf := mi_neg e2_3 hf
  by_cases e2_4 : i4 = 8
  · have hf := mi_pos e2_4 hf
    refine v_tswI C (k := 8) e2_4 dJ12_vectorizedHashCode_2 (by decide) (by decide) rfl (tgt := 90) (by decide) ?_
    refine v_iload_n C 3 dJ12_vectorizedHashCode_90 rfl rfl ?_
    refine v_aload_n C 0 dJ12_vectorizedHashCode_91 rfl rfl ?_
    refine v_casta (kd := 0) C hf (by simp [kd4]) q538 dJ12_vectorizedHashCode_92 (fun hf => ?_)
    refine v_iload_n C 1 dJ12_vectorizedHashCode_95 rfl rfl ?_
    refine v_iload_n C 2 dJ12_vectorizedHashCode_96 rfl rfl ?_
    refine v_callS (stk := fun b => .int b :: []) C (ct_J12_hashCode_2 _ i3 a0 i1 i2) nd_J12_hashCode_2 rfl (Nat.le_of_ble_eq_true rfl) (Nat.le_of_ble_eq_true rfl) [] (Nat.le_of_ble_eq_true rfl) (fun _ => rfl) rfl q573 q574 q121 q575 hf hl dJ12_vectorizedHashCode_97 (fun x8 h9 hf => ?_)
    refine v_goto (tgt := 157) C dJ12_vectorizedHashCode_100 (by decide) ?_
    exact v_iret C E hf dJ12_vectorizedHashCode_157
  have hf := mi_neg e2_4 hf
  by_cases e2_5 : i4 = 9
  · have hf := mi_pos e2_5 hf
    refine v_tswI C (k := 9) e2_5 dJ12_vectorizedHashCode_2 (by decide) (by decide) rfl (tgt := 103) (by decide) ?_
    refine v_iload_n C 3 dJ12_vectorizedHashCode_103 rfl rfl ?_
    refine v_aload_n C 0 dJ12_vectorizedHashCode_104 rfl rfl ?_
    refine v_casta (kd := 4) C hf (by simp [kd4]) q576 dJ12_vectorizedHashCode_105 (fun hf => ?_)
    refine v_iload_n C 1 dJ12_vectorizedHashCode_108 rfl rfl ?_
    refine v_iload_n C 2 dJ12_vectorizedHashCode_109 rfl rfl ?_
    refine v_callS (stk := fun b => .int b :: []) C (ct_J12_hashCode_3 _ i3 a0 i1 i2) nd_J12_hashCode_3 rfl (Nat.le_of_ble_eq_true rfl) (Nat.le_of_ble_eq_true rfl) [] (Nat.le_of_ble_eq_true rfl) (fun _ => rfl) rfl q577 q578 q121 q579 hf hl dJ12_vectorizedHashCode_110 (fun x10 h11 hf => ?_)
    refine v_goto (tgt := 157) C dJ12_vectorizedHashCode_113 (by decide) ?_
    exact v_iret C E hf dJ12_vectorizedHashCode_157
  have hf := mi_neg e2_5 hf
  by_cases e2_6 : i4 = 10
  · have hf := mi_pos e2_6 hf
    refine v_tswI C (k := 10) e2_6 dJ12_vectorizedHashCode_2 (by decide) (by decide) rfl (tgt := 116) (by decide) ?_
    refine v_iload_n C 3 dJ12_vectorizedHashCode_116 rfl rfl ?_
    refine v_aload_n C 0 dJ12_vectorizedHashCode_117 rfl rfl ?_
    refine v_casta (kd := 1) C hf (by simp [kd4]) q580 dJ12_vectorizedHashCode_118 (fun hf => ?_)
    refine v_iload_n C 1 dJ12_vectorizedHashCode_121 rfl rfl ?_
    refine v_iload_n C 2 dJ12_vectorizedHashCode_122 rfl rfl ?_
    refine v_callS (stk := fun b => .int b :: []) C (ct_J12_hashCode_4 _ i3 a0 i1 i2) nd_J12_hashCode_4 rfl (Nat.le_of_ble_eq_true rfl) (Nat.le_of_ble_eq_true rfl) [] (Nat.le_of_ble_eq_true rfl) (fun _ => rfl) rfl q581 q582 q121 q583 hf hl dJ12_vectorizedHashCode_123 (fun x12 h13 hf => ?_)
    refine v_goto (tgt := 157) C dJ12_vectorizedHashCode_126 (by decide) ?_
    exact v_iret C E hf dJ12_vectorizedHashCode_157
  have hf := mi_neg e2_6 hf
  refine v_tswO C (n := 7) (lo := 4) (x := i4) (fun j hj => ?_) dJ12_vectorizedHashCode_2 rfl rfl (tgt := 129) (by decide) ?_
  · rcases (show j = 0 ∨ j = 1 ∨ j = 2 ∨ j = 3 ∨ j = 4 ∨ j = 5 ∨ j = 6 by omega) with rfl | rfl | rfl | rfl | rfl | rfl | rfl
    · exact e2_0
    · exact e2_1
    · exact e2_2
    · exact e2_3
    · exact e2_4
    · exact e2_5
    · exact e2_6
  exact mfail_inv hf
def f_J12_newLength (i0 : Int32) (i1 : Int32) (i2 : Int32) : hM Int32 :=
  mb (f_J0_max i1 i2) fun x1 => mi ((i0 + x1) ≤ (0 : Int32)) (mb (f_J12_hugeLength i0 i1) fun x3 => mret x3) (mi ((2147483639 : Int32) < (i0 + x1)) (mb (f_J12_hugeLength i0 i1) fun x5 => mret x5) (mret (i0 + x1)))
theorem nd_J12_newLength : yJ12_newLength.cls ≠ "java/lang/invoke/MethodHandle" ∧ yJ12_newLength.cls ≠ "java/lang/invoke/VarHandle" ∧ (parseMethodDescriptor yJ12_newLength.desc).map (fun d => d.parameters.length) = some 3 := by decide +kernel
set_option maxHeartbeats 4000000 in
theorem ct_J12_newLength (l : Launch) (i0 : Int32) (i1 : Int32) (i2 : Int32) : CT l yJ12_newLength cJ12_newLength 4 (some .int) 1 22 rvI [.int i0, .int i1, .int i2] (f_J12_newLength i0 i1 i2) := by
  refine CT_of (ls := [(0, .int i0), (1, .int i1), (2, .int i2)]) (by decide) (Nat.le_of_ble_eq_true rfl) rfl ?_
  intro X h he z hX hf C E hnm hh
  have hl := hle.rf he
  subst hX
  unfold f_J12_newLength at hf
  refine v_iload_n C 0 dJ12_newLength_0 rfl rfl ?_
  refine v_iload_n C 1 dJ12_newLength_1 rfl rfl ?_
  refine v_iload_n C 2 dJ12_newLength_2 rfl rfl ?_
  refine v_callS (stk := fun b => .int b :: [.int i0]) C (ct_J0_max _ i1 i2) nd_J0_max rfl (Nat.le_of_ble_eq_true rfl) (Nat.le_of_ble_eq_true rfl) [.int i0] (Nat.le_of_ble_eq_true rfl) (fun _ => rfl) rfl q896 q897 q98 q898 hf hl dJ12_newLength_3 (fun x1 h2 hf => ?_)
  refine v_iadd C dJ12_newLength_6 ?_
  refine v_istore_n (ls' := [(3, _), (0, _), (1, _), (2, _)]) C dJ12_newLength_7 rfl (by decide) rfl ?_
  refine v_iconst (x := 0) C dJ12_newLength_8 (by decide) ?_
  refine v_iload_n C 0 dJ12_newLength_9 rfl rfl ?_
  refine v_icmp_ge C hf (tgt := 21) dJ12_newLength_10 (by decide) (fun c10 hf => ?_) (fun c10 hf => ?_)
  · refine v_iload_n C 1 dJ12_newLength_21 rfl rfl ?_
    refine v_iload_n C 2 dJ12_newLength_22 rfl rfl ?_
    refine v_callS (stk := fun b => .int b :: []) C (ct_J12_hugeLength _ i0 i1) nd_J12_hugeLength rfl (Nat.le_of_ble_eq_true rfl) (Nat.le_of_ble_eq_true rfl) [] (Nat.le_of_ble_eq_true rfl) (fun _ => rfl) rfl q900 q901 q121 q902 hf hl dJ12_newLength_23 (fun x3 h4 hf => ?_)
    exact v_iret C E hf dJ12_newLength_26
  · refine v_iload_n C 0 dJ12_newLength_13 rfl rfl ?_
    refine v_ldc (x := 2147483639) C q899 dJ12_newLength_14 ?_
    refine v_icmp_gt C hf (tgt := 21) dJ12_newLength_16 (by decide) (fun c16 hf => ?_) (fun c16 hf => ?_)
    · refine v_iload_n C 1 dJ12_newLength_21 rfl rfl ?_
      refine v_iload_n C 2 dJ12_newLength_22 rfl rfl ?_
      refine v_callS (stk := fun b => .int b :: []) C (ct_J12_hugeLength _ i0 i1) nd_J12_hugeLength rfl (Nat.le_of_ble_eq_true rfl) (Nat.le_of_ble_eq_true rfl) [] (Nat.le_of_ble_eq_true rfl) (fun _ => rfl) rfl q900 q901 q121 q902 hf hl dJ12_newLength_23 (fun x5 h6 hf => ?_)
      exact v_iret C E hf dJ12_newLength_26
    · refine v_iload_n C 0 dJ12_newLength_19 rfl rfl ?_
      exact v_iret C E hf dJ12_newLength_20
def f_J2_copyOfRangeByte (a0 : Nat) (i1 : Int32) (i2 : Int32) : hM Nat :=
  mb (f_J2_checkLength i1 i2) fun _ => mb (newA 0 (i2 - i1)) fun x3 => mb (alen 0 a0) fun x5 => mb (f_J0_min (x5 - i1) (i2 - i1)) fun x6 => mb (cpI 0 a0 i1 x3 (0 : Int32) x6) fun _ => mret x3
theorem nd_J2_copyOfRangeByte : yJ2_copyOfRangeByte.cls ≠ "java/lang/invoke/MethodHandle" ∧ yJ2_copyOfRangeByte.cls ≠ "java/lang/invoke/VarHandle" ∧ (parseMethodDescriptor yJ2_copyOfRangeByte.desc).map (fun d => d.parameters.length) = some 3 := by decide +kernel
set_option maxHeartbeats 4000000 in
theorem ct_J2_copyOfRangeByte (l : Launch) (a0 : Nat) (i1 : Int32) (i2 : Int32) : CT l yJ2_copyOfRangeByte cJ2_copyOfRangeByte 5 (some (.array .byte)) 1 21 rvR [.ref a0, .int i1, .int i2] (f_J2_copyOfRangeByte a0 i1 i2) := by
  refine CT_of (ls := [(0, .ref a0), (1, .int i1), (2, .int i2)]) (by decide) (Nat.le_of_ble_eq_true rfl) rfl ?_
  intro X h he z hX hf C E hnm hh
  have hl := hle.rf he
  subst hX
  unfold f_J2_copyOfRangeByte at hf
  refine v_iload_n C 1 dJ2_copyOfRangeByte_0 rfl rfl ?_
  refine v_iload_n C 2 dJ2_copyOfRangeByte_1 rfl rfl ?_
  refine v_callS (stk := fun _ => []) C (ct_J2_checkLength _ i1 i2) nd_J2_checkLength rfl (Nat.le_of_ble_eq_true rfl) (Nat.le_of_ble_eq_true rfl) [] (Nat.le_of_ble_eq_true rfl) (fun _ => rfl) rfl q1040 q1041 q101 q1042 hf hl dJ2_copyOfRangeByte_2 (fun x1 h2 hf => ?_)
  refine v_iload_n C 2 dJ2_copyOfRangeByte_5 rfl rfl ?_
  refine v_iload_n C 1 dJ2_copyOfRangeByte_6 rfl rfl ?_
  refine v_isub C dJ2_copyOfRangeByte_7 ?_
  refine v_istore_n (ls' := [(3, _), (0, _), (1, _), (2, _)]) C dJ2_copyOfRangeByte_8 rfl (by decide) rfl ?_
  refine v_iload_n C 0 dJ2_copyOfRangeByte_9 rfl rfl ?_
  refine v_newarraybyte C hf hl q256 dJ2_copyOfRangeByte_10 (fun x3 h4 hf => ?_)
  refine v_astore (ls' := [(4, _), (3, _), (0, _), (1, _), (2, _)]) C dJ2_copyOfRangeByte_12 (by decide) rfl ?_
  refine v_aload_n C 2 dJ2_copyOfRangeByte_14 rfl rfl ?_
  refine v_iload_n C 3 dJ2_copyOfRangeByte_15 rfl rfl ?_
  refine v_aload C 0 dJ2_copyOfRangeByte_16 rfl ?_
  refine v_iconst (x := 0) C dJ2_copyOfRangeByte_18 (by decide) ?_
  refine v_aload_n C 2 dJ2_copyOfRangeByte_19 rfl rfl ?_
  refine v_alen C hf (by decide) dJ2_copyOfRangeByte_20 (fun x5 hf => ?_)
  refine v_iload_n C 3 dJ2_copyOfRangeByte_21 rfl rfl ?_
  refine v_isub C dJ2_copyOfRangeByte_22 ?_
  refine v_iload_n C 1 dJ2_copyOfRangeByte_23 rfl rfl ?_
  refine v_callS (stk := fun b => .int b :: [.int (0 : Int32), .ref x3, .int i1, .ref a0]) C (ct_J0_min _ (x5 - i1) (i2 - i1)) nd_J0_min rfl (Nat.le_of_ble_eq_true rfl) (Nat.le_of_ble_eq_true rfl) [.int (0 : Int32), .ref x3, .int i1, .ref a0] (Nat.le_of_ble_eq_true rfl) (fun _ => rfl) rfl q914 q771 q98 q772 hf hl dJ2_copyOfRangeByte_24 (fun x6 h7 hf => ?_)
  refine v_cpI C hf (by decide) (Nat.le_of_ble_eq_true rfl) (Nat.le_of_ble_eq_true rfl) q915 q917 q916 q128 dJ2_copyOfRangeByte_27 (fun h8 hf => ?_)
  refine v_aload C 0 dJ2_copyOfRangeByte_30 rfl ?_
  exact v_aret C E hf (Or.inr ⟨_, rfl⟩) dJ2_copyOfRangeByte_32
def l_J2_fill_2_10 (a0 : Nat) (i2 : Int32) (i3 : Int32) : Nat → Int32 → hM (Unit)
  | 0, _ => mfail
  | n + 1, i4 => mi (i2 ≤ i4) (mret ()) (mb (sI 0 a0 i4 i3) fun _ => l_J2_fill_2_10 a0 i2 i3 n (i4 + (1 : Int32)))
def f_J2_fill_2 (a0 : Nat) (i1 : Int32) (i2 : Int32) (i3 : Int32) : hM Unit :=
  mb (alen 0 a0) fun x1 => mb (f_J2_rangeCheck x1 i1 i2) fun _ => mb (l_J2_fill_2_10 a0 i2 i3 FU i1) fun x5 => mret ()
theorem nd_J2_fill_2 : yJ2_fill_2.cls ≠ "java/lang/invoke/MethodHandle" ∧ yJ2_fill_2.cls ≠ "java/lang/invoke/VarHandle" ∧ (parseMethodDescriptor yJ2_fill_2.desc).map (fun d => d.parameters.length) = some 4 := by decide +kernel
set_option maxHeartbeats 4000000 in
theorem ct_J2_fill_2 (l : Launch) (a0 : Nat) (i1 : Int32) (i2 : Int32) (i3 : Int32) : CT l yJ2_fill_2 cJ2_fill_2 5 none 1 22 rv0 [.ref a0, .int i1, .int i2, .int i3] (f_J2_fill_2 a0 i1 i2 i3) := by
  refine CT_of (ls := [(0, .ref a0), (1, .int i1), (2, .int i2), (3, .int i3)]) (by decide) (Nat.le_of_ble_eq_true rfl) rfl ?_
  intro X h he z hX hf C E hnm hh
  have hl := hle.rf he
  subst hX
  have L10 : ∀ (a0 : Nat) (i2 : Int32) (i3 : Int32) (n : Nat) (i4 : Int32) (h h1 : Hp) (o : Unit), (l_J2_fill_2_10 a0 i2 i3 n i4).1 h = some (o, h1) → hle h1 he → V X h1 27 [] [] → V X h 10 [(0, .ref a0), (2, .int i2), (3, .int i3), (4, .int i4)] [] := by
    intro a0 i2 i3 n
    induction n with
    | zero => intro i4 h h1 o hf; exact mfail_inv hf
    | succ n ih =>
      intro i4 h h1 o hf hl J
      rw [l_J2_fill_2_10] at hf
      refine v_iload C 3 dJ2_fill_2_10 rfl ?_
      refine v_iload_n C 1 dJ2_fill_2_12 rfl rfl ?_
      refine v_icmp_ge C hf (tgt := 27) dJ2_fill_2_13 (by decide) (fun c13 hf => ?_) (fun c13 hf => ?_)
      · obtain ⟨e1, rfl⟩ := mret_inv hf
        subst e1
        exact v_sub (ls' := _) [] rfl J
      · refine v_aload_n C 0 dJ2_fill_2_16 rfl rfl ?_
        refine v_iload C 3 dJ2_fill_2_17 rfl ?_
        refine v_iload_n C 2 dJ2_fill_2_19 rfl rfl ?_
        refine v_bastore C hf dJ2_fill_2_20 (fun h4 hf => ?_)
        refine v_iinc (ls' := [(4, _), (0, _), (2, _), (3, _)]) (y := i4 + (1 : Int32)) C 3 dJ2_fill_2_21 rfl rfl (by decide) rfl ?_
        refine v_goto (tgt := 10) C dJ2_fill_2_24 (by decide) ?_
        refine v_sub (ls' := _) [1, 2, 3, 0] rfl (ih (i4 + (1 : Int32)) _ _ _ hf hl J)
  unfold f_J2_fill_2 at hf
  refine v_aload_n C 0 dJ2_fill_2_0 rfl rfl ?_
  refine v_alen C hf (by decide) dJ2_fill_2_1 (fun x1 hf => ?_)
  refine v_iload_n C 1 dJ2_fill_2_2 rfl rfl ?_
  refine v_iload_n C 2 dJ2_fill_2_3 rfl rfl ?_
  refine v_callS (stk := fun _ => []) C (ct_J2_rangeCheck _ x1 i1 i2) nd_J2_rangeCheck rfl (Nat.le_of_ble_eq_true rfl) (Nat.le_of_ble_eq_true rfl) [] (Nat.le_of_ble_eq_true rfl) (fun _ => rfl) rfl q1322 q1323 q101 q1324 hf hl dJ2_fill_2_4 (fun x2 h3 hf => ?_)
  refine v_iload_n C 1 dJ2_fill_2_7 rfl rfl ?_
  refine v_istore (ls' := [(4, _), (0, _), (1, _), (2, _), (3, _)]) C dJ2_fill_2_8 (by decide) rfl ?_
  obtain ⟨x5, h6, eh6, hf, hlh6⟩ := mb_inv hf hl
  refine v_sub (ls' := _) [1, 3, 4, 0] rfl (L10 a0 i2 i3 FU i1 _ _ _ eh6 hlh6 ?_)
  exact v_vret C E hf dJ2_fill_2_27
def f_J3_newCapacity (a0 : Nat) (i1 : Int32) : hM Int32 :=
  mb (gR a0 19 0) fun x1 => mb (alen 0 x1) fun x2 => mb (gI a0 19 1) fun x3 => mb (gI a0 19 1) fun x4 => mb (f_J12_newLength x2 ((i1 <<< (x3 &&& 31)) - x2) (x2 + ((2 : Int32) <<< (x4 &&& 31)))) fun x5 => mi (¬ x5 = (2147483647 : Int32)) (mb (gI a0 19 1) fun x7 => mret (x5 >>> (x7 &&& 31))) (mfail)
theorem nd_J3_newCapacity : yJ3_newCapacity.cls ≠ "java/lang/invoke/MethodHandle" ∧ yJ3_newCapacity.cls ≠ "java/lang/invoke/VarHandle" ∧ (parseMethodDescriptor yJ3_newCapacity.desc).map (fun d => d.parameters.length) = some 1 := by decide +kernel
set_option maxHeartbeats 4000000 in
theorem ct_J3_newCapacity (l : Launch) (a0 : Nat) (i1 : Int32) : CT l yJ3_newCapacity cJ3_newCapacity 6 (some .int) 2 45 rvI [.ref a0, .int i1] (f_J3_newCapacity a0 i1) := by
  refine CT_of (ls := [(0, .ref a0), (1, .int i1)]) (by decide) (Nat.le_of_ble_eq_true rfl) rfl ?_
  intro X h he z hX hf C E hnm hh
  have hl := hle.rf he
  subst hX
  unfold f_J3_newCapacity at hf
  refine v_aload_n C 0 dJ3_newCapacity_0 rfl rfl ?_
  refine v_gR (Cn := RJ4) (T := TJ4) (N := 4) C hf in_J4 rfl (by decide) q376 rfl dJ3_newCapacity_1 (fun x1 hf => ?_)
  refine v_alen C hf (by decide) dJ3_newCapacity_4 (fun x2 hf => ?_)
  refine v_istore_n (ls' := [(2, _), (0, _), (1, _)]) C dJ3_newCapacity_5 rfl (by decide) rfl ?_
  refine v_iload_n C 2 dJ3_newCapacity_6 rfl rfl ?_
  refine v_aload_n C 1 dJ3_newCapacity_7 rfl rfl ?_
  refine v_gI (Cn := RJ4) (T := TJ4) (N := 4) C hf in_J4 rfl (by decide) q377 rfl dJ3_newCapacity_8 (fun x3 hf => ?_)
  refine v_ishl C dJ3_newCapacity_11 ?_
  refine v_istore_n (ls' := [(3, _), (2, _), (0, _), (1, _)]) C dJ3_newCapacity_12 rfl (by decide) rfl ?_
  refine v_iload_n C 0 dJ3_newCapacity_13 rfl rfl ?_
  refine v_iload_n C 1 dJ3_newCapacity_14 rfl rfl ?_
  refine v_isub C dJ3_newCapacity_15 ?_
  refine v_istore (ls' := [(4, _), (3, _), (2, _), (0, _), (1, _)]) C dJ3_newCapacity_16 (by decide) rfl ?_
  refine v_iload_n C 2 dJ3_newCapacity_18 rfl rfl ?_
  refine v_iload C 0 dJ3_newCapacity_19 rfl ?_
  refine v_iload_n C 2 dJ3_newCapacity_21 rfl rfl ?_
  refine v_iconst (x := 2) C dJ3_newCapacity_22 (by decide) ?_
  refine v_aload_n C 3 dJ3_newCapacity_23 rfl rfl ?_
  refine v_gI (Cn := RJ4) (T := TJ4) (N := 4) C hf in_J4 rfl (by decide) q377 rfl dJ3_newCapacity_24 (fun x4 hf => ?_)
  refine v_ishl C dJ3_newCapacity_27 ?_
  refine v_iadd C dJ3_newCapacity_28 ?_
  refine v_callS (stk := fun b => .int b :: []) C (ct_J12_newLength _ x2 ((i1 <<< (x3 &&& 31)) - x2) (x2 + ((2 : Int32) <<< (x4 &&& 31)))) nd_J12_newLength rfl (Nat.le_of_ble_eq_true rfl) (Nat.le_of_ble_eq_true rfl) [] (Nat.le_of_ble_eq_true rfl) (fun _ => rfl) rfl q893 q894 q121 q895 hf hl dJ3_newCapacity_29 (fun x5 h6 hf => ?_)
  refine v_istore (ls' := [(5, _), (4, _), (3, _), (2, _), (0, _), (1, _)]) C dJ3_newCapacity_32 (by decide) rfl ?_
  refine v_iload C 0 dJ3_newCapacity_34 rfl ?_
  refine v_ldc (x := 2147483647) C q903 dJ3_newCapacity_36 ?_
  refine v_icmp_ne C hf (tgt := 51) dJ3_newCapacity_38 (by decide) (fun c38 hf => ?_) (fun c38 hf => ?_)
  · refine v_iload C 0 dJ3_newCapacity_51 rfl ?_
    refine v_aload_n C 4 dJ3_newCapacity_53 rfl rfl ?_
    refine v_gI (Cn := RJ4) (T := TJ4) (N := 4) C hf in_J4 rfl (by decide) q377 rfl dJ3_newCapacity_54 (fun x7 hf => ?_)
    refine v_ishr C dJ3_newCapacity_57 ?_
    exact v_iret C E hf dJ3_newCapacity_58
  · exact mfail_inv hf
def f_J5_length (a0 : Nat) : hM Int32 :=
  mb (gR a0 20 0) fun x1 => mb (alen 0 x1) fun x2 => mb (mat a0 20 (f_J5_coder a0)) fun x3 => mret (x2 >>> (x3 &&& 31))
theorem nd_J5_length : yJ5_length.cls ≠ "java/lang/invoke/MethodHandle" ∧ yJ5_length.cls ≠ "java/lang/invoke/VarHandle" ∧ (parseMethodDescriptor yJ5_length.desc).map (fun d => d.parameters.length) = some 0 := by decide +kernel
set_option maxHeartbeats 4000000 in
theorem ct_J5_length (l : Launch) (a0 : Nat) : CT l yJ5_length cJ5_length 1 (some .int) 1 20 rvI [.ref a0] (f_J5_length a0) := by
  refine CT_of (ls := [(0, .ref a0)]) (by decide) (Nat.le_of_ble_eq_true rfl) rfl ?_
  intro X h he z hX hf C E hnm hh
  have hl := hle.rf he
  subst hX
  unfold f_J5_length at hf
  refine v_aload_n C 0 dJ5_length_0 rfl rfl ?_
  refine v_gR (Cn := RJ5) (T := TJ5) (N := 4) C hf in_J5 rfl (by decide) q1053 rfl dJ5_length_1 (fun x1 hf => ?_)
  refine v_alen C hf (by decide) dJ5_length_4 (fun x2 hf => ?_)
  refine v_aload_n C 0 dJ5_length_5 rfl rfl ?_
  refine v_callV (stk := fun b => .int b :: [.int x2]) C (ct_J5_coder _ a0) (show clG[20]? = some (RJ5, TJ5, 4) from rfl) ⟨rfl, nd_J5_coder⟩ rfl (Nat.le_of_ble_eq_true rfl) (Nat.le_of_ble_eq_true rfl) [.int x2] (Nat.le_of_ble_eq_true rfl) (fun _ => rfl) rfl q944 q945 q946 q107 q947 hf hl dJ5_length_6 (fun x3 h4 hf => ?_)
  refine v_ishr C dJ5_length_9 ?_
  exact v_iret C E hf dJ5_length_10
def f_J6_newBytesFor (i0 : Int32) : hM Nat :=
  mb (f_J6_newBytesLength i0) fun x1 => mb (newA 0 x1) fun x3 => mret x3
theorem nd_J6_newBytesFor : yJ6_newBytesFor.cls ≠ "java/lang/invoke/MethodHandle" ∧ yJ6_newBytesFor.cls ≠ "java/lang/invoke/VarHandle" ∧ (parseMethodDescriptor yJ6_newBytesFor.desc).map (fun d => d.parameters.length) = some 1 := by decide +kernel
set_option maxHeartbeats 4000000 in
theorem ct_J6_newBytesFor (l : Launch) (i0 : Int32) : CT l yJ6_newBytesFor cJ6_newBytesFor 1 (some (.array .byte)) 1 20 rvR [.int i0] (f_J6_newBytesFor i0) := by
  refine CT_of (ls := [(0, .int i0)]) (by decide) (Nat.le_of_ble_eq_true rfl) rfl ?_
  intro X h he z hX hf C E hnm hh
  have hl := hle.rf he
  subst hX
  unfold f_J6_newBytesFor at hf
  refine v_iload_n C 0 dJ6_newBytesFor_0 rfl rfl ?_
  refine v_callS (stk := fun b => .int b :: []) C (ct_J6_newBytesLength _ i0) nd_J6_newBytesLength rfl (Nat.le_of_ble_eq_true rfl) (Nat.le_of_ble_eq_true rfl) [] (Nat.le_of_ble_eq_true rfl) (fun _ => rfl) rfl q291 q292 q108 q293 hf hl dJ6_newBytesFor_1 (fun x1 h2 hf => ?_)
  refine v_newarraybyte C hf hl q256 dJ6_newBytesFor_4 (fun x3 h4 hf => ?_)
  exact v_aret C E hf (Or.inr ⟨_, rfl⟩) dJ6_newBytesFor_6
def f_J6_getChar (a0 : Nat) (i1 : Int32) : hM Int32 :=
  mi (¬ (1 : Int32) = 0) (mb (aI 0 a0 (i1 <<< ((1 : Int32) &&& 31))) fun x1 => mb (aI 0 a0 ((i1 <<< ((1 : Int32) &&& 31)) + (1 : Int32))) fun x2 => mrt .char (ji2c (((x1 &&& (255 : Int32)) <<< ((0 : Int32) &&& 31)) ||| ((x2 &&& (255 : Int32)) <<< ((8 : Int32) &&& 31))))) (mi (i1 < 0) (mfail) (mb (f_J6_length a0) fun x3 => mi (i1 < x3) (mb (aI 0 a0 (i1 <<< ((1 : Int32) &&& 31))) fun x5 => mb (aI 0 a0 ((i1 <<< ((1 : Int32) &&& 31)) + (1 : Int32))) fun x6 => mrt .char (ji2c (((x5 &&& (255 : Int32)) <<< ((0 : Int32) &&& 31)) ||| ((x6 &&& (255 : Int32)) <<< ((8 : Int32) &&& 31))))) (mfail)))
theorem nd_J6_getChar : yJ6_getChar.cls ≠ "java/lang/invoke/MethodHandle" ∧ yJ6_getChar.cls ≠ "java/lang/invoke/VarHandle" ∧ (parseMethodDescriptor yJ6_getChar.desc).map (fun d => d.parameters.length) = some 2 := by decide +kernel
set_option maxHeartbeats 4000000 in
theorem ct_J6_getChar (l : Launch) (a0 : Nat) (i1 : Int32) : CT l yJ6_getChar cJ6_getChar 2 (some .char) 1 20 rvI [.ref a0, .int i1] (f_J6_getChar a0 i1) := by
  refine CT_of (ls := [(0, .ref a0), (1, .int i1)]) (by decide) (Nat.le_of_ble_eq_true rfl) rfl ?_
  intro X h he z hX hf C E hnm hh
  have hl := hle.rf he
  subst hX
  unfold f_J6_getChar at hf
  refine v_getsI (z := 1) C q561 q108 nw_1 q560 rfl dJ6_getChar_0 ?_
  refine v_if_ne C hf (tgt := 28) dJ6_getChar_3 (by decide) (fun c3 hf => ?_) (fun c3 hf => ?_)
  · refine v_iload_n C 1 dJ6_getChar_28 rfl rfl ?_
    refine v_iconst (x := 1) C dJ6_getChar_29 (by decide) ?_
    refine v_ishl C dJ6_getChar_30 ?_
    refine v_istore_n (ls' := [(1, _), (0, _)]) C dJ6_getChar_31 rfl (by decide) rfl ?_
    refine v_aload_n C 1 dJ6_getChar_32 rfl rfl ?_
    refine v_iload_n C 0 dJ6_getChar_33 rfl rfl ?_
    refine v_iinc (ls' := [(1, _), (0, _)]) (y := (i1 <<< ((1 : Int32) &&& 31)) + (1 : Int32)) C 0 dJ6_getChar_34 rfl rfl (by decide) rfl ?_
    refine v_baload C hf dJ6_getChar_37 (fun x1 hf => ?_)
    refine v_sipush (x := 255) C dJ6_getChar_38 (by decide) ?_
    refine v_iand C dJ6_getChar_41 ?_
    refine v_getsI (z := 0) C q566 q108 nw_2 q565 rfl dJ6_getChar_42 ?_
    refine v_ishl C dJ6_getChar_45 ?_
    refine v_aload_n C 1 dJ6_getChar_46 rfl rfl ?_
    refine v_iload_n C 0 dJ6_getChar_47 rfl rfl ?_
    refine v_baload C hf dJ6_getChar_48 (fun x2 hf => ?_)
    refine v_sipush (x := 255) C dJ6_getChar_49 (by decide) ?_
    refine v_iand C dJ6_getChar_52 ?_
    refine v_getsI (z := 8) C q568 q108 nw_3 q567 rfl dJ6_getChar_53 ?_
    refine v_ishl C dJ6_getChar_56 ?_
    refine v_ior C dJ6_getChar_57 ?_
    refine v_i2c C dJ6_getChar_58 ?_
    exact v_zret C E hf dJ6_getChar_59
  · refine v_iload_n C 1 dJ6_getChar_6 rfl rfl ?_
    refine v_if_lt C hf (tgt := 18) dJ6_getChar_7 (by decide) (fun c7 hf => ?_) (fun c7 hf => ?_)
    · exact mfail_inv hf
    · refine v_iload_n C 1 dJ6_getChar_10 rfl rfl ?_
      refine v_aload_n C 0 dJ6_getChar_11 rfl rfl ?_
      refine v_callS (stk := fun b => .int b :: [.int i1]) C (ct_J6_length _ a0) nd_J6_length rfl (Nat.le_of_ble_eq_true rfl) (Nat.le_of_ble_eq_true rfl) [.int i1] (Nat.le_of_ble_eq_true rfl) (fun _ => rfl) rfl q562 q563 q108 q564 hf hl dJ6_getChar_12 (fun x3 h4 hf => ?_)
      refine v_icmp_lt C hf (tgt := 28) dJ6_getChar_15 (by decide) (fun c15 hf => ?_) (fun c15 hf => ?_)
      · refine v_iload_n C 1 dJ6_getChar_28 rfl rfl ?_
        refine v_iconst (x := 1) C dJ6_getChar_29 (by decide) ?_
        refine v_ishl C dJ6_getChar_30 ?_
        refine v_istore_n (ls' := [(1, _), (0, _)]) C dJ6_getChar_31 rfl (by decide) rfl ?_
        refine v_aload_n C 1 dJ6_getChar_32 rfl rfl ?_
        refine v_iload_n C 0 dJ6_getChar_33 rfl rfl ?_
        refine v_iinc (ls' := [(1, _), (0, _)]) (y := (i1 <<< ((1 : Int32) &&& 31)) + (1 : Int32)) C 0 dJ6_getChar_34 rfl rfl (by decide) rfl ?_
        refine v_baload C hf dJ6_getChar_37 (fun x5 hf => ?_)
        refine v_sipush (x := 255) C dJ6_getChar_38 (by decide) ?_
        refine v_iand C dJ6_getChar_41 ?_
        refine v_getsI (z := 0) C q566 q108 nw_2 q565 rfl dJ6_getChar_42 ?_
        refine v_ishl C dJ6_getChar_45 ?_
        refine v_aload_n C 1 dJ6_getChar_46 rfl rfl ?_
        refine v_iload_n C 0 dJ6_getChar_47 rfl rfl ?_
        refine v_baload C hf dJ6_getChar_48 (fun x6 hf => ?_)
        refine v_sipush (x := 255) C dJ6_getChar_49 (by decide) ?_
        refine v_iand C dJ6_getChar_52 ?_
        refine v_getsI (z := 8) C q568 q108 nw_3 q567 rfl dJ6_getChar_53 ?_
        refine v_ishl C dJ6_getChar_56 ?_
        refine v_ior C dJ6_getChar_57 ?_
        refine v_i2c C dJ6_getChar_58 ?_
        exact v_zret C E hf dJ6_getChar_59
      · exact mfail_inv hf
def f_J6_hashCode (a0 : Nat) : hM Int32 :=
  mb (alen 0 a0) fun x1 => mb (mi (x1 = 0) (mret (0 : Int32)) (mi (x1 = 2) (mb (f_J6_getChar a0 (0 : Int32)) fun x4 => mret x4) (mb (alen 0 a0) fun x6 => mb (f_J12_vectorizedHashCode a0 (0 : Int32) (x6 >>> ((1 : Int32) &&& 31)) (0 : Int32) (5 : Int32)) fun x7 => mret x7))) fun x2 => mret x2
theorem nd_J6_hashCode : yJ6_hashCode.cls ≠ "java/lang/invoke/MethodHandle" ∧ yJ6_hashCode.cls ≠ "java/lang/invoke/VarHandle" ∧ (parseMethodDescriptor yJ6_hashCode.desc).map (fun d => d.parameters.length) = some 1 := by decide +kernel
set_option maxHeartbeats 4000000 in
theorem ct_J6_hashCode (l : Launch) (a0 : Nat) : CT l yJ6_hashCode cJ6_hashCode 1 (some .int) 2 49 rvI [.ref a0] (f_J6_hashCode a0) := by
  refine CT_of (ls := [(0, .ref a0)]) (by decide) (Nat.le_of_ble_eq_true rfl) rfl ?_
  intro X h he z hX hf C E hnm hh
  have hl := hle.rf he
  subst hX
  unfold f_J6_hashCode at hf
  refine v_aload_n C 0 dJ6_hashCode_0 rfl rfl ?_
  refine v_alen C hf (by decide) dJ6_hashCode_1 (fun x1 hf => ?_)
  obtain ⟨x2, h3, hAh3, hf, hlh3⟩ := mb_inv hf hl
  refine v_cut (h1 := h3) (pc1 := 51) (ls1 := []) (st1 := [.int x2]) ?_ (fun Jh3 => ?_)
  · clear hAh3 hlh3
    exact v_iret C E hf dJ6_hashCode_51
  · clear hf
    have hf := hAh3
    have hl := hlh3
    by_cases e2_0 : x1 = 0
    · have hf := mi_pos e2_0 hf
      refine v_lswI C (k := 0) e2_0 dJ6_hashCode_2 (by decide) rfl (tgt := 28) (by decide) ?_
      refine v_iconst (x := 0) C dJ6_hashCode_28 (by decide) ?_
      refine v_goto (tgt := 51) C dJ6_hashCode_29 (by decide) ?_
      obtain ⟨e1, rfl⟩ := mret_inv hf
      subst e1
      exact v_sub (ls' := _) [] rfl Jh3
    have hf := mi_neg e2_0 hf
    by_cases e2_1 : x1 = 2
    · have hf := mi_pos e2_1 hf
      refine v_lswI C (k := 2) e2_1 dJ6_hashCode_2 (by decide) rfl (tgt := 32) (by decide) ?_
      refine v_aload_n C 0 dJ6_hashCode_32 rfl rfl ?_
      refine v_iconst (x := 0) C dJ6_hashCode_33 (by decide) ?_
      refine v_callS (stk := fun b => .int b :: []) C (ct_J6_getChar _ a0 (0 : Int32)) nd_J6_getChar rfl (Nat.le_of_ble_eq_true rfl) (Nat.le_of_ble_eq_true rfl) [] (Nat.le_of_ble_eq_true rfl) (fun _ => rfl) rfl q587 q558 q108 q559 hf hl dJ6_hashCode_34 (fun x4 h5 hf => ?_)
      refine v_goto (tgt := 51) C dJ6_hashCode_37 (by decide) ?_
      obtain ⟨e1, rfl⟩ := mret_inv hf
      subst e1
      exact v_sub (ls' := _) [] rfl Jh3
    have hf := mi_neg e2_1 hf
    refine v_lswO C dJ6_hashCode_2 ⟨lv_neT e2_0 (by decide), lv_neT e2_1 (by decide), trivial⟩ (by decide) (tgt := 40) (by decide) ?_
    refine v_aload_n C 0 dJ6_hashCode_40 rfl rfl ?_
    refine v_iconst (x := 0) C dJ6_hashCode_41 (by decide) ?_
    refine v_aload_n C 0 dJ6_hashCode_42 rfl rfl ?_
    refine v_alen C hf (by decide) dJ6_hashCode_43 (fun x6 hf => ?_)
    refine v_iconst (x := 1) C dJ6_hashCode_44 (by decide) ?_
    refine v_ishr C dJ6_hashCode_45 ?_
    refine v_iconst (x := 0) C dJ6_hashCode_46 (by decide) ?_
    refine v_iconst (x := 5) C dJ6_hashCode_47 (by decide) ?_
    refine v_callS (stk := fun b => .int b :: []) C (ct_J12_vectorizedHashCode _ a0 (0 : Int32) (x6 >>> ((1 : Int32) &&& 31)) (0 : Int32) (5 : Int32)) nd_J12_vectorizedHashCode rfl (Nat.le_of_ble_eq_true rfl) (Nat.le_of_ble_eq_true rfl) [] (Nat.le_of_ble_eq_true rfl) (fun _ => rfl) rfl q588 q536 q121 q537 hf hl dJ6_hashCode_48 (fun x7 h8 hf => ?_)
    obtain ⟨e1, rfl⟩ := mret_inv hf
    subst e1
    exact v_sub (ls' := _) [] rfl Jh3
def l_J6_inflate_10 (a0 : Nat) (a2 : Nat) (i4 : Int32) : Nat → Int32 → Int32 → Int32 → hM (Unit)
  | 0, _, _, _ => mfail
  | n + 1, i1, i3, i5 => mi (i4 ≤ i5) (mret ()) (mb (aI 0 a0 i1) fun x3 => mb (f_J6_putChar a2 i3 (x3 &&& (255 : Int32))) fun _ => l_J6_inflate_10 a0 a2 i4 n (i1 + (1 : Int32)) (i3 + (1 : Int32)) (i5 + (1 : Int32)))
def f_J6_inflate (a0 : Nat) (i1 : Int32) (a2 : Nat) (i3 : Int32) (i4 : Int32) : hM Unit :=
  mb (f_J6_checkBoundsOffCount i3 i4 a2) fun _ => mb (l_J6_inflate_10 a0 a2 i4 FU i1 i3 (0 : Int32)) fun x6 => mret ()
theorem nd_J6_inflate : yJ6_inflate.cls ≠ "java/lang/invoke/MethodHandle" ∧ yJ6_inflate.cls ≠ "java/lang/invoke/VarHandle" ∧ (parseMethodDescriptor yJ6_inflate.desc).map (fun d => d.parameters.length) = some 5 := by decide +kernel
set_option maxHeartbeats 4000000 in
theorem ct_J6_inflate (l : Launch) (a0 : Nat) (i1 : Int32) (a2 : Nat) (i3 : Int32) (i4 : Int32) : CT l yJ6_inflate cJ6_inflate 6 none 2 44 rv0 [.ref a0, .int i1, .ref a2, .int i3, .int i4] (f_J6_inflate a0 i1 a2 i3 i4) := by
  refine CT_of (ls := [(0, .ref a0), (1, .int i1), (2, .ref a2), (3, .int i3), (4, .int i4)]) (by decide) (Nat.le_of_ble_eq_true rfl) rfl ?_
  intro X h he z hX hf C E hnm hh
  have hl := hle.rf he
  subst hX
  have L10 : ∀ (a0 : Nat) (a2 : Nat) (i4 : Int32) (n : Nat) (i1 : Int32) (i3 : Int32) (i5 : Int32) (h h1 : Hp) (o : Unit), (l_J6_inflate_10 a0 a2 i4 n i1 i3 i5).1 h = some (o, h1) → hle h1 he → V X h1 41 [] [] → V X h 10 [(0, .ref a0), (1, .int i1), (2, .ref a2), (3, .int i3), (4, .int i4), (5, .int i5)] [] := by
    intro a0 a2 i4 n
    induction n with
    | zero => intro i1 i3 i5 h h1 o hf; exact mfail_inv hf
    | succ n ih =>
      intro i1 i3 i5 h h1 o hf hl J
      rw [l_J6_inflate_10] at hf
      refine v_iload C 5 dJ6_inflate_10 rfl ?_
      refine v_iload C 4 dJ6_inflate_12 rfl ?_
      refine v_icmp_ge C hf (tgt := 41) dJ6_inflate_14 (by decide) (fun c14 hf => ?_) (fun c14 hf => ?_)
      · obtain ⟨e1, rfl⟩ := mret_inv hf
        subst e1
        exact v_sub (ls' := _) [] rfl J
      · refine v_aload_n C 2 dJ6_inflate_17 rfl rfl ?_
        refine v_iload_n C 3 dJ6_inflate_18 rfl rfl ?_
        refine v_iinc (ls' := [(3, _), (0, _), (1, _), (2, _), (4, _), (5, _)]) (y := i3 + (1 : Int32)) C 3 dJ6_inflate_19 rfl rfl (by decide) rfl ?_
        refine v_aload_n C 1 dJ6_inflate_22 rfl rfl ?_
        refine v_iload_n C 2 dJ6_inflate_23 rfl rfl ?_
        refine v_iinc (ls' := [(1, _), (3, _), (0, _), (2, _), (4, _), (5, _)]) (y := i1 + (1 : Int32)) C 2 dJ6_inflate_24 rfl rfl (by decide) rfl ?_
        refine v_baload C hf dJ6_inflate_27 (fun x3 hf => ?_)
        refine v_sipush (x := 255) C dJ6_inflate_28 (by decide) ?_
        refine v_iand C dJ6_inflate_31 ?_
        refine v_callS (stk := fun _ => []) C (ct_J6_putChar _ a2 i3 (x3 &&& (255 : Int32))) nd_J6_putChar rfl (Nat.le_of_ble_eq_true rfl) (Nat.le_of_ble_eq_true rfl) [] (Nat.le_of_ble_eq_true rfl) (fun _ => rfl) rfl q937 q938 q108 q939 hf hl dJ6_inflate_32 (fun x4 h5 hf => ?_)
        refine v_iinc (ls' := [(5, _), (1, _), (3, _), (0, _), (2, _), (4, _)]) (y := i5 + (1 : Int32)) C 5 dJ6_inflate_35 rfl rfl (by decide) rfl ?_
        refine v_goto (tgt := 10) C dJ6_inflate_38 (by decide) ?_
        refine v_sub (ls' := _) [3, 1, 4, 2, 5, 0] rfl (ih (i1 + (1 : Int32)) (i3 + (1 : Int32)) (i5 + (1 : Int32)) _ _ _ hf hl J)
  unfold f_J6_inflate at hf
  refine v_iload_n C 3 dJ6_inflate_0 rfl rfl ?_
  refine v_iload C 4 dJ6_inflate_1 rfl ?_
  refine v_aload_n C 2 dJ6_inflate_3 rfl rfl ?_
  refine v_callS (stk := fun _ => []) C (ct_J6_checkBoundsOffCount _ i3 i4 a2) nd_J6_checkBoundsOffCount rfl (Nat.le_of_ble_eq_true rfl) (Nat.le_of_ble_eq_true rfl) [] (Nat.le_of_ble_eq_true rfl) (fun _ => rfl) rfl q967 q968 q108 q969 hf hl dJ6_inflate_4 (fun x1 h2 hf => ?_)
  refine v_iconst (x := 0) C dJ6_inflate_7 (by decide) ?_
  refine v_istore (ls' := [(5, _), (0, _), (1, _), (2, _), (3, _), (4, _)]) C dJ6_inflate_8 (by decide) rfl ?_
  obtain ⟨x6, h7, eh7, hf, hlh7⟩ := mb_inv hf hl
  refine v_sub (ls' := _) [1, 2, 3, 4, 5, 0] rfl (L10 a0 a2 i4 FU i1 i3 (0 : Int32) _ _ _ eh7 hlh7 ?_)
  exact v_vret C E hf dJ6_inflate_41
def f_J6_getChars (i0 : Int32) (i1 : Int32) (i2 : Int32) (a3 : Nat) : hM Int32 :=
  mb (f_J6_checkBoundsBeginEnd i1 i2 a3) fun _ => mb (f_J6_getChars_2 i0 i2 a3) fun x3 => mi (¬ (1 : Int32) = 0) (mret x3) (mi (i1 = x3) (mret x3) (mfail))
theorem nd_J6_getChars : yJ6_getChars.cls ≠ "java/lang/invoke/MethodHandle" ∧ yJ6_getChars.cls ≠ "java/lang/invoke/VarHandle" ∧ (parseMethodDescriptor yJ6_getChars.desc).map (fun d => d.parameters.length) = some 4 := by decide +kernel
set_option maxHeartbeats 4000000 in
theorem ct_J6_getChars (l : Launch) (i0 : Int32) (i1 : Int32) (i2 : Int32) (a3 : Nat) : CT l yJ6_getChars cJ6_getChars 5 (some .int) 3 68 rvI [.int i0, .int i1, .int i2, .ref a3] (f_J6_getChars i0 i1 i2 a3) := by
  refine CT_of (ls := [(0, .int i0), (1, .int i1), (2, .int i2), (3, .ref a3)]) (by decide) (Nat.le_of_ble_eq_true rfl) rfl ?_
  intro X h he z hX hf C E hnm hh
  have hl := hle.rf he
  subst hX
  unfold f_J6_getChars at hf
  refine v_iload_n C 1 dJ6_getChars_0 rfl rfl ?_
  refine v_iload_n C 2 dJ6_getChars_1 rfl rfl ?_
  refine v_aload_n C 3 dJ6_getChars_2 rfl rfl ?_
  refine v_callS (stk := fun _ => []) C (ct_J6_checkBoundsBeginEnd _ i1 i2 a3) nd_J6_checkBoundsBeginEnd rfl (Nat.le_of_ble_eq_true rfl) (Nat.le_of_ble_eq_true rfl) [] (Nat.le_of_ble_eq_true rfl) (fun _ => rfl) rfl q926 q927 q108 q928 hf hl dJ6_getChars_3 (fun x1 h2 hf => ?_)
  refine v_iload_n C 0 dJ6_getChars_6 rfl rfl ?_
  refine v_iload_n C 2 dJ6_getChars_7 rfl rfl ?_
  refine v_aload_n C 3 dJ6_getChars_8 rfl rfl ?_
  refine v_callS (stk := fun b => .int b :: []) C (ct_J6_getChars_2 _ i0 i2 a3) nd_J6_getChars_2 rfl (Nat.le_of_ble_eq_true rfl) (Nat.le_of_ble_eq_true rfl) [] (Nat.le_of_ble_eq_true rfl) (fun _ => rfl) rfl q1002 q1003 q108 q1004 hf hl dJ6_getChars_9 (fun x3 h4 hf => ?_)
  refine v_istore (ls' := [(4, _), (0, _), (1, _), (2, _), (3, _)]) C dJ6_getChars_12 (by decide) rfl ?_
  refine v_getsI (z := 1) C q561 q108 nw_1 q560 rfl dJ6_getChars_14 ?_
  refine v_if_ne C hf (tgt := 34) dJ6_getChars_17 (by decide) (fun c17 hf => ?_) (fun c17 hf => ?_)
  · refine v_iload C 0 dJ6_getChars_34 rfl ?_
    exact v_iret C E hf dJ6_getChars_36
  · refine v_iload_n C 2 dJ6_getChars_20 rfl rfl ?_
    refine v_iload C 0 dJ6_getChars_21 rfl ?_
    refine v_icmp_eq C hf (tgt := 34) dJ6_getChars_23 (by decide) (fun c23 hf => ?_) (fun c23 hf => ?_)
    · refine v_iload C 0 dJ6_getChars_34 rfl ?_
      exact v_iret C E hf dJ6_getChars_36
    · exact mfail_inv hf
def l_J6_compress_2_10 (a0 : Nat) (a2 : Nat) (i4 : Int32) : Nat → Int32 → Int32 → Int32 → hM ((Unit) ⊕ (Int32))
  | 0, _, _, _ => mfail
  | n + 1, i1, i3, i5 => mi (i4 ≤ i5) (mret (Sum.inl ())) (mb (f_J6_getChar a0 i1) fun x3 => mi (x3 ≤ (255 : Int32)) (mb (sI 0 a2 i3 x3.toInt8.toInt32) fun _ => l_J6_compress_2_10 a0 a2 i4 n (i1 + (1 : Int32)) (i3 + (1 : Int32)) (i5 + (1 : Int32))) (mret (Sum.inr i5)))
def f_J6_compress_2 (a0 : Nat) (i1 : Int32) (a2 : Nat) (i3 : Int32) (i4 : Int32) : hM Int32 :=
  mb (f_J6_checkBoundsOffCount i1 i4 a0) fun _ => mbs (l_J6_compress_2_10 a0 a2 i4 FU i1 i3 (0 : Int32)) (fun x6 => mret i4) id
theorem nd_J6_compress_2 : yJ6_compress_2.cls ≠ "java/lang/invoke/MethodHandle" ∧ yJ6_compress_2.cls ≠ "java/lang/invoke/VarHandle" ∧ (parseMethodDescriptor yJ6_compress_2.desc).map (fun d => d.parameters.length) = some 5 := by decide +kernel
set_option maxHeartbeats 4000000 in
theorem ct_J6_compress_2 (l : Launch) (a0 : Nat) (i1 : Int32) (a2 : Nat) (i3 : Int32) (i4 : Int32) : CT l yJ6_compress_2 cJ6_compress_2 7 (some .int) 2 44 rvI [.ref a0, .int i1, .ref a2, .int i3, .int i4] (f_J6_compress_2 a0 i1 a2 i3 i4) := by
  refine CT_of (ls := [(0, .ref a0), (1, .int i1), (2, .ref a2), (3, .int i3), (4, .int i4)]) (by decide) (Nat.le_of_ble_eq_true rfl) rfl ?_
  intro X h he z hX hf C E hnm hh
  have hl := hle.rf he
  subst hX
  have L10 : ∀ (a0 : Nat) (a2 : Nat) (i4 : Int32) (n : Nat) (i1 : Int32) (i3 : Int32) (i5 : Int32) (h h1 : Hp) (o : (Unit) ⊕ (Int32)), (l_J6_compress_2_10 a0 a2 i4 n i1 i3 i5).1 h = some (o, h1) → hle h1 he → (∀ b, o = Sum.inl b → V X h1 53 [(4, .int i4)] []) → (∀ c, o = Sum.inr c → (mret c).1 h1 = some (z, he)) → V X h 10 [(0, .ref a0), (1, .int i1), (2, .ref a2), (3, .int i3), (4, .int i4), (5, .int i5)] [] := by
    intro a0 a2 i4 n
    induction n with
    | zero => intro i1 i3 i5 h h1 o hf; exact mfail_inv hf
    | succ n ih =>
      intro i1 i3 i5 h h1 o hf hl J hret
      rw [l_J6_compress_2_10] at hf
      refine v_iload C 5 dJ6_compress_2_10 rfl ?_
      refine v_iload C 4 dJ6_compress_2_12 rfl ?_
      refine v_icmp_ge C hf (tgt := 53) dJ6_compress_2_14 (by decide) (fun c14 hf => ?_) (fun c14 hf => ?_)
      · obtain ⟨e1, rfl⟩ := mret_inv hf
        subst e1
        exact v_sub (ls' := _) [4] rfl (J _ rfl)
      · refine v_aload_n C 0 dJ6_compress_2_17 rfl rfl ?_
        refine v_iload_n C 1 dJ6_compress_2_18 rfl rfl ?_
        refine v_callS (stk := fun b => .int b :: []) C (ct_J6_getChar _ a0 i1) nd_J6_getChar rfl (Nat.le_of_ble_eq_true rfl) (Nat.le_of_ble_eq_true rfl) [] (Nat.le_of_ble_eq_true rfl) (fun _ => rfl) rfl q587 q558 q108 q559 hf hl dJ6_compress_2_19 (fun x3 h4 hf => ?_)
        refine v_istore (ls' := [(6, _), (0, _), (1, _), (2, _), (3, _), (4, _), (5, _)]) C dJ6_compress_2_22 (by decide) rfl ?_
        refine v_iload C 0 dJ6_compress_2_24 rfl ?_
        refine v_sipush (x := 255) C dJ6_compress_2_26 (by decide) ?_
        refine v_icmp_le C hf (tgt := 35) dJ6_compress_2_29 (by decide) (fun c29 hf => ?_) (fun c29 hf => ?_)
        · refine v_aload_n C 3 dJ6_compress_2_35 rfl rfl ?_
          refine v_iload_n C 4 dJ6_compress_2_36 rfl rfl ?_
          refine v_iload C 0 dJ6_compress_2_37 rfl ?_
          refine v_i2b C dJ6_compress_2_39 ?_
          refine v_bastore C hf dJ6_compress_2_40 (fun h5 hf => ?_)
          refine v_iinc (ls' := [(1, _), (6, _), (0, _), (2, _), (3, _), (4, _), (5, _)]) (y := i1 + (1 : Int32)) C 2 dJ6_compress_2_41 rfl rfl (by decide) rfl ?_
          refine v_iinc (ls' := [(3, _), (1, _), (6, _), (0, _), (2, _), (4, _), (5, _)]) (y := i3 + (1 : Int32)) C 4 dJ6_compress_2_44 rfl rfl (by decide) rfl ?_
          refine v_iinc (ls' := [(5, _), (3, _), (1, _), (6, _), (0, _), (2, _), (4, _)]) (y := i5 + (1 : Int32)) C 6 dJ6_compress_2_47 rfl rfl (by decide) rfl ?_
          refine v_goto (tgt := 10) C dJ6_compress_2_50 (by decide) ?_
          refine v_sub (ls' := _) [4, 2, 5, 1, 6, 0] rfl (ih (i1 + (1 : Int32)) (i3 + (1 : Int32)) (i5 + (1 : Int32)) _ _ _ hf hl J hret)
        · refine v_iload C 6 dJ6_compress_2_32 rfl ?_
          exact v_iret C E (mret_up hf hret) dJ6_compress_2_34
  unfold f_J6_compress_2 at hf
  refine v_iload_n C 1 dJ6_compress_2_0 rfl rfl ?_
  refine v_iload C 4 dJ6_compress_2_1 rfl ?_
  refine v_aload_n C 0 dJ6_compress_2_3 rfl rfl ?_
  refine v_callS (stk := fun _ => []) C (ct_J6_checkBoundsOffCount _ i1 i4 a0) nd_J6_checkBoundsOffCount rfl (Nat.le_of_ble_eq_true rfl) (Nat.le_of_ble_eq_true rfl) [] (Nat.le_of_ble_eq_true rfl) (fun _ => rfl) rfl q967 q968 q108 q969 hf hl dJ6_compress_2_4 (fun x1 h2 hf => ?_)
  refine v_iconst (x := 0) C dJ6_compress_2_7 (by decide) ?_
  refine v_istore (ls' := [(5, _), (0, _), (1, _), (2, _), (3, _), (4, _)]) C dJ6_compress_2_8 (by decide) rfl ?_
  obtain ⟨ox6, h7, eh7, hlh7, hkh7, hrh7⟩ := mbs_inv hf hl
  refine v_sub (ls' := _) [1, 2, 3, 4, 5, 0] rfl (L10 a0 a2 i4 FU i1 i3 (0 : Int32) _ _ _ eh7 hlh7 (fun x6 eo => ?_) hrh7)
  have hf := hkh7 x6 eo
  clear hkh7 hrh7
  refine v_iload C 0 dJ6_compress_2_53 rfl ?_
  exact v_iret C E hf dJ6_compress_2_55
def f_J6_charAt (a0 : Nat) (i1 : Int32) : hM Int32 :=
  mb (f_J6_checkIndex i1 a0) fun _ => mb (f_J6_getChar a0 i1) fun x3 => mrt .char x3
theorem nd_J6_charAt : yJ6_charAt.cls ≠ "java/lang/invoke/MethodHandle" ∧ yJ6_charAt.cls ≠ "java/lang/invoke/VarHandle" ∧ (parseMethodDescriptor yJ6_charAt.desc).map (fun d => d.parameters.length) = some 2 := by decide +kernel
set_option maxHeartbeats 4000000 in
theorem ct_J6_charAt (l : Launch) (a0 : Nat) (i1 : Int32) : CT l yJ6_charAt cJ6_charAt 2 (some .char) 2 42 rvI [.ref a0, .int i1] (f_J6_charAt a0 i1) := by
  refine CT_of (ls := [(0, .ref a0), (1, .int i1)]) (by decide) (Nat.le_of_ble_eq_true rfl) rfl ?_
  intro X h he z hX hf C E hnm hh
  have hl := hle.rf he
  subst hX
  unfold f_J6_charAt at hf
  refine v_iload_n C 1 dJ6_charAt_0 rfl rfl ?_
  refine v_aload_n C 0 dJ6_charAt_1 rfl rfl ?_
  refine v_callS (stk := fun _ => []) C (ct_J6_checkIndex _ i1 a0) nd_J6_checkIndex rfl (Nat.le_of_ble_eq_true rfl) (Nat.le_of_ble_eq_true rfl) [] (Nat.le_of_ble_eq_true rfl) (fun _ => rfl) rfl q1106 q1107 q108 q1108 hf hl dJ6_charAt_2 (fun x1 h2 hf => ?_)
  refine v_aload_n C 0 dJ6_charAt_5 rfl rfl ?_
  refine v_iload_n C 1 dJ6_charAt_6 rfl rfl ?_
  refine v_callS (stk := fun b => .int b :: []) C (ct_J6_getChar _ a0 i1) nd_J6_getChar rfl (Nat.le_of_ble_eq_true rfl) (Nat.le_of_ble_eq_true rfl) [] (Nat.le_of_ble_eq_true rfl) (fun _ => rfl) rfl q587 q558 q108 q559 hf hl dJ6_charAt_7 (fun x3 h4 hf => ?_)
  exact v_zret C E hf dJ6_charAt_10
def f_J6_fillNull (a0 : Nat) (i1 : Int32) (i2 : Int32) : hM Unit :=
  mb (f_J2_fill_2 a0 (i1 <<< ((1 : Int32) &&& 31)) (i2 <<< ((1 : Int32) &&& 31)) (0 : Int32)) fun _ => mret ()
theorem nd_J6_fillNull : yJ6_fillNull.cls ≠ "java/lang/invoke/MethodHandle" ∧ yJ6_fillNull.cls ≠ "java/lang/invoke/VarHandle" ∧ (parseMethodDescriptor yJ6_fillNull.desc).map (fun d => d.parameters.length) = some 3 := by decide +kernel
set_option maxHeartbeats 4000000 in
theorem ct_J6_fillNull (l : Launch) (a0 : Nat) (i1 : Int32) (i2 : Int32) : CT l yJ6_fillNull cJ6_fillNull 3 none 2 46 rv0 [.ref a0, .int i1, .int i2] (f_J6_fillNull a0 i1 i2) := by
  refine CT_of (ls := [(0, .ref a0), (1, .int i1), (2, .int i2)]) (by decide) (Nat.le_of_ble_eq_true rfl) rfl ?_
  intro X h he z hX hf C E hnm hh
  have hl := hle.rf he
  subst hX
  unfold f_J6_fillNull at hf
  refine v_aload_n C 0 dJ6_fillNull_0 rfl rfl ?_
  refine v_iload_n C 1 dJ6_fillNull_1 rfl rfl ?_
  refine v_iconst (x := 1) C dJ6_fillNull_2 (by decide) ?_
  refine v_ishl C dJ6_fillNull_3 ?_
  refine v_iload_n C 2 dJ6_fillNull_4 rfl rfl ?_
  refine v_iconst (x := 1) C dJ6_fillNull_5 (by decide) ?_
  refine v_ishl C dJ6_fillNull_6 ?_
  refine v_iconst (x := 0) C dJ6_fillNull_7 (by decide) ?_
  refine v_callS (stk := fun _ => []) C (ct_J2_fill_2 _ a0 (i1 <<< ((1 : Int32) &&& 31)) (i2 <<< ((1 : Int32) &&& 31)) (0 : Int32)) nd_J2_fill_2 rfl (Nat.le_of_ble_eq_true rfl) (Nat.le_of_ble_eq_true rfl) [] (Nat.le_of_ble_eq_true rfl) (fun _ => rfl) rfl q1351 q1320 q101 q1321 hf hl dJ6_fillNull_8 (fun x1 h2 hf => ?_)
  exact v_vret C E hf dJ6_fillNull_11
def l_X0_closest_51 (a0 : Nat) (i1 : Int32) : Nat → Int32 → Int32 → hM (Int32)
  | 0, _, _ => mfail
  | n + 1, i3, i4 => mi ((6 : Int32) ≤ i4) (mret i3) (mb (gR a0 0 1) fun x11 => mb (aI 1 x11 i4) fun x12 => mb (f_J0_min i3 (i1 ^^^ x12)) fun x13 => l_X0_closest_51 a0 i1 n x13 (i4 + (1 : Int32)))
def f_X0_closest (a0 : Nat) (i1 : Int32) : hM Int32 :=
  mb (gR a0 0 0) fun x1 => mb (mat x1 1 (f_X1_remainder x1 i1)) fun x2 => mb (gR a0 0 0) fun x4 => mb (gR x4 1 6) fun x5 => mb (aI 1 x5 x2) fun x6 => mi (x6 < 0) (mb (gR a0 0 0) fun x7 => mb (gR a0 0 1) fun x8 => mb (mat x7 1 (f_X1_tetrads x7 x2 x8)) fun _ => mb (l_X0_closest_51 a0 i1 FU (16777216 : Int32) (0 : Int32)) fun x15 => mret x15) (mb (gR a0 0 0) fun x17 => mb (gR x17 1 6) fun x18 => mb (aI 1 x18 x2) fun x19 => mret (i1 ^^^ x19))
theorem nd_X0_closest : yX0_closest.cls ≠ "java/lang/invoke/MethodHandle" ∧ yX0_closest.cls ≠ "java/lang/invoke/VarHandle" ∧ (parseMethodDescriptor yX0_closest.desc).map (fun d => d.parameters.length) = some 1 := by decide +kernel
set_option maxHeartbeats 4000000 in
theorem ct_X0_closest (l : Launch) (a0 : Nat) (i1 : Int32) : CT l yX0_closest cX0_closest 5 (some .int) 2 46 rvI [.ref a0, .int i1] (f_X0_closest a0 i1) := by
  refine CT_of (ls := [(0, .ref a0), (1, .int i1)]) (by decide) (Nat.le_of_ble_eq_true rfl) rfl ?_
  intro X h he z hX hf C E hnm hh
  have hl := hle.rf he
  subst hX
  have L51 : ∀ (a0 : Nat) (i1 : Int32) (n : Nat) (i3 : Int32) (i4 : Int32) (h h1 : Hp) (o : Int32), (l_X0_closest_51 a0 i1 n i3 i4).1 h = some (o, h1) → hle h1 he → V X h1 78 [(3, .int o)] [] → V X h 51 [(0, .ref a0), (1, .int i1), (3, .int i3), (4, .int i4)] [] := by
    intro a0 i1 n
    induction n with
    | zero => intro i3 i4 h h1 o hf; exact mfail_inv hf
    | succ n ih =>
      intro i3 i4 h h1 o hf hl J
      rw [l_X0_closest_51] at hf
      refine v_iload C 3 dX0_closest_51 rfl ?_
      refine v_bipush (x := 6) C dX0_closest_53 (by decide) ?_
      refine v_icmp_ge C hf (tgt := 78) dX0_closest_55 (by decide) (fun c55 hf => ?_) (fun c55 hf => ?_)
      · obtain ⟨e1, rfl⟩ := mret_inv hf
        subst e1
        exact v_sub (ls' := _) [2] rfl J
      · refine v_iload_n C 2 dX0_closest_58 rfl rfl ?_
        refine v_iload_n C 1 dX0_closest_59 rfl rfl ?_
        refine v_aload_n C 0 dX0_closest_60 rfl rfl ?_
        refine v_gR (Cn := RX0) (T := TX0) (N := 16) C hf in_X0 rfl (by decide) q693 rfl dX0_closest_61 (fun x11 hf => ?_)
        refine v_iload C 3 dX0_closest_64 rfl ?_
        refine v_iaload C hf dX0_closest_66 (fun x12 hf => ?_)
        refine v_ixor C dX0_closest_67 ?_
        refine v_callS (stk := fun b => .int b :: []) C (ct_J0_min _ i3 (i1 ^^^ x12)) nd_J0_min rfl (Nat.le_of_ble_eq_true rfl) (Nat.le_of_ble_eq_true rfl) [] (Nat.le_of_ble_eq_true rfl) (fun _ => rfl) rfl q770 q771 q98 q772 hf hl dX0_closest_68 (fun x13 h14 hf => ?_)
        refine v_istore_n (ls' := [(3, _), (0, _), (1, _), (4, _)]) C dX0_closest_71 rfl (by decide) rfl ?_
        refine v_iinc (ls' := [(4, _), (3, _), (0, _), (1, _)]) (y := i4 + (1 : Int32)) C 3 dX0_closest_72 rfl rfl (by decide) rfl ?_
        refine v_goto (tgt := 51) C dX0_closest_75 (by decide) ?_
        refine v_sub (ls' := _) [2, 3, 1, 0] rfl (ih x13 (i4 + (1 : Int32)) _ _ _ hf hl J)
  unfold f_X0_closest at hf
  refine v_aload_n C 0 dX0_closest_0 rfl rfl ?_
  refine v_gR (Cn := RX0) (T := TX0) (N := 16) C hf in_X0 rfl (by decide) q692 rfl dX0_closest_1 (fun x1 hf => ?_)
  refine v_iload_n C 1 dX0_closest_4 rfl rfl ?_
  refine v_callV (stk := fun b => .int b :: []) C (ct_X1_remainder _ x1 i1) rfl ⟨rfl, nd_X1_remainder⟩ rfl (Nat.le_of_ble_eq_true rfl) (Nat.le_of_ble_eq_true rfl) [] (Nat.le_of_ble_eq_true rfl) (fun _ => rfl) rfl q752 q753 q754 q97 q755 hf hl dX0_closest_5 (fun x2 h3 hf => ?_)
  refine v_istore_n (ls' := [(2, _), (0, _), (1, _)]) C dX0_closest_8 rfl (by decide) rfl ?_
  refine v_aload_n C 1 dX0_closest_9 rfl rfl ?_
  refine v_gR (Cn := RX0) (T := TX0) (N := 16) C hf in_X0 rfl (by decide) q692 rfl dX0_closest_10 (fun x4 hf => ?_)
  refine v_gRN (Cn := RX1) (T := TX1) (N := 10) C hf in_X1 rfl (by decide) q209 rfl dX0_closest_13 (fun x5 hf => ?_)
  refine v_iload_n C 0 dX0_closest_16 rfl rfl ?_
  refine v_iaload C hf dX0_closest_17 (fun x6 hf => ?_)
  refine v_if_lt C hf (tgt := 33) dX0_closest_18 (by decide) (fun c18 hf => ?_) (fun c18 hf => ?_)
  · refine v_aload_n C 1 dX0_closest_33 rfl rfl ?_
    refine v_gR (Cn := RX0) (T := TX0) (N := 16) C hf in_X0 rfl (by decide) q692 rfl dX0_closest_34 (fun x7 hf => ?_)
    refine v_iload_n C 0 dX0_closest_37 rfl rfl ?_
    refine v_aload_n C 1 dX0_closest_38 rfl rfl ?_
    refine v_gR (Cn := RX0) (T := TX0) (N := 16) C hf in_X0 rfl (by decide) q693 rfl dX0_closest_39 (fun x8 hf => ?_)
    refine v_callV (stk := fun _ => []) C (ct_X1_tetrads _ x7 x2 x8) rfl ⟨rfl, nd_X1_tetrads⟩ rfl (Nat.le_of_ble_eq_true rfl) (Nat.le_of_ble_eq_true rfl) [] (Nat.le_of_ble_eq_true rfl) (fun _ => rfl) rfl q765 q766 q767 q97 q768 hf hl dX0_closest_42 (fun x9 h10 hf => ?_)
    refine v_ldc (x := 16777216) C q769 dX0_closest_45 ?_
    refine v_istore_n (ls' := [(3, _), (2, _), (0, _), (1, _)]) C dX0_closest_47 rfl (by decide) rfl ?_
    refine v_iconst (x := 0) C dX0_closest_48 (by decide) ?_
    refine v_istore (ls' := [(4, _), (3, _), (2, _), (0, _), (1, _)]) C dX0_closest_49 (by decide) rfl ?_
    obtain ⟨x15, h16, eh16, hf, hlh16⟩ := mb_inv hf hl
    refine v_sub (ls' := _) [3, 4, 1, 0] rfl (L51 a0 i1 FU (16777216 : Int32) (0 : Int32) _ _ _ eh16 hlh16 ?_)
    refine v_iload_n C 0 dX0_closest_78 rfl rfl ?_
    exact v_iret C E hf dX0_closest_79
  · refine v_iload_n C 2 dX0_closest_21 rfl rfl ?_
    refine v_aload_n C 1 dX0_closest_22 rfl rfl ?_
    refine v_gR (Cn := RX0) (T := TX0) (N := 16) C hf in_X0 rfl (by decide) q692 rfl dX0_closest_23 (fun x17 hf => ?_)
    refine v_gRN (Cn := RX1) (T := TX1) (N := 10) C hf in_X1 rfl (by decide) q209 rfl dX0_closest_26 (fun x18 hf => ?_)
    refine v_iload_n C 0 dX0_closest_29 rfl rfl ?_
    refine v_iaload C hf dX0_closest_30 (fun x19 hf => ?_)
    refine v_ixor C dX0_closest_31 ?_
    exact v_iret C E hf dX0_closest_32
def f_X0_sextet (a0 : Nat) (i1 : Int32) (i2 : Int32) : hM Int32 :=
  mb (f_X0_isSet i1) fun x1 => mi (x1 = 0) (mret (-1 : Int32)) (mb (f_X0_isIn i2.toInt64 (0 : Int64) (5 : Int64)) fun x3 => mi (¬ x3 = 0) (mb (f_X0_size i1) fun x5 => mi (x5 = (4 : Int32)) (mb (gR a0 0 0) fun x7 => mb (gR a0 0 0) fun x8 => mb (mat x8 1 (f_X1_remainder x8 i1)) fun x9 => mb (gR a0 0 1) fun x11 => mb (mat x7 1 (f_X1_tetrads x7 x9 x11)) fun _ => mb (gR a0 0 1) fun x14 => mb (aI 1 x14 i2) fun x15 => mret x15) (mret (-2 : Int32))) (mret (-1 : Int32)))
theorem nd_X0_sextet : yX0_sextet.cls ≠ "java/lang/invoke/MethodHandle" ∧ yX0_sextet.cls ≠ "java/lang/invoke/VarHandle" ∧ (parseMethodDescriptor yX0_sextet.desc).map (fun d => d.parameters.length) = some 2 := by decide +kernel
set_option maxHeartbeats 4000000 in
theorem ct_X0_sextet (l : Launch) (a0 : Nat) (i1 : Int32) (i2 : Int32) : CT l yX0_sextet cX0_sextet 3 (some .int) 2 46 rvI [.ref a0, .int i1, .int i2] (f_X0_sextet a0 i1 i2) := by
  refine CT_of (ls := [(0, .ref a0), (1, .int i1), (2, .int i2)]) (by decide) (Nat.le_of_ble_eq_true rfl) rfl ?_
  intro X h he z hX hf C E hnm hh
  have hl := hle.rf he
  subst hX
  unfold f_X0_sextet at hf
  refine v_iload_n C 1 dX0_sextet_0 rfl rfl ?_
  refine v_callS (stk := fun b => .int b :: []) C (ct_X0_isSet _ i1) nd_X0_isSet rfl (Nat.le_of_ble_eq_true rfl) (Nat.le_of_ble_eq_true rfl) [] (Nat.le_of_ble_eq_true rfl) (fun _ => rfl) rfl q745 q746 q96 q747 hf hl dX0_sextet_1 (fun x1 h2 hf => ?_)
  refine v_if_eq C hf (tgt := 19) dX0_sextet_4 (by decide) (fun c4 hf => ?_) (fun c4 hf => ?_)
  · refine v_iconst (x := (-1)) C dX0_sextet_19 (by decide) ?_
    exact v_iret C E hf dX0_sextet_20
  · refine v_iload_n C 2 dX0_sextet_7 rfl rfl ?_
    refine v_i2l C dX0_sextet_8 ?_
    refine v_lconst (x := 0) C dX0_sextet_9 (by decide) ?_
    refine v_ldc2 (x := 5) C q795 dX0_sextet_10 ?_
    refine v_callS (stk := fun b => .int b :: []) C (ct_X0_isIn _ i2.toInt64 (0 : Int64) (5 : Int64)) nd_X0_isIn rfl (Nat.le_of_ble_eq_true rfl) (Nat.le_of_ble_eq_true rfl) [] (Nat.le_of_ble_eq_true rfl) (fun _ => rfl) rfl q749 q750 q96 q751 hf hl dX0_sextet_13 (fun x3 h4 hf => ?_)
    refine v_if_ne C hf (tgt := 21) dX0_sextet_16 (by decide) (fun c16 hf => ?_) (fun c16 hf => ?_)
    · refine v_iload_n C 1 dX0_sextet_21 rfl rfl ?_
      refine v_callS (stk := fun b => .int b :: []) C (ct_X0_size _ i1) nd_X0_size rfl (Nat.le_of_ble_eq_true rfl) (Nat.le_of_ble_eq_true rfl) [] (Nat.le_of_ble_eq_true rfl) (fun _ => rfl) rfl q756 q179 q96 q180 hf hl dX0_sextet_22 (fun x5 h6 hf => ?_)
      refine v_iconst (x := 4) C dX0_sextet_25 (by decide) ?_
      refine v_icmp_eq C hf (tgt := 32) dX0_sextet_26 (by decide) (fun c26 hf => ?_) (fun c26 hf => ?_)
      · refine v_aload_n C 0 dX0_sextet_32 rfl rfl ?_
        refine v_gR (Cn := RX0) (T := TX0) (N := 16) C hf in_X0 rfl (by decide) q692 rfl dX0_sextet_33 (fun x7 hf => ?_)
        refine v_aload_n C 0 dX0_sextet_36 rfl rfl ?_
        refine v_gR (Cn := RX0) (T := TX0) (N := 16) C hf in_X0 rfl (by decide) q692 rfl dX0_sextet_37 (fun x8 hf => ?_)
        refine v_iload_n C 1 dX0_sextet_40 rfl rfl ?_
        refine v_callV (stk := fun b => .int b :: [.ref x7]) C (ct_X1_remainder _ x8 i1) rfl ⟨rfl, nd_X1_remainder⟩ rfl (Nat.le_of_ble_eq_true rfl) (Nat.le_of_ble_eq_true rfl) [.ref x7] (Nat.le_of_ble_eq_true rfl) (fun _ => rfl) rfl q752 q753 q754 q97 q755 hf hl dX0_sextet_41 (fun x9 h10 hf => ?_)
        refine v_aload_n C 0 dX0_sextet_44 rfl rfl ?_
        refine v_gR (Cn := RX0) (T := TX0) (N := 16) C hf in_X0 rfl (by decide) q693 rfl dX0_sextet_45 (fun x11 hf => ?_)
        refine v_callV (stk := fun _ => []) C (ct_X1_tetrads _ x7 x9 x11) rfl ⟨rfl, nd_X1_tetrads⟩ rfl (Nat.le_of_ble_eq_true rfl) (Nat.le_of_ble_eq_true rfl) [] (Nat.le_of_ble_eq_true rfl) (fun _ => rfl) rfl q765 q766 q767 q97 q768 hf hl dX0_sextet_48 (fun x12 h13 hf => ?_)
        refine v_aload_n C 0 dX0_sextet_51 rfl rfl ?_
        refine v_gR (Cn := RX0) (T := TX0) (N := 16) C hf in_X0 rfl (by decide) q693 rfl dX0_sextet_52 (fun x14 hf => ?_)
        refine v_iload_n C 2 dX0_sextet_55 rfl rfl ?_
        refine v_iaload C hf dX0_sextet_56 (fun x15 hf => ?_)
        exact v_iret C E hf dX0_sextet_57
      · refine v_bipush (x := (-2)) C dX0_sextet_29 (by decide) ?_
        exact v_iret C E hf dX0_sextet_31
    · refine v_iconst (x := (-1)) C dX0_sextet_19 (by decide) ?_
      exact v_iret C E hf dX0_sextet_20
def l_X0_both_91 (a0 : Nat) (i4 : Int32) : Nat → Int32 → Int32 → hM (Int32)
  | 0, _, _ => mfail
  | n + 1, i3, i5 => mi ((6 : Int32) ≤ i5) (mret i3) (mb (gR a0 0 1) fun x23 => mb (aI 1 x23 i4) fun x24 => mb (gR a0 0 1) fun x25 => mb (aI 1 x25 i5) fun x26 => mb (gR a0 0 2) fun x27 => mb (f_X0_isWhole (x24 ||| x26) x27) fun x28 => mb (mi (x28 = 0) (mret (0 : Int32)) (mret (1 : Int32))) fun x30 => l_X0_both_91 a0 i4 n (i3 + x30) (i5 + (1 : Int32)))
def l_X0_both_78 (a0 : Nat) : Nat → Int32 → Int32 → hM (Int32)
  | 0, _, _ => mfail
  | n + 1, i3, i4 => mi ((6 : Int32) ≤ i4) (mret i3) (mb (l_X0_both_91 a0 i4 FU i3 (i4 + (1 : Int32))) fun x32 => l_X0_both_78 a0 n x32 (i4 + (1 : Int32)))
def f_X0_both (a0 : Nat) (i1 : Int32) (i2 : Int32) : hM Int32 :=
  mb (f_X0_isSet i1) fun x1 => mi (x1 = 0) (mret (-1 : Int32)) (mb (f_X0_isSet i2) fun x3 => mi (¬ x3 = 0) (mb (f_X0_size i1) fun x5 => mi (¬ x5 = (4 : Int32)) (mret (-2 : Int32)) (mb (f_X0_size i2) fun x7 => mi (x7 = (4 : Int32)) (mb (gR a0 0 0) fun x9 => mb (gR a0 0 0) fun x10 => mb (mat x10 1 (f_X1_remainder x10 i1)) fun x11 => mb (gR a0 0 1) fun x13 => mb (mat x9 1 (f_X1_tetrads x9 x11 x13)) fun _ => mb (gR a0 0 0) fun x16 => mb (gR a0 0 0) fun x17 => mb (mat x17 1 (f_X1_remainder x17 i2)) fun x18 => mb (gR a0 0 2) fun x20 => mb (mat x16 1 (f_X1_tetrads x16 x18 x20)) fun _ => mb (l_X0_both_78 a0 FU (0 : Int32) (0 : Int32)) fun x34 => mret x34) (mret (-2 : Int32)))) (mret (-1 : Int32)))
theorem nd_X0_both : yX0_both.cls ≠ "java/lang/invoke/MethodHandle" ∧ yX0_both.cls ≠ "java/lang/invoke/VarHandle" ∧ (parseMethodDescriptor yX0_both.desc).map (fun d => d.parameters.length) = some 2 := by decide +kernel
set_option maxHeartbeats 4000000 in
theorem ct_X0_both (l : Launch) (a0 : Nat) (i1 : Int32) (i2 : Int32) : CT l yX0_both cX0_both 6 (some .int) 3 66 rvI [.ref a0, .int i1, .int i2] (f_X0_both a0 i1 i2) := by
  refine CT_of (ls := [(0, .ref a0), (1, .int i1), (2, .int i2)]) (by decide) (Nat.le_of_ble_eq_true rfl) rfl ?_
  intro X h he z hX hf C E hnm hh
  have hl := hle.rf he
  subst hX
  have L91 : ∀ (a0 : Nat) (i4 : Int32) (n : Nat) (i3 : Int32) (i5 : Int32) (h h1 : Hp) (o : Int32), (l_X0_both_91 a0 i4 n i3 i5).1 h = some (o, h1) → hle h1 he → V X h1 137 [(0, .ref a0), (3, .int o), (4, .int i4)] [] → V X h 91 [(0, .ref a0), (3, .int i3), (4, .int i4), (5, .int i5)] [] := by
    intro a0 i4 n
    induction n with
    | zero => intro i3 i5 h h1 o hf; exact mfail_inv hf
    | succ n ih =>
      intro i3 i5 h h1 o hf hl J
      rw [l_X0_both_91] at hf
      refine v_iload C 3 dX0_both_91 rfl ?_
      refine v_bipush (x := 6) C dX0_both_93 (by decide) ?_
      refine v_icmp_ge C hf (tgt := 137) dX0_both_95 (by decide) (fun c95 hf => ?_) (fun c95 hf => ?_)
      · obtain ⟨e1, rfl⟩ := mret_inv hf
        subst e1
        exact v_sub (ls' := _) [0, 1, 2] rfl J
      · refine v_iload_n C 1 dX0_both_98 rfl rfl ?_
        refine v_aload_n C 0 dX0_both_99 rfl rfl ?_
        refine v_gR (Cn := RX0) (T := TX0) (N := 16) C hf in_X0 rfl (by decide) q693 rfl dX0_both_100 (fun x23 hf => ?_)
        refine v_iload C 2 dX0_both_103 rfl ?_
        refine v_iaload C hf dX0_both_105 (fun x24 hf => ?_)
        refine v_aload_n C 0 dX0_both_106 rfl rfl ?_
        refine v_gR (Cn := RX0) (T := TX0) (N := 16) C hf in_X0 rfl (by decide) q693 rfl dX0_both_107 (fun x25 hf => ?_)
        refine v_iload C 3 dX0_both_110 rfl ?_
        refine v_iaload C hf dX0_both_112 (fun x26 hf => ?_)
        refine v_ior C dX0_both_113 ?_
        refine v_aload_n C 0 dX0_both_114 rfl rfl ?_
        refine v_gR (Cn := RX0) (T := TX0) (N := 16) C hf in_X0 rfl (by decide) q694 rfl dX0_both_115 (fun x27 hf => ?_)
        refine v_callS (stk := fun b => .int b :: [.int i3]) C (ct_X0_isWhole _ (x24 ||| x26) x27) nd_X0_isWhole rfl (Nat.le_of_ble_eq_true rfl) (Nat.le_of_ble_eq_true rfl) [.int i3] (Nat.le_of_ble_eq_true rfl) (fun _ => rfl) rfl q800 q801 q96 q802 hf hl dX0_both_118 (fun x28 h29 hf => ?_)
        obtain ⟨x30, h31, hAh31, hf, hlh31⟩ := mb_inv hf hl
        refine v_cut (h1 := h31) (pc1 := 129) (ls1 := [(0, .ref a0), (4, .int i4), (5, .int i5)]) (st1 := [.int x30, .int i3]) ?_ (fun Jh31 => ?_)
        · clear hAh31 hlh31
          refine v_iadd C dX0_both_129 ?_
          refine v_istore_n (ls' := [(3, _), (0, _), (4, _), (5, _)]) C dX0_both_130 rfl (by decide) rfl ?_
          refine v_iinc (ls' := [(5, _), (3, _), (0, _), (4, _)]) (y := i5 + (1 : Int32)) C 3 dX0_both_131 rfl rfl (by decide) rfl ?_
          refine v_goto (tgt := 91) C dX0_both_134 (by decide) ?_
          refine v_sub (ls' := _) [2, 1, 3, 0] rfl (ih (i3 + x30) (i5 + (1 : Int32)) _ _ _ hf hl J)
        · clear hf
          have hf := hAh31
          have hl := hlh31
          refine v_if_eq C hf (tgt := 128) dX0_both_121 (by decide) (fun c121 hf => ?_) (fun c121 hf => ?_)
          · refine v_iconst (x := 0) C dX0_both_128 (by decide) ?_
            obtain ⟨e1, rfl⟩ := mret_inv hf
            subst e1
            exact v_sub (ls' := _) [0, 2, 3] rfl Jh31
          · refine v_iconst (x := 1) C dX0_both_124 (by decide) ?_
            refine v_goto (tgt := 129) C dX0_both_125 (by decide) ?_
            obtain ⟨e1, rfl⟩ := mret_inv hf
            subst e1
            exact v_sub (ls' := _) [0, 2, 3] rfl Jh31
  have L78 : ∀ (a0 : Nat) (n : Nat) (i3 : Int32) (i4 : Int32) (h h1 : Hp) (o : Int32), (l_X0_both_78 a0 n i3 i4).1 h = some (o, h1) → hle h1 he → V X h1 143 [(3, .int o)] [] → V X h 78 [(0, .ref a0), (3, .int i3), (4, .int i4)] [] := by
    intro a0 n
    induction n with
    | zero => intro i3 i4 h h1 o hf; exact mfail_inv hf
    | succ n ih =>
      intro i3 i4 h h1 o hf hl J
      rw [l_X0_both_78] at hf
      refine v_iload C 2 dX0_both_78 rfl ?_
      refine v_bipush (x := 6) C dX0_both_80 (by decide) ?_
      refine v_icmp_ge C hf (tgt := 143) dX0_both_82 (by decide) (fun c82 hf => ?_) (fun c82 hf => ?_)
      · obtain ⟨e1, rfl⟩ := mret_inv hf
        subst e1
        exact v_sub (ls' := _) [1] rfl J
      · refine v_iload C 2 dX0_both_85 rfl ?_
        refine v_iconst (x := 1) C dX0_both_87 (by decide) ?_
        refine v_iadd C dX0_both_88 ?_
        refine v_istore (ls' := [(5, _), (0, _), (3, _), (4, _)]) C dX0_both_89 (by decide) rfl ?_
        obtain ⟨x32, h33, eh33, hf, hlh33⟩ := mb_inv hf hl
        refine v_sub (ls' := _) [1, 2, 3, 0] rfl (L91 a0 i4 FU i3 (i4 + (1 : Int32)) _ _ _ eh33 hlh33 ?_)
        refine v_iinc (ls' := [(4, _), (0, _), (3, _)]) (y := i4 + (1 : Int32)) C 2 dX0_both_137 rfl rfl (by decide) rfl ?_
        refine v_goto (tgt := 78) C dX0_both_140 (by decide) ?_
        refine v_sub (ls' := _) [1, 2, 0] rfl (ih x32 (i4 + (1 : Int32)) _ _ _ hf hl J)
  unfold f_X0_both at hf
  refine v_iload_n C 1 dX0_both_0 rfl rfl ?_
  refine v_callS (stk := fun b => .int b :: []) C (ct_X0_isSet _ i1) nd_X0_isSet rfl (Nat.le_of_ble_eq_true rfl) (Nat.le_of_ble_eq_true rfl) [] (Nat.le_of_ble_eq_true rfl) (fun _ => rfl) rfl q745 q746 q96 q747 hf hl dX0_both_1 (fun x1 h2 hf => ?_)
  refine v_if_eq C hf (tgt := 14) dX0_both_4 (by decide) (fun c4 hf => ?_) (fun c4 hf => ?_)
  · refine v_iconst (x := (-1)) C dX0_both_14 (by decide) ?_
    exact v_iret C E hf dX0_both_15
  · refine v_iload_n C 2 dX0_both_7 rfl rfl ?_
    refine v_callS (stk := fun b => .int b :: []) C (ct_X0_isSet _ i2) nd_X0_isSet rfl (Nat.le_of_ble_eq_true rfl) (Nat.le_of_ble_eq_true rfl) [] (Nat.le_of_ble_eq_true rfl) (fun _ => rfl) rfl q745 q746 q96 q747 hf hl dX0_both_8 (fun x3 h4 hf => ?_)
    refine v_if_ne C hf (tgt := 16) dX0_both_11 (by decide) (fun c11 hf => ?_) (fun c11 hf => ?_)
    · refine v_iload_n C 1 dX0_both_16 rfl rfl ?_
      refine v_callS (stk := fun b => .int b :: []) C (ct_X0_size _ i1) nd_X0_size rfl (Nat.le_of_ble_eq_true rfl) (Nat.le_of_ble_eq_true rfl) [] (Nat.le_of_ble_eq_true rfl) (fun _ => rfl) rfl q756 q179 q96 q180 hf hl dX0_both_17 (fun x5 h6 hf => ?_)
      refine v_iconst (x := 4) C dX0_both_20 (by decide) ?_
      refine v_icmp_ne C hf (tgt := 32) dX0_both_21 (by decide) (fun c21 hf => ?_) (fun c21 hf => ?_)
      · refine v_bipush (x := (-2)) C dX0_both_32 (by decide) ?_
        exact v_iret C E hf dX0_both_34
      · refine v_iload_n C 2 dX0_both_24 rfl rfl ?_
        refine v_callS (stk := fun b => .int b :: []) C (ct_X0_size _ i2) nd_X0_size rfl (Nat.le_of_ble_eq_true rfl) (Nat.le_of_ble_eq_true rfl) [] (Nat.le_of_ble_eq_true rfl) (fun _ => rfl) rfl q756 q179 q96 q180 hf hl dX0_both_25 (fun x7 h8 hf => ?_)
        refine v_iconst (x := 4) C dX0_both_28 (by decide) ?_
        refine v_icmp_eq C hf (tgt := 35) dX0_both_29 (by decide) (fun c29 hf => ?_) (fun c29 hf => ?_)
        · refine v_aload_n C 0 dX0_both_35 rfl rfl ?_
          refine v_gR (Cn := RX0) (T := TX0) (N := 16) C hf in_X0 rfl (by decide) q692 rfl dX0_both_36 (fun x9 hf => ?_)
          refine v_aload_n C 0 dX0_both_39 rfl rfl ?_
          refine v_gR (Cn := RX0) (T := TX0) (N := 16) C hf in_X0 rfl (by decide) q692 rfl dX0_both_40 (fun x10 hf => ?_)
          refine v_iload_n C 1 dX0_both_43 rfl rfl ?_
          refine v_callV (stk := fun b => .int b :: [.ref x9]) C (ct_X1_remainder _ x10 i1) rfl ⟨rfl, nd_X1_remainder⟩ rfl (Nat.le_of_ble_eq_true rfl) (Nat.le_of_ble_eq_true rfl) [.ref x9] (Nat.le_of_ble_eq_true rfl) (fun _ => rfl) rfl q752 q753 q754 q97 q755 hf hl dX0_both_44 (fun x11 h12 hf => ?_)
          refine v_aload_n C 0 dX0_both_47 rfl rfl ?_
          refine v_gR (Cn := RX0) (T := TX0) (N := 16) C hf in_X0 rfl (by decide) q693 rfl dX0_both_48 (fun x13 hf => ?_)
          refine v_callV (stk := fun _ => []) C (ct_X1_tetrads _ x9 x11 x13) rfl ⟨rfl, nd_X1_tetrads⟩ rfl (Nat.le_of_ble_eq_true rfl) (Nat.le_of_ble_eq_true rfl) [] (Nat.le_of_ble_eq_true rfl) (fun _ => rfl) rfl q765 q766 q767 q97 q768 hf hl dX0_both_51 (fun x14 h15 hf => ?_)
          refine v_aload_n C 0 dX0_both_54 rfl rfl ?_
          refine v_gR (Cn := RX0) (T := TX0) (N := 16) C hf in_X0 rfl (by decide) q692 rfl dX0_both_55 (fun x16 hf => ?_)
          refine v_aload_n C 0 dX0_both_58 rfl rfl ?_
          refine v_gR (Cn := RX0) (T := TX0) (N := 16) C hf in_X0 rfl (by decide) q692 rfl dX0_both_59 (fun x17 hf => ?_)
          refine v_iload_n C 2 dX0_both_62 rfl rfl ?_
          refine v_callV (stk := fun b => .int b :: [.ref x16]) C (ct_X1_remainder _ x17 i2) rfl ⟨rfl, nd_X1_remainder⟩ rfl (Nat.le_of_ble_eq_true rfl) (Nat.le_of_ble_eq_true rfl) [.ref x16] (Nat.le_of_ble_eq_true rfl) (fun _ => rfl) rfl q752 q753 q754 q97 q755 hf hl dX0_both_63 (fun x18 h19 hf => ?_)
          refine v_aload_n C 0 dX0_both_66 rfl rfl ?_
          refine v_gR (Cn := RX0) (T := TX0) (N := 16) C hf in_X0 rfl (by decide) q694 rfl dX0_both_67 (fun x20 hf => ?_)
          refine v_callV (stk := fun _ => []) C (ct_X1_tetrads _ x16 x18 x20) rfl ⟨rfl, nd_X1_tetrads⟩ rfl (Nat.le_of_ble_eq_true rfl) (Nat.le_of_ble_eq_true rfl) [] (Nat.le_of_ble_eq_true rfl) (fun _ => rfl) rfl q765 q766 q767 q97 q768 hf hl dX0_both_70 (fun x21 h22 hf => ?_)
          refine v_iconst (x := 0) C dX0_both_73 (by decide) ?_
          refine v_istore_n (ls' := [(3, _), (0, _), (1, _), (2, _)]) C dX0_both_74 rfl (by decide) rfl ?_
          refine v_iconst (x := 0) C dX0_both_75 (by decide) ?_
          refine v_istore (ls' := [(4, _), (3, _), (0, _), (1, _), (2, _)]) C dX0_both_76 (by decide) rfl ?_
          obtain ⟨x34, h35, eh35, hf, hlh35⟩ := mb_inv hf hl
          refine v_sub (ls' := _) [2, 1, 0] rfl (L78 a0 FU (0 : Int32) (0 : Int32) _ _ _ eh35 hlh35 ?_)
          refine v_iload_n C 0 dX0_both_143 rfl rfl ?_
          exact v_iret C E hf dX0_both_144
        · refine v_bipush (x := (-2)) C dX0_both_32 (by decide) ?_
          exact v_iret C E hf dX0_both_34
    · refine v_iconst (x := (-1)) C dX0_both_14 (by decide) ?_
      exact v_iret C E hf dX0_both_15
def l_X1_init_99 (a0 : Nat) : Nat → Int32 → hM (Unit)
  | 0, _ => mfail
  | n + 1, i1 => mi ((4096 : Int32) ≤ i1) (mret ()) (mb (f_J1_numberOfTrailingZeros i1) fun x35 => mb (gR a0 1 1) fun x37 => mb (gR a0 1 1) fun x38 => mb (aI 1 x38 (i1 &&& (i1 - (1 : Int32)))) fun x39 => mb (gR a0 1 0) fun x40 => mb (aI 1 x40 x35) fun x41 => mb (sI 1 x37 i1 (x39 ^^^ x41)) fun _ => mb (gR a0 1 2) fun x43 => mb (gR a0 1 2) fun x44 => mb (aI 1 x44 (i1 &&& (i1 - (1 : Int32)))) fun x45 => mb (gR a0 1 7) fun x46 => mb (aI 1 x46 x35) fun x47 => mb (sI 1 x43 i1 (x45 ^^^ x47)) fun _ => l_X1_init_99 a0 n (i1 + (1 : Int32)))
def l_X1_init_169 (a0 : Nat) : Nat → Int32 → Int32 → Int32 → hM (Unit)
  | 0, _, _, _ => mfail
  | n + 1, i1, i2, i3 => mi ((4096 : Int32) ≤ i3) (mret ()) (mb (gR a0 1 2) fun x51 => mb (aI 1 x51 i3) fun x52 => mb (f_X0_size x52) fun x53 => mb (mi (¬ x53 = (8 : Int32)) (mb (gR a0 1 2) fun x58 => mb (aI 1 x58 i3) fun x59 => mb (f_X0_size x59) fun x60 => mi (¬ x60 = (12 : Int32)) (mret (i1, i2)) (mb (gR a0 1 4) fun x62 => mb (gR a0 1 2) fun x63 => mb (aI 1 x63 i3) fun x64 => mb (sI 1 x62 i2 x64) fun _ => mret (i1, i2 + (1 : Int32)))) (mb (gR a0 1 3) fun x66 => mb (gR a0 1 2) fun x67 => mb (aI 1 x67 i3) fun x68 => mb (sI 1 x66 i1 x68) fun _ => mret (i1 + (1 : Int32), i2))) fun ⟨x55, x56⟩ => l_X1_init_169 a0 n x55 x56 (i3 + (1 : Int32)))
def f_X1_init (a0 : Nat) : hM Unit :=
  mb (newA 1 (12 : Int32)) fun x1 => mb (pF a0 1 0 (.ref x1)) fun _ => mb (newA 1 (4096 : Int32)) fun x4 => mb (pF a0 1 1 (.ref x4)) fun _ => mb (newA 1 (4096 : Int32)) fun x7 => mb (pF a0 1 2 (.ref x7)) fun _ => mb (newA 1 (759 : Int32)) fun x10 => mb (pF a0 1 3 (.ref x10)) fun _ => mb (newA 1 (2576 : Int32)) fun x13 => mb (pF a0 1 4 (.ref x13)) fun _ => mb (newA 1 (24 : Int32)) fun x16 => mb (pF a0 1 5 (.ref x16)) fun _ => mb (newA 1 (4096 : Int32)) fun x19 => mb (pF a0 1 6 (.ref x19)) fun _ => mb (newA 1 (12 : Int32)) fun x22 => mb (pF a0 1 7 (.ref x22)) fun _ => mb (newA 1 (12 : Int32)) fun x25 => mb (pF a0 1 8 (.ref x25)) fun _ => mb (newA 1 (12 : Int32)) fun x28 => mb (pF a0 1 9 (.ref x28)) fun _ => mb (mat a0 1 (f_X1_layBasics a0)) fun _ => mb (mat a0 1 (f_X1_layRows a0)) fun _ => mb (l_X1_init_99 a0 FU (1 : Int32)) fun x49 => mb (l_X1_init_169 a0 FU (0 : Int32) (0 : Int32) (0 : Int32)) fun x70 => mb (mat a0 1 (f_X1_layLeaders a0)) fun _ => mret ()
theorem nd_X1_init : yX1_init.cls ≠ "java/lang/invoke/MethodHandle" ∧ yX1_init.cls ≠ "java/lang/invoke/VarHandle" ∧ (parseMethodDescriptor yX1_init.desc).map (fun d => d.parameters.length) = some 0 := by decide +kernel
set_option maxHeartbeats 4000000 in
theorem ct_X1_init (l : Launch) (a0 : Nat) : CT l yX1_init cX1_init 4 none 3 70 rv0 [.ref a0] (f_X1_init a0) := by
  refine CT_of (ls := [(0, .ref a0)]) (by decide) (Nat.le_of_ble_eq_true rfl) rfl ?_
  intro X h he z hX hf C E hnm hh
  have hl := hle.rf he
  subst hX
  have L99 : ∀ (a0 : Nat) (n : Nat) (i1 : Int32) (h h1 : Hp) (o : Unit), (l_X1_init_99 a0 n i1).1 h = some (o, h1) → hle h1 he → V X h1 163 [(0, .ref a0)] [] → V X h 99 [(0, .ref a0), (1, .int i1)] [] := by
    intro a0 n
    induction n with
    | zero => intro i1 h h1 o hf; exact mfail_inv hf
    | succ n ih =>
      intro i1 h h1 o hf hl J
      rw [l_X1_init_99] at hf
      refine v_iload_n C 1 dX1_init_99 rfl rfl ?_
      refine v_sipush (x := 4096) C dX1_init_100 (by decide) ?_
      refine v_icmp_ge C hf (tgt := 163) dX1_init_103 (by decide) (fun c103 hf => ?_) (fun c103 hf => ?_)
      · obtain ⟨e1, rfl⟩ := mret_inv hf
        subst e1
        exact v_sub (ls' := _) [0] rfl J
      · refine v_iload_n C 1 dX1_init_106 rfl rfl ?_
        refine v_callS (stk := fun b => .int b :: []) C (ct_J1_numberOfTrailingZeros _ i1) nd_J1_numberOfTrailingZeros rfl (Nat.le_of_ble_eq_true rfl) (Nat.le_of_ble_eq_true rfl) [] (Nat.le_of_ble_eq_true rfl) (fun _ => rfl) rfl q174 q175 q100 q176 hf hl dX1_init_107 (fun x35 h36 hf => ?_)
        refine v_istore_n (ls' := [(2, _), (0, _), (1, _)]) C dX1_init_110 rfl (by decide) rfl ?_
        refine v_aload_n C 1 dX1_init_111 rfl rfl ?_
        refine v_gR (Cn := RX1) (T := TX1) (N := 10) C hf in_X1 rfl (by decide) q196 rfl dX1_init_112 (fun x37 hf => ?_)
        refine v_iload_n C 2 dX1_init_115 rfl rfl ?_
        refine v_aload_n C 1 dX1_init_116 rfl rfl ?_
        refine v_gR (Cn := RX1) (T := TX1) (N := 10) C hf in_X1 rfl (by decide) q196 rfl dX1_init_117 (fun x38 hf => ?_)
        refine v_iload_n C 2 dX1_init_120 rfl rfl ?_
        refine v_iload_n C 2 dX1_init_121 rfl rfl ?_
        refine v_iconst (x := 1) C dX1_init_122 (by decide) ?_
        refine v_isub C dX1_init_123 ?_
        refine v_iand C dX1_init_124 ?_
        refine v_iaload C hf dX1_init_125 (fun x39 hf => ?_)
        refine v_aload_n C 1 dX1_init_126 rfl rfl ?_
        refine v_gR (Cn := RX1) (T := TX1) (N := 10) C hf in_X1 rfl (by decide) q194 rfl dX1_init_127 (fun x40 hf => ?_)
        refine v_iload_n C 0 dX1_init_130 rfl rfl ?_
        refine v_iaload C hf dX1_init_131 (fun x41 hf => ?_)
        refine v_ixor C dX1_init_132 ?_
        refine v_iastore C hf dX1_init_133 (fun h42 hf => ?_)
        refine v_aload_n C 1 dX1_init_134 rfl rfl ?_
        refine v_gR (Cn := RX1) (T := TX1) (N := 10) C hf in_X1 rfl (by decide) q198 rfl dX1_init_135 (fun x43 hf => ?_)
        refine v_iload_n C 2 dX1_init_138 rfl rfl ?_
        refine v_aload_n C 1 dX1_init_139 rfl rfl ?_
        refine v_gR (Cn := RX1) (T := TX1) (N := 10) C hf in_X1 rfl (by decide) q198 rfl dX1_init_140 (fun x44 hf => ?_)
        refine v_iload_n C 2 dX1_init_143 rfl rfl ?_
        refine v_iload_n C 2 dX1_init_144 rfl rfl ?_
        refine v_iconst (x := 1) C dX1_init_145 (by decide) ?_
        refine v_isub C dX1_init_146 ?_
        refine v_iand C dX1_init_147 ?_
        refine v_iaload C hf dX1_init_148 (fun x45 hf => ?_)
        refine v_aload_n C 1 dX1_init_149 rfl rfl ?_
        refine v_gR (Cn := RX1) (T := TX1) (N := 10) C hf in_X1 rfl (by decide) q210 rfl dX1_init_150 (fun x46 hf => ?_)
        refine v_iload_n C 0 dX1_init_153 rfl rfl ?_
        refine v_iaload C hf dX1_init_154 (fun x47 hf => ?_)
        refine v_ixor C dX1_init_155 ?_
        refine v_iastore C hf dX1_init_156 (fun h48 hf => ?_)
        refine v_iinc (ls' := [(1, _), (2, _), (0, _)]) (y := i1 + (1 : Int32)) C 2 dX1_init_157 rfl rfl (by decide) rfl ?_
        refine v_goto (tgt := 99) C dX1_init_160 (by decide) ?_
        refine v_sub (ls' := _) [2, 0] rfl (ih (i1 + (1 : Int32)) _ _ _ hf hl J)
  have L169 : ∀ (a0 : Nat) (n : Nat) (i1 : Int32) (i2 : Int32) (i3 : Int32) (h h1 : Hp) (o : Unit), (l_X1_init_169 a0 n i1 i2 i3).1 h = some (o, h1) → hle h1 he → V X h1 243 [(0, .ref a0)] [] → V X h 169 [(0, .ref a0), (1, .int i1), (2, .int i2), (3, .int i3)] [] := by
    intro a0 n
    induction n with
    | zero => intro i1 i2 i3 h h1 o hf; exact mfail_inv hf
    | succ n ih =>
      intro i1 i2 i3 h h1 o hf hl J
      rw [l_X1_init_169] at hf
      refine v_iload_n C 3 dX1_init_169 rfl rfl ?_
      refine v_sipush (x := 4096) C dX1_init_170 (by decide) ?_
      refine v_icmp_ge C hf (tgt := 243) dX1_init_173 (by decide) (fun c173 hf => ?_) (fun c173 hf => ?_)
      · obtain ⟨e1, rfl⟩ := mret_inv hf
        subst e1
        exact v_sub (ls' := _) [0] rfl J
      · refine v_aload_n C 0 dX1_init_176 rfl rfl ?_
        refine v_gR (Cn := RX1) (T := TX1) (N := 10) C hf in_X1 rfl (by decide) q198 rfl dX1_init_177 (fun x51 hf => ?_)
        refine v_iload_n C 3 dX1_init_180 rfl rfl ?_
        refine v_iaload C hf dX1_init_181 (fun x52 hf => ?_)
        refine v_callSN (stk := fun b => .int b :: []) C (ct_X0_size _ x52) nd_X0_size rfl (Nat.le_of_ble_eq_true rfl) (Nat.le_of_ble_eq_true rfl) [] (Nat.le_of_ble_eq_true rfl) (fun _ => rfl) rfl q178 q179 q96 q180 hf hl dX1_init_182 (fun x53 h54 hf => ?_)
        refine v_bipush (x := 8) C dX1_init_185 (by decide) ?_
        obtain ⟨⟨x55, x56⟩, h57, hAh57, hf, hlh57⟩ := mb_inv hf hl
        refine v_cut (h1 := h57) (pc1 := 237) (ls1 := [(0, .ref a0), (1, .int x55), (2, .int x56), (3, .int i3)]) (st1 := []) ?_ (fun Jh57 => ?_)
        · clear hAh57 hlh57
          refine v_iinc (ls' := [(3, _), (0, _), (1, _), (2, _)]) (y := i3 + (1 : Int32)) C 3 dX1_init_237 rfl rfl (by decide) rfl ?_
          refine v_goto (tgt := 169) C dX1_init_240 (by decide) ?_
          refine v_sub (ls' := _) [1, 2, 3, 0] rfl (ih x55 x56 (i3 + (1 : Int32)) _ _ _ hf hl J)
        · clear hf
          have hf := hAh57
          have hl := hlh57
          refine v_icmp_ne C hf (tgt := 208) dX1_init_187 (by decide) (fun c187 hf => ?_) (fun c187 hf => ?_)
          · refine v_aload_n C 0 dX1_init_208 rfl rfl ?_
            refine v_gR (Cn := RX1) (T := TX1) (N := 10) C hf in_X1 rfl (by decide) q198 rfl dX1_init_209 (fun x58 hf => ?_)
            refine v_iload_n C 3 dX1_init_212 rfl rfl ?_
            refine v_iaload C hf dX1_init_213 (fun x59 hf => ?_)
            refine v_callSN (stk := fun b => .int b :: []) C (ct_X0_size _ x59) nd_X0_size rfl (Nat.le_of_ble_eq_true rfl) (Nat.le_of_ble_eq_true rfl) [] (Nat.le_of_ble_eq_true rfl) (fun _ => rfl) rfl q178 q179 q96 q180 hf hl dX1_init_214 (fun x60 h61 hf => ?_)
            refine v_bipush (x := 12) C dX1_init_217 (by decide) ?_
            refine v_icmp_ne C hf (tgt := 237) dX1_init_219 (by decide) (fun c219 hf => ?_) (fun c219 hf => ?_)
            · obtain ⟨e1, rfl⟩ := mret_inv hf
              simp only [Prod.mk.injEq] at e1
              obtain ⟨rfl, rfl⟩ := e1
              exact v_sub (ls' := _) [0, 1, 2, 3] rfl Jh57
            · refine v_aload_n C 0 dX1_init_222 rfl rfl ?_
              refine v_gR (Cn := RX1) (T := TX1) (N := 10) C hf in_X1 rfl (by decide) q203 rfl dX1_init_223 (fun x62 hf => ?_)
              refine v_iload_n C 2 dX1_init_226 rfl rfl ?_
              refine v_aload_n C 0 dX1_init_227 rfl rfl ?_
              refine v_gR (Cn := RX1) (T := TX1) (N := 10) C hf in_X1 rfl (by decide) q198 rfl dX1_init_228 (fun x63 hf => ?_)
              refine v_iload_n C 3 dX1_init_231 rfl rfl ?_
              refine v_iaload C hf dX1_init_232 (fun x64 hf => ?_)
              refine v_iastore C hf dX1_init_233 (fun h65 hf => ?_)
              refine v_iinc (ls' := [(2, _), (0, _), (1, _), (3, _)]) (y := i2 + (1 : Int32)) C 2 dX1_init_234 rfl rfl (by decide) rfl ?_
              obtain ⟨e1, rfl⟩ := mret_inv hf
              simp only [Prod.mk.injEq] at e1
              obtain ⟨rfl, rfl⟩ := e1
              exact v_sub (ls' := _) [1, 2, 0, 3] rfl Jh57
          · refine v_aload_n C 0 dX1_init_190 rfl rfl ?_
            refine v_gR (Cn := RX1) (T := TX1) (N := 10) C hf in_X1 rfl (by decide) q200 rfl dX1_init_191 (fun x66 hf => ?_)
            refine v_iload_n C 1 dX1_init_194 rfl rfl ?_
            refine v_aload_n C 0 dX1_init_195 rfl rfl ?_
            refine v_gR (Cn := RX1) (T := TX1) (N := 10) C hf in_X1 rfl (by decide) q198 rfl dX1_init_196 (fun x67 hf => ?_)
            refine v_iload_n C 3 dX1_init_199 rfl rfl ?_
            refine v_iaload C hf dX1_init_200 (fun x68 hf => ?_)
            refine v_iastore C hf dX1_init_201 (fun h69 hf => ?_)
            refine v_iinc (ls' := [(1, _), (0, _), (2, _), (3, _)]) (y := i1 + (1 : Int32)) C 1 dX1_init_202 rfl rfl (by decide) rfl ?_
            refine v_goto (tgt := 237) C dX1_init_205 (by decide) ?_
            obtain ⟨e1, rfl⟩ := mret_inv hf
            simp only [Prod.mk.injEq] at e1
            obtain ⟨rfl, rfl⟩ := e1
            exact v_sub (ls' := _) [1, 0, 2, 3] rfl Jh57
  unfold f_X1_init at hf
  refine v_aload_n C 0 dX1_init_0 rfl rfl ?_
  refine v_objInit C q154 q147 q148 (Nat.le_of_ble_eq_true rfl) (Nat.le_of_ble_eq_true rfl) dX1_init_1 ?_
  refine v_aload_n C 0 dX1_init_4 rfl rfl ?_
  refine v_bipush (x := 12) C dX1_init_5 (by decide) ?_
  refine v_newarrayint C hf hl q234 dX1_init_7 (fun x1 h2 hf => ?_)
  refine v_putvF (Cn := RX1) (T := TX1) (N := 10) (ty0 := tyX1) C hf in_X1 tyX1_ok nmX1 rfl (by decide) q194 rfl rfl rfl hnm rfl rfl dX1_init_9 (fun h3 hf => ?_)
  refine v_aload_n C 0 dX1_init_12 rfl rfl ?_
  refine v_sipush (x := 4096) C dX1_init_13 (by decide) ?_
  refine v_newarrayint C hf hl q234 dX1_init_16 (fun x4 h5 hf => ?_)
  refine v_putvF (Cn := RX1) (T := TX1) (N := 10) (ty0 := tyX1) C hf in_X1 tyX1_ok nmX1 rfl (by decide) q196 rfl rfl rfl hnm rfl rfl dX1_init_18 (fun h6 hf => ?_)
  refine v_aload_n C 0 dX1_init_21 rfl rfl ?_
  refine v_sipush (x := 4096) C dX1_init_22 (by decide) ?_
  refine v_newarrayint C hf hl q234 dX1_init_25 (fun x7 h8 hf => ?_)
  refine v_putvF (Cn := RX1) (T := TX1) (N := 10) (ty0 := tyX1) C hf in_X1 tyX1_ok nmX1 rfl (by decide) q198 rfl rfl rfl hnm rfl rfl dX1_init_27 (fun h9 hf => ?_)
  refine v_aload_n C 0 dX1_init_30 rfl rfl ?_
  refine v_sipush (x := 759) C dX1_init_31 (by decide) ?_
  refine v_newarrayint C hf hl q234 dX1_init_34 (fun x10 h11 hf => ?_)
  refine v_putvF (Cn := RX1) (T := TX1) (N := 10) (ty0 := tyX1) C hf in_X1 tyX1_ok nmX1 rfl (by decide) q200 rfl rfl rfl hnm rfl rfl dX1_init_36 (fun h12 hf => ?_)
  refine v_aload_n C 0 dX1_init_39 rfl rfl ?_
  refine v_sipush (x := 2576) C dX1_init_40 (by decide) ?_
  refine v_newarrayint C hf hl q234 dX1_init_43 (fun x13 h14 hf => ?_)
  refine v_putvF (Cn := RX1) (T := TX1) (N := 10) (ty0 := tyX1) C hf in_X1 tyX1_ok nmX1 rfl (by decide) q203 rfl rfl rfl hnm rfl rfl dX1_init_45 (fun h15 hf => ?_)
  refine v_aload_n C 0 dX1_init_48 rfl rfl ?_
  refine v_bipush (x := 24) C dX1_init_49 (by decide) ?_
  refine v_newarrayint C hf hl q234 dX1_init_51 (fun x16 h17 hf => ?_)
  refine v_putvF (Cn := RX1) (T := TX1) (N := 10) (ty0 := tyX1) C hf in_X1 tyX1_ok nmX1 rfl (by decide) q206 rfl rfl rfl hnm rfl rfl dX1_init_53 (fun h18 hf => ?_)
  refine v_aload_n C 0 dX1_init_56 rfl rfl ?_
  refine v_sipush (x := 4096) C dX1_init_57 (by decide) ?_
  refine v_newarrayint C hf hl q234 dX1_init_60 (fun x19 h20 hf => ?_)
  refine v_putvF (Cn := RX1) (T := TX1) (N := 10) (ty0 := tyX1) C hf in_X1 tyX1_ok nmX1 rfl (by decide) q207 rfl rfl rfl hnm rfl rfl dX1_init_62 (fun h21 hf => ?_)
  refine v_aload_n C 0 dX1_init_65 rfl rfl ?_
  refine v_bipush (x := 12) C dX1_init_66 (by decide) ?_
  refine v_newarrayint C hf hl q234 dX1_init_68 (fun x22 h23 hf => ?_)
  refine v_putvF (Cn := RX1) (T := TX1) (N := 10) (ty0 := tyX1) C hf in_X1 tyX1_ok nmX1 rfl (by decide) q210 rfl rfl rfl hnm rfl rfl dX1_init_70 (fun h24 hf => ?_)
  refine v_aload_n C 0 dX1_init_73 rfl rfl ?_
  refine v_bipush (x := 12) C dX1_init_74 (by decide) ?_
  refine v_newarrayint C hf hl q234 dX1_init_76 (fun x25 h26 hf => ?_)
  refine v_putvF (Cn := RX1) (T := TX1) (N := 10) (ty0 := tyX1) C hf in_X1 tyX1_ok nmX1 rfl (by decide) q211 rfl rfl rfl hnm rfl rfl dX1_init_78 (fun h27 hf => ?_)
  refine v_aload_n C 0 dX1_init_81 rfl rfl ?_
  refine v_bipush (x := 12) C dX1_init_82 (by decide) ?_
  refine v_newarrayint C hf hl q234 dX1_init_84 (fun x28 h29 hf => ?_)
  refine v_putvF (Cn := RX1) (T := TX1) (N := 10) (ty0 := tyX1) C hf in_X1 tyX1_ok nmX1 rfl (by decide) q212 rfl rfl rfl hnm rfl rfl dX1_init_86 (fun h30 hf => ?_)
  refine v_aload_n C 0 dX1_init_89 rfl rfl ?_
  refine v_callV (stk := fun _ => []) C (ct_X1_layBasics _ a0) rfl ⟨rfl, nd_X1_layBasics⟩ rfl (Nat.le_of_ble_eq_true rfl) (Nat.le_of_ble_eq_true rfl) [] (Nat.le_of_ble_eq_true rfl) (fun _ => rfl) rfl q155 q157 qs0 q97 q158 hf hl dX1_init_90 (fun x31 h32 hf => ?_)
  refine v_aload_n C 0 dX1_init_93 rfl rfl ?_
  refine v_callV (stk := fun _ => []) C (ct_X1_layRows _ a0) rfl ⟨rfl, nd_X1_layRows⟩ rfl (Nat.le_of_ble_eq_true rfl) (Nat.le_of_ble_eq_true rfl) [] (Nat.le_of_ble_eq_true rfl) (fun _ => rfl) rfl q166 q168 qs1 q97 q169 hf hl dX1_init_94 (fun x33 h34 hf => ?_)
  refine v_iconst (x := 1) C dX1_init_97 (by decide) ?_
  refine v_istore_n (ls' := [(1, _), (0, _)]) C dX1_init_98 rfl (by decide) rfl ?_
  obtain ⟨x49, h50, eh50, hf, hlh50⟩ := mb_inv hf hl
  refine v_sub (ls' := _) [1, 0] rfl (L99 a0 FU (1 : Int32) _ _ _ eh50 hlh50 ?_)
  refine v_iconst (x := 0) C dX1_init_163 (by decide) ?_
  refine v_istore_n (ls' := [(1, _), (0, _)]) C dX1_init_164 rfl (by decide) rfl ?_
  refine v_iconst (x := 0) C dX1_init_165 (by decide) ?_
  refine v_istore_n (ls' := [(2, _), (1, _), (0, _)]) C dX1_init_166 rfl (by decide) rfl ?_
  refine v_iconst (x := 0) C dX1_init_167 (by decide) ?_
  refine v_istore_n (ls' := [(3, _), (2, _), (1, _), (0, _)]) C dX1_init_168 rfl (by decide) rfl ?_
  obtain ⟨x70, h71, eh71, hf, hlh71⟩ := mb_inv hf hl
  refine v_sub (ls' := _) [3, 2, 1, 0] rfl (L169 a0 FU (0 : Int32) (0 : Int32) (0 : Int32) _ _ _ eh71 hlh71 ?_)
  refine v_aload_n C 0 dX1_init_243 rfl rfl ?_
  refine v_callV (stk := fun _ => []) C (ct_X1_layLeaders _ a0) rfl ⟨rfl, nd_X1_layLeaders⟩ rfl (Nat.le_of_ble_eq_true rfl) (Nat.le_of_ble_eq_true rfl) [] (Nat.le_of_ble_eq_true rfl) (fun _ => rfl) rfl q187 q189 qs3 q97 q190 hf hl dX1_init_244 (fun x72 h73 hf => ?_)
  exact v_vret C E hf dX1_init_247
def d_X12_on (a : Nat) (i1 : Int32) : hM Int32 := mb (gC a) fun c => mi (c = 11) (mat a 11 (f_X13_on a i1)) (mi (c = 12) (mat a 12 (f_X14_on a i1)) (mi (c = 14) (mat a 14 (f_X16_on a i1)) (mfail)))
theorem ndx_X12_on : ({ cls := "EightBlocks$Rounded", name := "on", desc := "(I)I" } : Jvm.MethodName).cls ≠ "java/lang/invoke/MethodHandle" ∧ ({ cls := "EightBlocks$Rounded", name := "on", desc := "(I)I" } : Jvm.MethodName).cls ≠ "java/lang/invoke/VarHandle" ∧ (parseMethodDescriptor ({ cls := "EightBlocks$Rounded", name := "on", desc := "(I)I" } : Jvm.MethodName).desc).map (fun d => d.parameters.length) = some 1 := by decide +kernel
theorem v_d_X12_on {X : hX} {own : String} {cc : ByteArray} {nL : Nat} {ret : Option FieldType} {he : Hp} {F L : Nat} {h hr : Hp} {pc : Nat} {ls : List (Nat × Value)} {st : List Value} {α : Type} {v : α} (C : Cx X own cc nL ret he F L) {index : Nat} (a : Nat) (i1 : Int32) {k : Int32 → hM α} (rest : List Value) (hF : 2 ≤ F) (hL : 43 ≤ L) (hcat : (rest.map fun v => v.category).sum ≤ 8) (hst : st = .int i1 :: .ref a :: rest) (w1 : Jvm.Cond.methodLink own index ({ cls := "EightBlocks$Rounded", name := "on", desc := "(I)I" } : Jvm.MethodName) ∈ lw_all) (hf : (mb (d_X12_on a i1) k).1 h = some (v, hr)) (hl : hle hr he) (d : decode cc pc = .ok (.invokevirtual index, 3)) (kk : ∀ (b : Int32) (h1 : Hp), (k b).1 h1 = some (v, hr) → V X h1 (pc + 3) ls (.int b :: rest)) : V X h pc ls st := by
  unfold d_X12_on at hf
  obtain ⟨c, hf⟩ := dsp_inv hf
  rcases mb_mi hf with ⟨_, hf⟩ | ⟨_, hf⟩
  · exact v_callU (stk := fun b => .int b :: rest) C (ct_X13_on _ a i1) rfl ndx_X12_on rfl (Nat.le_trans (Nat.le_of_ble_eq_true rfl) hF) (Nat.le_trans (Nat.le_of_ble_eq_true rfl) hL) rest hcat (fun _ => rfl) hst w1 q669 (se_w C q670) q671 q123 q672 (dc_abs C q668) hf hl d kk
  rcases mb_mi hf with ⟨_, hf⟩ | ⟨_, hf⟩
  · exact v_callU (stk := fun b => .int b :: rest) C (ct_X14_on _ a i1) rfl ndx_X12_on rfl (Nat.le_trans (Nat.le_of_ble_eq_true rfl) hF) (Nat.le_trans (Nat.le_of_ble_eq_true rfl) hL) rest hcat (fun _ => rfl) hst w1 q669 (se_w C q673) q674 q124 q675 (dc_abs C q668) hf hl d kk
  rcases mb_mi hf with ⟨_, hf⟩ | ⟨_, hf⟩
  · exact v_callU (stk := fun b => .int b :: rest) C (ct_X16_on _ a i1) rfl ndx_X12_on rfl (Nat.le_trans (Nat.le_of_ble_eq_true rfl) hF) (Nat.le_trans (Nat.le_of_ble_eq_true rfl) hL) rest hcat (fun _ => rfl) hst w1 q669 (se_w C q676) q677 q126 q678 (dc_abs C q668) hf hl d kk
  exact mb_fail hf
def f_X12_to (a0 : Nat) (i1 : Int32) : hM Int32 :=
  mb (mi (¬ i1 = (23 : Int32)) (mb (d_X12_on a0 i1) fun x3 => mb (mrem x3 (23 : Int32)) fun x5 => mret x5) (mret i1)) fun x1 => mret x1
theorem nd_X12_to : yX12_to.cls ≠ "java/lang/invoke/MethodHandle" ∧ yX12_to.cls ≠ "java/lang/invoke/VarHandle" ∧ (parseMethodDescriptor yX12_to.desc).map (fun d => d.parameters.length) = some 1 := by decide +kernel
set_option maxHeartbeats 4000000 in
theorem ct_X12_to (l : Launch) (a0 : Nat) (i1 : Int32) : CT l yX12_to cX12_to 2 (some .int) 2 43 rvI [.ref a0, .int i1] (f_X12_to a0 i1) := by
  refine CT_of (ls := [(0, .ref a0), (1, .int i1)]) (by decide) (Nat.le_of_ble_eq_true rfl) rfl ?_
  intro X h he z hX hf C E hnm hh
  have hl := hle.rf he
  subst hX
  unfold f_X12_to at hf
  refine v_iload_n C 1 dX12_to_0 rfl rfl ?_
  refine v_bipush (x := 23) C dX12_to_1 (by decide) ?_
  obtain ⟨x1, h2, hAh2, hf, hlh2⟩ := mb_inv hf hl
  refine v_cut (h1 := h2) (pc1 := 18) (ls1 := []) (st1 := [.int x1]) ?_ (fun Jh2 => ?_)
  · clear hAh2 hlh2
    exact v_iret C E hf dX12_to_18
  · clear hf
    have hf := hAh2
    have hl := hlh2
    refine v_icmp_ne C hf (tgt := 10) dX12_to_3 (by decide) (fun c3 hf => ?_) (fun c3 hf => ?_)
    · refine v_aload_n C 0 dX12_to_10 rfl rfl ?_
      refine v_iload_n C 1 dX12_to_11 rfl rfl ?_
      refine v_d_X12_on C a0 i1 [] (Nat.le_of_ble_eq_true rfl) (Nat.le_of_ble_eq_true rfl) (Nat.le_of_ble_eq_true rfl) rfl q667 hf hl dX12_to_12 (fun x3 h4 hf => ?_)
      refine v_bipush (x := 23) C dX12_to_15 (by decide) ?_
      refine v_irem C hf dX12_to_17 (fun x5 hf => ?_)
      obtain ⟨e1, rfl⟩ := mret_inv hf
      subst e1
      exact v_sub (ls' := _) [] rfl Jh2
    · refine v_iload_n C 1 dX12_to_6 rfl rfl ?_
      refine v_goto (tgt := 18) C dX12_to_7 (by decide) ?_
      obtain ⟨e1, rfl⟩ := mret_inv hf
      subst e1
      exact v_sub (ls' := _) [] rfl Jh2
def f_X17_named (i0 : Int32) (i1 : Int32) : hM Int32 :=
  mi (i0 = 0) (mb (mi ((23 : Int32) ≤ i1) (mret (23 : Int32)) (mb (mrem (i1 + (1 : Int32)) (23 : Int32)) fun x3 => mret x3)) fun x1 => mret x1) (mi (i0 = 1) (mb (mi ((23 : Int32) ≤ i1) (mret (23 : Int32)) (mb (mrem ((2 : Int32) * i1) (23 : Int32)) fun x6 => mret x6)) fun x4 => mret x4) (mi (i0 = 2) (mb (f_X17_overOf i1) fun x7 => mret x7) (mi (i0 = 3) (mb (mi ((23 : Int32) ≤ i1) (mret (23 : Int32)) (mb (f_X17_has (340830 : Int32) i1) fun x11 => mb (mi (x11 = 0) (mret (9 : Int32)) (mret (18 : Int32))) fun x13 => mb (mrem (((x13 * i1) * i1) * i1) (23 : Int32)) fun x15 => mret x15)) fun x9 => mret x9) (mret i1))))
theorem nd_X17_named : yX17_named.cls ≠ "java/lang/invoke/MethodHandle" ∧ yX17_named.cls ≠ "java/lang/invoke/VarHandle" ∧ (parseMethodDescriptor yX17_named.desc).map (fun d => d.parameters.length) = some 2 := by decide +kernel
set_option maxHeartbeats 4000000 in
theorem ct_X17_named (l : Launch) (i0 : Int32) (i1 : Int32) : CT l yX17_named cX17_named 2 (some .int) 2 47 rvI [.int i0, .int i1] (f_X17_named i0 i1) := by
  refine CT_of (ls := [(0, .int i0), (1, .int i1)]) (by decide) (Nat.le_of_ble_eq_true rfl) rfl ?_
  intro X h he z hX hf C E hnm hh
  have hl := hle.rf he
  subst hX
  unfold f_X17_named at hf
  refine v_iload_n C 0 dX17_named_0 rfl rfl ?_
  by_cases e1_0 : i0 = 0
  · have hf := mi_pos e1_0 hf
    refine v_tswI C (k := 0) e1_0 dX17_named_1 (by decide) (by decide) rfl (tgt := 32) (by decide) ?_
    refine v_iload_n C 1 dX17_named_32 rfl rfl ?_
    refine v_bipush (x := 23) C dX17_named_33 (by decide) ?_
    obtain ⟨x1, h2, hAh2, hf, hlh2⟩ := mb_inv hf hl
    refine v_cut (h1 := h2) (pc1 := 49) (ls1 := []) (st1 := [.int x1]) ?_ (fun Jh2 => ?_)
    · clear hAh2 hlh2
      exact v_iret C E hf dX17_named_49
    · clear hf
      have hf := hAh2
      have hl := hlh2
      refine v_icmp_ge C hf (tgt := 47) dX17_named_35 (by decide) (fun c35 hf => ?_) (fun c35 hf => ?_)
      · refine v_bipush (x := 23) C dX17_named_47 (by decide) ?_
        obtain ⟨e1, rfl⟩ := mret_inv hf
        subst e1
        exact v_sub (ls' := _) [] rfl Jh2
      · refine v_iload_n C 1 dX17_named_38 rfl rfl ?_
        refine v_iconst (x := 1) C dX17_named_39 (by decide) ?_
        refine v_iadd C dX17_named_40 ?_
        refine v_bipush (x := 23) C dX17_named_41 (by decide) ?_
        refine v_irem C hf dX17_named_43 (fun x3 hf => ?_)
        refine v_goto (tgt := 49) C dX17_named_44 (by decide) ?_
        obtain ⟨e1, rfl⟩ := mret_inv hf
        subst e1
        exact v_sub (ls' := _) [] rfl Jh2
  have hf := mi_neg e1_0 hf
  by_cases e1_1 : i0 = 1
  · have hf := mi_pos e1_1 hf
    refine v_tswI C (k := 1) e1_1 dX17_named_1 (by decide) (by decide) rfl (tgt := 50) (by decide) ?_
    refine v_iload_n C 1 dX17_named_50 rfl rfl ?_
    refine v_bipush (x := 23) C dX17_named_51 (by decide) ?_
    obtain ⟨x4, h5, hAh5, hf, hlh5⟩ := mb_inv hf hl
    refine v_cut (h1 := h5) (pc1 := 67) (ls1 := []) (st1 := [.int x4]) ?_ (fun Jh5 => ?_)
    · clear hAh5 hlh5
      exact v_iret C E hf dX17_named_67
    · clear hf
      have hf := hAh5
      have hl := hlh5
      refine v_icmp_ge C hf (tgt := 65) dX17_named_53 (by decide) (fun c53 hf => ?_) (fun c53 hf => ?_)
      · refine v_bipush (x := 23) C dX17_named_65 (by decide) ?_
        obtain ⟨e1, rfl⟩ := mret_inv hf
        subst e1
        exact v_sub (ls' := _) [] rfl Jh5
      · refine v_iconst (x := 2) C dX17_named_56 (by decide) ?_
        refine v_iload_n C 1 dX17_named_57 rfl rfl ?_
        refine v_imul C dX17_named_58 ?_
        refine v_bipush (x := 23) C dX17_named_59 (by decide) ?_
        refine v_irem C hf dX17_named_61 (fun x6 hf => ?_)
        refine v_goto (tgt := 67) C dX17_named_62 (by decide) ?_
        obtain ⟨e1, rfl⟩ := mret_inv hf
        subst e1
        exact v_sub (ls' := _) [] rfl Jh5
  have hf := mi_neg e1_1 hf
  by_cases e1_2 : i0 = 2
  · have hf := mi_pos e1_2 hf
    refine v_tswI C (k := 2) e1_2 dX17_named_1 (by decide) (by decide) rfl (tgt := 68) (by decide) ?_
    refine v_iload_n C 1 dX17_named_68 rfl rfl ?_
    refine v_callS (stk := fun b => .int b :: []) C (ct_X17_overOf _ i1) nd_X17_overOf rfl (Nat.le_of_ble_eq_true rfl) (Nat.le_of_ble_eq_true rfl) [] (Nat.le_of_ble_eq_true rfl) (fun _ => rfl) rfl q1775 q1776 q127 q1777 hf hl dX17_named_69 (fun x7 h8 hf => ?_)
    exact v_iret C E hf dX17_named_72
  have hf := mi_neg e1_2 hf
  by_cases e1_3 : i0 = 3
  · have hf := mi_pos e1_3 hf
    refine v_tswI C (k := 3) e1_3 dX17_named_1 (by decide) (by decide) rfl (tgt := 73) (by decide) ?_
    refine v_iload_n C 1 dX17_named_73 rfl rfl ?_
    refine v_bipush (x := 23) C dX17_named_74 (by decide) ?_
    obtain ⟨x9, h10, hAh10, hf, hlh10⟩ := mb_inv hf hl
    refine v_cut (h1 := h10) (pc1 := 109) (ls1 := []) (st1 := [.int x9]) ?_ (fun Jh10 => ?_)
    · clear hAh10 hlh10
      exact v_iret C E hf dX17_named_109
    · clear hf
      have hf := hAh10
      have hl := hlh10
      refine v_icmp_ge C hf (tgt := 107) dX17_named_76 (by decide) (fun c76 hf => ?_) (fun c76 hf => ?_)
      · refine v_bipush (x := 23) C dX17_named_107 (by decide) ?_
        obtain ⟨e1, rfl⟩ := mret_inv hf
        subst e1
        exact v_sub (ls' := _) [] rfl Jh10
      · refine v_ldc (x := 340830) C q1782 dX17_named_79 ?_
        refine v_iload_n C 1 dX17_named_81 rfl rfl ?_
        refine v_callS (stk := fun b => .int b :: []) C (ct_X17_has _ (340830 : Int32) i1) nd_X17_has rfl (Nat.le_of_ble_eq_true rfl) (Nat.le_of_ble_eq_true rfl) [] (Nat.le_of_ble_eq_true rfl) (fun _ => rfl) rfl q1783 q1784 q127 q1785 hf hl dX17_named_82 (fun x11 h12 hf => ?_)
        obtain ⟨x13, h14, hAh14, hf, hlh14⟩ := mb_inv hf hl
        refine v_cut (h1 := h14) (pc1 := 95) (ls1 := [(1, .int i1)]) (st1 := [.int x13]) ?_ (fun Jh14 => ?_)
        · clear hAh14 hlh14
          refine v_iload_n C 0 dX17_named_95 rfl rfl ?_
          refine v_imul C dX17_named_96 ?_
          refine v_iload_n C 0 dX17_named_97 rfl rfl ?_
          refine v_imul C dX17_named_98 ?_
          refine v_iload_n C 0 dX17_named_99 rfl rfl ?_
          refine v_imul C dX17_named_100 ?_
          refine v_bipush (x := 23) C dX17_named_101 (by decide) ?_
          refine v_irem C hf dX17_named_103 (fun x15 hf => ?_)
          refine v_goto (tgt := 109) C dX17_named_104 (by decide) ?_
          obtain ⟨e1, rfl⟩ := mret_inv hf
          subst e1
          exact v_sub (ls' := _) [] rfl Jh10
        · clear hf
          have hf := hAh14
          have hl := hlh14
          refine v_if_eq C hf (tgt := 93) dX17_named_85 (by decide) (fun c85 hf => ?_) (fun c85 hf => ?_)
          · refine v_bipush (x := 9) C dX17_named_93 (by decide) ?_
            obtain ⟨e1, rfl⟩ := mret_inv hf
            subst e1
            exact v_sub (ls' := _) [1] rfl Jh14
          · refine v_bipush (x := 18) C dX17_named_88 (by decide) ?_
            refine v_goto (tgt := 95) C dX17_named_90 (by decide) ?_
            obtain ⟨e1, rfl⟩ := mret_inv hf
            subst e1
            exact v_sub (ls' := _) [1] rfl Jh14
  have hf := mi_neg e1_3 hf
  refine v_tswO C (n := 4) (lo := 0) (x := i0) (fun j hj => ?_) dX17_named_1 rfl rfl (tgt := 110) (by decide) ?_
  · rcases (show j = 0 ∨ j = 1 ∨ j = 2 ∨ j = 3 by omega) with rfl | rfl | rfl | rfl
    · exact e1_0
    · exact e1_1
    · exact e1_2
    · exact e1_3
  refine v_iload_n C 1 dX17_named_110 rfl rfl ?_
  exact v_iret C E hf dX17_named_111
def l_X17_texts_7 (a0 : Nat) (i1 : Int32) : Nat → Int32 → hM (Unit)
  | 0, _ => mfail
  | n + 1, i2 => mi ((24 : Int32) ≤ i2) (mret ()) (mb (mat a0 15 (f_X17_isLeast a0 i1 i2)) fun x2 => mb (mi (x2 = 0) (mret ()) (mb (mat a0 15 (f_X17_to a0 i1 i2)) fun x5 => mi (x5 = i2) (mret ()) (mb (mat a0 15 (f_X17_putsRing a0 i1 i2)) fun _ => mret ()))) fun _ => l_X17_texts_7 a0 i1 n (i2 + (1 : Int32)))
def f_X17_texts (a0 : Nat) (i1 : Int32) : hM Int32 :=
  mb (pF a0 15 7 (.int (0 : Int32))) fun _ => mb (l_X17_texts_7 a0 i1 FU (0 : Int32)) fun x9 => mb (gI a0 15 7) fun x11 => mret x11
theorem nd_X17_texts : yX17_texts.cls ≠ "java/lang/invoke/MethodHandle" ∧ yX17_texts.cls ≠ "java/lang/invoke/VarHandle" ∧ (parseMethodDescriptor yX17_texts.desc).map (fun d => d.parameters.length) = some 1 := by decide +kernel
set_option maxHeartbeats 4000000 in
theorem ct_X17_texts (l : Launch) (a0 : Nat) (i1 : Int32) : CT l yX17_texts cX17_texts 3 (some .int) 3 70 rvI [.ref a0, .int i1] (f_X17_texts a0 i1) := by
  refine CT_of (ls := [(0, .ref a0), (1, .int i1)]) (by decide) (Nat.le_of_ble_eq_true rfl) rfl ?_
  intro X h he z hX hf C E hnm hh
  have hl := hle.rf he
  subst hX
  have L7 : ∀ (a0 : Nat) (i1 : Int32) (n : Nat) (i2 : Int32) (h h1 : Hp) (o : Unit), (l_X17_texts_7 a0 i1 n i2).1 h = some (o, h1) → hle h1 he → V X h1 44 [(0, .ref a0)] [] → V X h 7 [(0, .ref a0), (1, .int i1), (2, .int i2)] [] := by
    intro a0 i1 n
    induction n with
    | zero => intro i2 h h1 o hf; exact mfail_inv hf
    | succ n ih =>
      intro i2 h h1 o hf hl J
      rw [l_X17_texts_7] at hf
      refine v_iload_n C 2 dX17_texts_7 rfl rfl ?_
      refine v_bipush (x := 24) C dX17_texts_8 (by decide) ?_
      refine v_icmp_ge C hf (tgt := 44) dX17_texts_10 (by decide) (fun c10 hf => ?_) (fun c10 hf => ?_)
      · obtain ⟨e1, rfl⟩ := mret_inv hf
        subst e1
        exact v_sub (ls' := _) [0] rfl J
      · refine v_aload_n C 0 dX17_texts_13 rfl rfl ?_
        refine v_iload_n C 1 dX17_texts_14 rfl rfl ?_
        refine v_iload_n C 2 dX17_texts_15 rfl rfl ?_
        refine v_callV (stk := fun b => .int b :: []) C (ct_X17_isLeast _ a0 i1 i2) rfl ⟨rfl, nd_X17_isLeast⟩ rfl (Nat.le_of_ble_eq_true rfl) (Nat.le_of_ble_eq_true rfl) [] (Nat.le_of_ble_eq_true rfl) (fun _ => rfl) rfl q2025 q2027 qs50 q127 q2028 hf hl dX17_texts_16 (fun x2 h3 hf => ?_)
        obtain ⟨_u, h4, hAh4, hf, hlh4⟩ := mb_inv hf hl
        refine v_cut (h1 := h4) (pc1 := 38) (ls1 := [(0, .ref a0), (1, .int i1), (2, .int i2)]) (st1 := []) ?_ (fun Jh4 => ?_)
        · clear hAh4 hlh4
          refine v_iinc (ls' := [(2, _), (0, _), (1, _)]) (y := i2 + (1 : Int32)) C 2 dX17_texts_38 rfl rfl (by decide) rfl ?_
          refine v_goto (tgt := 7) C dX17_texts_41 (by decide) ?_
          refine v_sub (ls' := _) [1, 2, 0] rfl (ih (i2 + (1 : Int32)) _ _ _ hf hl J)
        · clear hf
          have hf := hAh4
          have hl := hlh4
          refine v_if_eq C hf (tgt := 38) dX17_texts_19 (by decide) (fun c19 hf => ?_) (fun c19 hf => ?_)
          · obtain ⟨e1, rfl⟩ := mret_inv hf
            exact v_sub (ls' := _) [0, 1, 2] rfl Jh4
          · refine v_aload_n C 0 dX17_texts_22 rfl rfl ?_
            refine v_iload_n C 1 dX17_texts_23 rfl rfl ?_
            refine v_iload_n C 2 dX17_texts_24 rfl rfl ?_
            refine v_callV (stk := fun b => .int b :: []) C (ct_X17_to _ a0 i1 i2) rfl ⟨rfl, nd_X17_to⟩ rfl (Nat.le_of_ble_eq_true rfl) (Nat.le_of_ble_eq_true rfl) [] (Nat.le_of_ble_eq_true rfl) (fun _ => rfl) rfl q1997 q1999 qs45 q127 q2000 hf hl dX17_texts_25 (fun x5 h6 hf => ?_)
            refine v_iload_n C 2 dX17_texts_28 rfl rfl ?_
            refine v_icmp_eq C hf (tgt := 38) dX17_texts_29 (by decide) (fun c29 hf => ?_) (fun c29 hf => ?_)
            · obtain ⟨e1, rfl⟩ := mret_inv hf
              exact v_sub (ls' := _) [0, 1, 2] rfl Jh4
            · refine v_aload_n C 0 dX17_texts_32 rfl rfl ?_
              refine v_iload_n C 1 dX17_texts_33 rfl rfl ?_
              refine v_iload_n C 2 dX17_texts_34 rfl rfl ?_
              refine v_callV (stk := fun _ => []) C (ct_X17_putsRing _ a0 i1 i2) rfl ⟨rfl, nd_X17_putsRing⟩ rfl (Nat.le_of_ble_eq_true rfl) (Nat.le_of_ble_eq_true rfl) [] (Nat.le_of_ble_eq_true rfl) (fun _ => rfl) rfl q2045 q2047 qs55 q127 q2048 hf hl dX17_texts_35 (fun x7 h8 hf => ?_)
              obtain ⟨e1, rfl⟩ := mret_inv hf
              exact v_sub (ls' := _) [0, 1, 2] rfl Jh4
  unfold f_X17_texts at hf
  refine v_aload_n C 0 dX17_texts_0 rfl rfl ?_
  refine v_iconst (x := 0) C dX17_texts_1 (by decide) ?_
  refine v_putv (Cn := RX17) (T := TX17) (N := 37) (ty0 := tyX17) C hf in_X17 tyX17_ok nmX17 rfl (by decide) q1811 rfl rfl rfl rfl dX17_texts_2 (fun h1 hf => ?_)
  refine v_iconst (x := 0) C dX17_texts_5 (by decide) ?_
  refine v_istore_n (ls' := [(2, _), (0, _), (1, _)]) C dX17_texts_6 rfl (by decide) rfl ?_
  obtain ⟨x9, h10, eh10, hf, hlh10⟩ := mb_inv hf hl
  refine v_sub (ls' := _) [1, 2, 0] rfl (L7 a0 i1 FU (0 : Int32) _ _ _ eh10 hlh10 ?_)
  refine v_aload_n C 0 dX17_texts_44 rfl rfl ?_
  refine v_gI (Cn := RX17) (T := TX17) (N := 37) C hf in_X17 rfl (by decide) q1811 rfl dX17_texts_45 (fun x11 hf => ?_)
  exact v_iret C E hf dX17_texts_48
def f_X17_letter (a0 : Nat) (i1 : Int32) (i2 : Int32) : hM Int32 :=
  mb (f_X17_isMove i1) fun x1 => mi (x1 = 0) (mret (-1 : Int32)) (mi (0 ≤ i2) (mb (mat a0 15 (f_X17_texts a0 i1)) fun x3 => mb (mi (x3 ≤ i2) (mret (-4 : Int32)) (mb (gR a0 15 6) fun x7 => mb (aI 1 x7 i2) fun x8 => mret x8)) fun x5 => mret x5) (mret (-1 : Int32)))
theorem nd_X17_letter : yX17_letter.cls ≠ "java/lang/invoke/MethodHandle" ∧ yX17_letter.cls ≠ "java/lang/invoke/VarHandle" ∧ (parseMethodDescriptor yX17_letter.desc).map (fun d => d.parameters.length) = some 2 := by decide +kernel
set_option maxHeartbeats 4000000 in
theorem ct_X17_letter (l : Launch) (a0 : Nat) (i1 : Int32) (i2 : Int32) : CT l yX17_letter cX17_letter 3 (some .int) 4 92 rvI [.ref a0, .int i1, .int i2] (f_X17_letter a0 i1 i2) := by
  refine CT_of (ls := [(0, .ref a0), (1, .int i1), (2, .int i2)]) (by decide) (Nat.le_of_ble_eq_true rfl) rfl ?_
  intro X h he z hX hf C E hnm hh
  have hl := hle.rf he
  subst hX
  unfold f_X17_letter at hf
  refine v_iload_n C 1 dX17_letter_0 rfl rfl ?_
  refine v_callS (stk := fun b => .int b :: []) C (ct_X17_isMove _ i1) nd_X17_isMove rfl (Nat.le_of_ble_eq_true rfl) (Nat.le_of_ble_eq_true rfl) [] (Nat.le_of_ble_eq_true rfl) (fun _ => rfl) rfl q1989 q1990 q127 q1991 hf hl dX17_letter_1 (fun x1 h2 hf => ?_)
  refine v_if_eq C hf (tgt := 11) dX17_letter_4 (by decide) (fun c4 hf => ?_) (fun c4 hf => ?_)
  · refine v_iconst (x := (-1)) C dX17_letter_11 (by decide) ?_
    exact v_iret C E hf dX17_letter_12
  · refine v_iload_n C 2 dX17_letter_7 rfl rfl ?_
    refine v_if_ge C hf (tgt := 13) dX17_letter_8 (by decide) (fun c8 hf => ?_) (fun c8 hf => ?_)
    · refine v_iload_n C 2 dX17_letter_13 rfl rfl ?_
      refine v_aload_n C 0 dX17_letter_14 rfl rfl ?_
      refine v_iload_n C 1 dX17_letter_15 rfl rfl ?_
      refine v_callV (stk := fun b => .int b :: [.int i2]) C (ct_X17_texts _ a0 i1) rfl ⟨rfl, nd_X17_texts⟩ rfl (Nat.le_of_ble_eq_true rfl) (Nat.le_of_ble_eq_true rfl) [.int i2] (Nat.le_of_ble_eq_true rfl) (fun _ => rfl) rfl q2041 q2043 qs54 q127 q2044 hf hl dX17_letter_16 (fun x3 h4 hf => ?_)
      obtain ⟨x5, h6, hAh6, hf, hlh6⟩ := mb_inv hf hl
      refine v_cut (h1 := h6) (pc1 := 33) (ls1 := []) (st1 := [.int x5]) ?_ (fun Jh6 => ?_)
      · clear hAh6 hlh6
        exact v_iret C E hf dX17_letter_33
      · clear hf
        have hf := hAh6
        have hl := hlh6
        refine v_icmp_ge C hf (tgt := 31) dX17_letter_19 (by decide) (fun c19 hf => ?_) (fun c19 hf => ?_)
        · refine v_bipush (x := (-4)) C dX17_letter_31 (by decide) ?_
          obtain ⟨e1, rfl⟩ := mret_inv hf
          subst e1
          exact v_sub (ls' := _) [] rfl Jh6
        · refine v_aload_n C 0 dX17_letter_22 rfl rfl ?_
          refine v_gR (Cn := RX17) (T := TX17) (N := 37) C hf in_X17 rfl (by decide) q1810 rfl dX17_letter_23 (fun x7 hf => ?_)
          refine v_iload_n C 2 dX17_letter_26 rfl rfl ?_
          refine v_iaload C hf dX17_letter_27 (fun x8 hf => ?_)
          refine v_goto (tgt := 33) C dX17_letter_28 (by decide) ?_
          obtain ⟨e1, rfl⟩ := mret_inv hf
          subst e1
          exact v_sub (ls' := _) [] rfl Jh6
    · refine v_iconst (x := (-1)) C dX17_letter_11 (by decide) ?_
      exact v_iret C E hf dX17_letter_12
def l_X17_readsName_30 (a0 : Nat) (i2 : Int32) : Nat → Int32 → hM (Unit)
  | 0, _ => mfail
  | n + 1, i3 => mi ((24 : Int32) ≤ i3) (mret ()) (mb (gR a0 15 11) fun x5 => mb (mi ((5 : Int32) ≤ i2) (mb (mat a0 15 (f_X17_to a0 (i2 - (5 : Int32)) i3)) fun x9 => mret x9) (mb (f_X17_named i2 i3) fun x11 => mret x11)) fun x6 => mb (sI 1 x5 i3 x6) fun _ => l_X17_readsName_30 a0 i2 n (i3 + (1 : Int32)))
def f_X17_readsName (a0 : Nat) : hM Int32 :=
  mb (mat a0 15 (f_X17_row a0 (0 : Int32))) fun x1 => mb (mat a0 15 (f_X17_nameOf a0 x1)) fun x3 => mi (0 ≤ x3) (mb (l_X17_readsName_30 a0 x3 FU (0 : Int32)) fun x13 => mrt .boolean (1 : Int32)) (mb (gI a0 15 10) fun x15 => mb (pF a0 15 10 (.int (x15 - x1))) fun _ => mrt .boolean (0 : Int32))
theorem nd_X17_readsName : yX17_readsName.cls ≠ "java/lang/invoke/MethodHandle" ∧ yX17_readsName.cls ≠ "java/lang/invoke/VarHandle" ∧ (parseMethodDescriptor yX17_readsName.desc).map (fun d => d.parameters.length) = some 0 := by decide +kernel
set_option maxHeartbeats 4000000 in
theorem ct_X17_readsName (l : Launch) (a0 : Nat) : CT l yX17_readsName cX17_readsName 4 (some .boolean) 3 68 rvI [.ref a0] (f_X17_readsName a0) := by
  refine CT_of (ls := [(0, .ref a0)]) (by decide) (Nat.le_of_ble_eq_true rfl) rfl ?_
  intro X h he z hX hf C E hnm hh
  have hl := hle.rf he
  subst hX
  have L30 : ∀ (a0 : Nat) (i2 : Int32) (n : Nat) (i3 : Int32) (h h1 : Hp) (o : Unit), (l_X17_readsName_30 a0 i2 n i3).1 h = some (o, h1) → hle h1 he → V X h1 69 [] [] → V X h 30 [(0, .ref a0), (2, .int i2), (3, .int i3)] [] := by
    intro a0 i2 n
    induction n with
    | zero => intro i3 h h1 o hf; exact mfail_inv hf
    | succ n ih =>
      intro i3 h h1 o hf hl J
      rw [l_X17_readsName_30] at hf
      refine v_iload_n C 2 dX17_readsName_30 rfl rfl ?_
      refine v_bipush (x := 24) C dX17_readsName_31 (by decide) ?_
      refine v_icmp_ge C hf (tgt := 69) dX17_readsName_33 (by decide) (fun c33 hf => ?_) (fun c33 hf => ?_)
      · obtain ⟨e1, rfl⟩ := mret_inv hf
        subst e1
        exact v_sub (ls' := _) [] rfl J
      · refine v_aload_n C 0 dX17_readsName_36 rfl rfl ?_
        refine v_gR (Cn := RX17) (T := TX17) (N := 37) C hf in_X17 rfl (by decide) q1815 rfl dX17_readsName_37 (fun x5 hf => ?_)
        refine v_iload_n C 2 dX17_readsName_40 rfl rfl ?_
        refine v_iload_n C 1 dX17_readsName_41 rfl rfl ?_
        refine v_iconst (x := 5) C dX17_readsName_42 (by decide) ?_
        obtain ⟨x6, h7, hAh7, hf, hlh7⟩ := mb_inv hf hl
        refine v_cut (h1 := h7) (pc1 := 62) (ls1 := [(0, .ref a0), (2, .int i2), (3, .int i3)]) (st1 := [.int x6, .int i3, .ref x5]) ?_ (fun Jh7 => ?_)
        · clear hAh7 hlh7
          refine v_iastore C hf dX17_readsName_62 (fun h8 hf => ?_)
          refine v_iinc (ls' := [(3, _), (0, _), (2, _)]) (y := i3 + (1 : Int32)) C 2 dX17_readsName_63 rfl rfl (by decide) rfl ?_
          refine v_goto (tgt := 30) C dX17_readsName_66 (by decide) ?_
          refine v_sub (ls' := _) [1, 2, 0] rfl (ih (i3 + (1 : Int32)) _ _ _ hf hl J)
        · clear hf
          have hf := hAh7
          have hl := hlh7
          refine v_icmp_ge C hf (tgt := 54) dX17_readsName_43 (by decide) (fun c43 hf => ?_) (fun c43 hf => ?_)
          · refine v_aload_n C 0 dX17_readsName_54 rfl rfl ?_
            refine v_iload_n C 1 dX17_readsName_55 rfl rfl ?_
            refine v_iconst (x := 5) C dX17_readsName_56 (by decide) ?_
            refine v_isub C dX17_readsName_57 ?_
            refine v_iload_n C 2 dX17_readsName_58 rfl rfl ?_
            refine v_callV (stk := fun b => .int b :: [.int i3, .ref x5]) C (ct_X17_to _ a0 (i2 - (5 : Int32)) i3) rfl ⟨rfl, nd_X17_to⟩ rfl (Nat.le_of_ble_eq_true rfl) (Nat.le_of_ble_eq_true rfl) [.int i3, .ref x5] (Nat.le_of_ble_eq_true rfl) (fun _ => rfl) rfl q1997 q1999 qs45 q127 q2000 hf hl dX17_readsName_59 (fun x9 h10 hf => ?_)
            obtain ⟨e1, rfl⟩ := mret_inv hf
            subst e1
            exact v_sub (ls' := _) [0, 1, 2] rfl Jh7
          · refine v_iload_n C 1 dX17_readsName_46 rfl rfl ?_
            refine v_iload_n C 2 dX17_readsName_47 rfl rfl ?_
            refine v_callS (stk := fun b => .int b :: [.int i3, .ref x5]) C (ct_X17_named _ i2 i3) nd_X17_named rfl (Nat.le_of_ble_eq_true rfl) (Nat.le_of_ble_eq_true rfl) [.int i3, .ref x5] (Nat.le_of_ble_eq_true rfl) (fun _ => rfl) rfl q1772 q1773 q127 q1774 hf hl dX17_readsName_48 (fun x11 h12 hf => ?_)
            refine v_goto (tgt := 62) C dX17_readsName_51 (by decide) ?_
            obtain ⟨e1, rfl⟩ := mret_inv hf
            subst e1
            exact v_sub (ls' := _) [0, 1, 2] rfl Jh7
  unfold f_X17_readsName at hf
  refine v_aload_n C 0 dX17_readsName_0 rfl rfl ?_
  refine v_iconst (x := 0) C dX17_readsName_1 (by decide) ?_
  refine v_callV (stk := fun b => .int b :: []) C (ct_X17_row _ a0 (0 : Int32)) rfl ⟨rfl, nd_X17_row⟩ rfl (Nat.le_of_ble_eq_true rfl) (Nat.le_of_ble_eq_true rfl) [] (Nat.le_of_ble_eq_true rfl) (fun _ => rfl) rfl q2093 q2095 qs62 q127 q2096 hf hl dX17_readsName_2 (fun x1 h2 hf => ?_)
  refine v_istore_n (ls' := [(1, _), (0, _)]) C dX17_readsName_5 rfl (by decide) rfl ?_
  refine v_aload_n C 1 dX17_readsName_6 rfl rfl ?_
  refine v_iload_n C 0 dX17_readsName_7 rfl rfl ?_
  refine v_callV (stk := fun b => .int b :: []) C (ct_X17_nameOf _ a0 x1) rfl ⟨rfl, nd_X17_nameOf⟩ rfl (Nat.le_of_ble_eq_true rfl) (Nat.le_of_ble_eq_true rfl) [] (Nat.le_of_ble_eq_true rfl) (fun _ => rfl) rfl q2102 q2104 qs63 q127 q2105 hf hl dX17_readsName_8 (fun x3 h4 hf => ?_)
  refine v_istore_n (ls' := [(2, _), (1, _), (0, _)]) C dX17_readsName_11 rfl (by decide) rfl ?_
  refine v_iload_n C 0 dX17_readsName_12 rfl rfl ?_
  refine v_if_ge C hf (tgt := 28) dX17_readsName_13 (by decide) (fun c13 hf => ?_) (fun c13 hf => ?_)
  · refine v_iconst (x := 0) C dX17_readsName_28 (by decide) ?_
    refine v_istore_n (ls' := [(3, _), (2, _), (1, _), (0, _)]) C dX17_readsName_29 rfl (by decide) rfl ?_
    obtain ⟨x13, h14, eh14, hf, hlh14⟩ := mb_inv hf hl
    refine v_sub (ls' := _) [3, 1, 0] rfl (L30 a0 x3 FU (0 : Int32) _ _ _ eh14 hlh14 ?_)
    refine v_iconst (x := 1) C dX17_readsName_69 (by decide) ?_
    exact v_zret C E hf dX17_readsName_70
  · refine v_aload_n C 2 dX17_readsName_16 rfl rfl ?_
    refine v_dup C dX17_readsName_17 rfl ?_
    refine v_gI (Cn := RX17) (T := TX17) (N := 37) C hf in_X17 rfl (by decide) q1814 rfl dX17_readsName_18 (fun x15 hf => ?_)
    refine v_iload_n C 1 dX17_readsName_21 rfl rfl ?_
    refine v_isub C dX17_readsName_22 ?_
    refine v_putv (Cn := RX17) (T := TX17) (N := 37) (ty0 := tyX17) C hf in_X17 tyX17_ok nmX17 rfl (by decide) q1814 rfl rfl rfl rfl dX17_readsName_23 (fun h16 hf => ?_)
    refine v_iconst (x := 0) C dX17_readsName_26 (by decide) ?_
    exact v_zret C E hf dX17_readsName_27
def l_X17_readsRing_2 (a0 : Nat) : Nat → Int32 → hM (Unit)
  | 0, _ => mfail
  | n + 1, i1 => mi ((24 : Int32) ≤ i1) (mret ()) (mb (gR a0 15 11) fun x1 => mb (sI 1 x1 i1 i1) fun _ => l_X17_readsRing_2 a0 n (i1 + (1 : Int32)))
def l_X17_readsRing_40 (a0 : Nat) : Nat → Int32 → Int32 → Int32 → Int32 → hM ((Int32 × Int32) ⊕ (Int32))
  | 0, _, _, _, _ => mfail
  | n + 1, i1, i2, i3, i4 => mi (i4 = 0) (mret (Sum.inl (i2, i3))) (mb (mat a0 15 (f_X17_here a0)) fun x7 => mb (gI a0 15 10) fun x9 => mb (mat a0 15 (f_X17_number a0 (23 : Int32))) fun x10 => mi (x10 < 0) (mb (pF a0 15 10 (.int x9)) fun _ => mb (mrt .boolean (0 : Int32)) fun c => mret (Sum.inr c)) (mb (f_X17_has i1 x10) fun x13 => mi (x13 = 0) (mb (mi (0 ≤ i2) (mret i2) (mret x10)) fun x15 => mb (mi (i3 < 0) (mret ()) (mb (gR a0 15 11) fun x26 => mb (sI 1 x26 i3 x10) fun _ => mret ())) fun _ => mb (mat a0 15 (f_X17_here a0)) fun x18 => mb (mi (¬ x18 = (44 : Int32)) (mret (0 : Int32)) (mret (1 : Int32))) fun x20 => mb (gI a0 15 10) fun x22 => mb (mi (x20 = 0) (mret (0 : Int32)) (mret (1 : Int32))) fun x23 => mb (pF a0 15 10 (.int (x22 + x23))) fun _ => l_X17_readsRing_40 a0 n (i1 ||| ((1 : Int32) <<< (x10 &&& 31))) x15 x10 x20) (mb (pF a0 15 10 (.int x9)) fun _ => mb (mrt .boolean (0 : Int32)) fun c => mret (Sum.inr c))))
def f_X17_readsRing (a0 : Nat) : hM Int32 :=
  mb (l_X17_readsRing_2 a0 FU (0 : Int32)) fun x3 => mb (gI a0 15 10) fun x5 => mb (pF a0 15 10 (.int (x5 + (1 : Int32)))) fun _ => mbs (l_X17_readsRing_40 a0 FU (0 : Int32) (-1 : Int32) (-1 : Int32) (1 : Int32)) (fun x29 => mb (gR a0 15 11) fun x31 => mb (sI 1 x31 x29.2 x29.1) fun _ => mb (mat a0 15 (f_X17_here a0)) fun x33 => mb (mi (¬ x33 = (41 : Int32)) (mret (0 : Int32)) (mret (1 : Int32))) fun x35 => mb (gI a0 15 10) fun x37 => mb (mi (x35 = 0) (mret (0 : Int32)) (mret (1 : Int32))) fun x38 => mb (pF a0 15 10 (.int (x37 + x38))) fun _ => mrt .boolean x35) id
theorem nd_X17_readsRing : yX17_readsRing.cls ≠ "java/lang/invoke/MethodHandle" ∧ yX17_readsRing.cls ≠ "java/lang/invoke/VarHandle" ∧ (parseMethodDescriptor yX17_readsRing.desc).map (fun d => d.parameters.length) = some 0 := by decide +kernel
set_option maxHeartbeats 4000000 in
theorem ct_X17_readsRing (l : Launch) (a0 : Nat) : CT l yX17_readsRing cX17_readsRing 7 (some .boolean) 4 90 rvI [.ref a0] (f_X17_readsRing a0) := by
  refine CT_of (ls := [(0, .ref a0)]) (by decide) (Nat.le_of_ble_eq_true rfl) rfl ?_
  intro X h he z hX hf C E hnm hh
  have hl := hle.rf he
  subst hX
  have L2 : ∀ (a0 : Nat) (n : Nat) (i1 : Int32) (h h1 : Hp) (o : Unit), (l_X17_readsRing_2 a0 n i1).1 h = some (o, h1) → hle h1 he → V X h1 21 [(0, .ref a0)] [] → V X h 2 [(0, .ref a0), (1, .int i1)] [] := by
    intro a0 n
    induction n with
    | zero => intro i1 h h1 o hf; exact mfail_inv hf
    | succ n ih =>
      intro i1 h h1 o hf hl J
      rw [l_X17_readsRing_2] at hf
      refine v_iload_n C 1 dX17_readsRing_2 rfl rfl ?_
      refine v_bipush (x := 24) C dX17_readsRing_3 (by decide) ?_
      refine v_icmp_ge C hf (tgt := 21) dX17_readsRing_5 (by decide) (fun c5 hf => ?_) (fun c5 hf => ?_)
      · obtain ⟨e1, rfl⟩ := mret_inv hf
        subst e1
        exact v_sub (ls' := _) [0] rfl J
      · refine v_aload_n C 0 dX17_readsRing_8 rfl rfl ?_
        refine v_gR (Cn := RX17) (T := TX17) (N := 37) C hf in_X17 rfl (by decide) q1815 rfl dX17_readsRing_9 (fun x1 hf => ?_)
        refine v_iload_n C 1 dX17_readsRing_12 rfl rfl ?_
        refine v_iload_n C 1 dX17_readsRing_13 rfl rfl ?_
        refine v_iastore C hf dX17_readsRing_14 (fun h2 hf => ?_)
        refine v_iinc (ls' := [(1, _), (0, _)]) (y := i1 + (1 : Int32)) C 1 dX17_readsRing_15 rfl rfl (by decide) rfl ?_
        refine v_goto (tgt := 2) C dX17_readsRing_18 (by decide) ?_
        refine v_sub (ls' := _) [1, 0] rfl (ih (i1 + (1 : Int32)) _ _ _ hf hl J)
  have L40 : ∀ (a0 : Nat) (n : Nat) (i1 : Int32) (i2 : Int32) (i3 : Int32) (i4 : Int32) (h h1 : Hp) (o : (Int32 × Int32) ⊕ (Int32)), (l_X17_readsRing_40 a0 n i1 i2 i3 i4).1 h = some (o, h1) → hle h1 he → (∀ b, o = Sum.inl b → V X h1 157 [(0, .ref a0), (2, .int b.1), (3, .int b.2)] []) → (∀ c, o = Sum.inr c → (mret c).1 h1 = some (z, he)) → V X h 40 [(0, .ref a0), (1, .int i1), (2, .int i2), (3, .int i3), (4, .int i4)] [] := by
    intro a0 n
    induction n with
    | zero => intro i1 i2 i3 i4 h h1 o hf; exact mfail_inv hf
    | succ n ih =>
      intro i1 i2 i3 i4 h h1 o hf hl J hret
      rw [l_X17_readsRing_40] at hf
      refine v_iload C 4 dX17_readsRing_40 rfl ?_
      refine v_if_eq C hf (tgt := 157) dX17_readsRing_42 (by decide) (fun c42 hf => ?_) (fun c42 hf => ?_)
      · obtain ⟨e1, rfl⟩ := mret_inv hf
        subst e1
        exact v_sub (ls' := _) [0, 2, 3] rfl (J _ rfl)
      · refine v_aload_n C 0 dX17_readsRing_45 rfl rfl ?_
        refine v_callV (stk := fun b => .int b :: []) C (ct_X17_here _ a0) rfl ⟨rfl, nd_X17_here⟩ rfl (Nat.le_of_ble_eq_true rfl) (Nat.le_of_ble_eq_true rfl) [] (Nat.le_of_ble_eq_true rfl) (fun _ => rfl) rfl q2076 q2078 qs59 q127 q2079 hf hl dX17_readsRing_46 (fun x7 h8 hf => ?_)
        refine v_pop C dX17_readsRing_49 rfl ?_
        refine v_aload_n C 0 dX17_readsRing_50 rfl rfl ?_
        refine v_gI (Cn := RX17) (T := TX17) (N := 37) C hf in_X17 rfl (by decide) q1814 rfl dX17_readsRing_51 (fun x9 hf => ?_)
        refine v_istore (ls' := [(5, _), (0, _), (1, _), (2, _), (3, _), (4, _)]) C dX17_readsRing_54 (by decide) rfl ?_
        refine v_aload_n C 1 dX17_readsRing_56 rfl rfl ?_
        refine v_bipush (x := 23) C dX17_readsRing_57 (by decide) ?_
        refine v_callV (stk := fun b => .int b :: []) C (ct_X17_number _ a0 (23 : Int32)) rfl ⟨rfl, nd_X17_number⟩ rfl (Nat.le_of_ble_eq_true rfl) (Nat.le_of_ble_eq_true rfl) [] (Nat.le_of_ble_eq_true rfl) (fun _ => rfl) rfl q2115 q2117 qs66 q127 q2118 hf hl dX17_readsRing_59 (fun x10 h11 hf => ?_)
        refine v_istore (ls' := [(6, _), (5, _), (0, _), (1, _), (2, _), (3, _), (4, _)]) C dX17_readsRing_62 (by decide) rfl ?_
        refine v_iload C 0 dX17_readsRing_64 rfl ?_
        refine v_if_lt C hf (tgt := 78) dX17_readsRing_66 (by decide) (fun c66 hf => ?_) (fun c66 hf => ?_)
        · refine v_aload_n C 2 dX17_readsRing_78 rfl rfl ?_
          refine v_iload C 1 dX17_readsRing_79 rfl ?_
          refine v_putv (Cn := RX17) (T := TX17) (N := 37) (ty0 := tyX17) C hf in_X17 tyX17_ok nmX17 rfl (by decide) q1814 rfl rfl rfl rfl dX17_readsRing_81 (fun h12 hf => ?_)
          refine v_iconst (x := 0) C dX17_readsRing_84 (by decide) ?_
          exact v_zret C E (mrt_ret hf hret) dX17_readsRing_85
        · refine v_iload_n C 3 dX17_readsRing_69 rfl rfl ?_
          refine v_iload C 0 dX17_readsRing_70 rfl ?_
          refine v_callS (stk := fun b => .int b :: []) C (ct_X17_has _ i1 x10) nd_X17_has rfl (Nat.le_of_ble_eq_true rfl) (Nat.le_of_ble_eq_true rfl) [] (Nat.le_of_ble_eq_true rfl) (fun _ => rfl) rfl q1783 q1784 q127 q1785 hf hl dX17_readsRing_72 (fun x13 h14 hf => ?_)
          refine v_if_eq C hf (tgt := 86) dX17_readsRing_75 (by decide) (fun c75 hf => ?_) (fun c75 hf => ?_)
          · refine v_iload_n C 3 dX17_readsRing_86 rfl rfl ?_
            refine v_iconst (x := 1) C dX17_readsRing_87 (by decide) ?_
            refine v_iload C 0 dX17_readsRing_88 rfl ?_
            refine v_ishl C dX17_readsRing_90 ?_
            refine v_ior C dX17_readsRing_91 ?_
            refine v_istore_n (ls' := [(1, _), (6, _), (5, _), (0, _), (2, _), (3, _), (4, _)]) C dX17_readsRing_92 rfl (by decide) rfl ?_
            refine v_iload_n C 4 dX17_readsRing_93 rfl rfl ?_
            obtain ⟨x15, h16, hAh16, hf, hlh16⟩ := mb_inv hf hl
            refine v_cut (h1 := h16) (pc1 := 103) (ls1 := [(0, .ref a0), (1, .int (i1 ||| ((1 : Int32) <<< (x10 &&& 31)))), (3, .int i3), (6, .int x10)]) (st1 := [.int x15]) ?_ (fun Jh16 => ?_)
            · clear hAh16 hlh16
              refine v_istore_n (ls' := [(2, _), (0, _), (1, _), (3, _), (6, _)]) C dX17_readsRing_103 rfl (by decide) rfl ?_
              refine v_iload_n C 3 dX17_readsRing_104 rfl rfl ?_
              obtain ⟨_u, h17, hAh17, hf, hlh17⟩ := mb_inv hf hl
              refine v_cut (h1 := h17) (pc1 := 116) (ls1 := [(0, .ref a0), (1, .int (i1 ||| ((1 : Int32) <<< (x10 &&& 31)))), (2, .int x15), (6, .int x10)]) (st1 := []) ?_ (fun Jh17 => ?_)
              · clear hAh17 hlh17
                refine v_iload C 3 dX17_readsRing_116 rfl ?_
                refine v_istore_n (ls' := [(3, _), (0, _), (1, _), (2, _), (6, _)]) C dX17_readsRing_118 rfl (by decide) rfl ?_
                refine v_aload_n C 1 dX17_readsRing_119 rfl rfl ?_
                refine v_callV (stk := fun b => .int b :: []) C (ct_X17_here _ a0) rfl ⟨rfl, nd_X17_here⟩ rfl (Nat.le_of_ble_eq_true rfl) (Nat.le_of_ble_eq_true rfl) [] (Nat.le_of_ble_eq_true rfl) (fun _ => rfl) rfl q2076 q2078 qs59 q127 q2079 hf hl dX17_readsRing_120 (fun x18 h19 hf => ?_)
                refine v_bipush (x := 44) C dX17_readsRing_123 (by decide) ?_
                obtain ⟨x20, h21, hAh21, hf, hlh21⟩ := mb_inv hf hl
                refine v_cut (h1 := h21) (pc1 := 133) (ls1 := [(0, .ref a0), (1, .int (i1 ||| ((1 : Int32) <<< (x10 &&& 31)))), (2, .int x15), (3, .int x10)]) (st1 := [.int x20]) ?_ (fun Jh21 => ?_)
                · clear hAh21 hlh21
                  refine v_istore (ls' := [(4, _), (0, _), (1, _), (2, _), (3, _)]) C dX17_readsRing_133 (by decide) rfl ?_
                  refine v_aload_n C 1 dX17_readsRing_135 rfl rfl ?_
                  refine v_dup C dX17_readsRing_136 rfl ?_
                  refine v_gI (Cn := RX17) (T := TX17) (N := 37) C hf in_X17 rfl (by decide) q1814 rfl dX17_readsRing_137 (fun x22 hf => ?_)
                  refine v_iload C 0 dX17_readsRing_140 rfl ?_
                  obtain ⟨x23, h24, hAh24, hf, hlh24⟩ := mb_inv hf hl
                  refine v_cut (h1 := h24) (pc1 := 150) (ls1 := [(0, .ref a0), (1, .int (i1 ||| ((1 : Int32) <<< (x10 &&& 31)))), (2, .int x15), (3, .int x10), (4, .int x20)]) (st1 := [.int x23, .int x22, .ref a0]) ?_ (fun Jh24 => ?_)
                  · clear hAh24 hlh24
                    refine v_iadd C dX17_readsRing_150 ?_
                    refine v_putv (Cn := RX17) (T := TX17) (N := 37) (ty0 := tyX17) C hf in_X17 tyX17_ok nmX17 rfl (by decide) q1814 rfl rfl rfl rfl dX17_readsRing_151 (fun h25 hf => ?_)
                    refine v_goto (tgt := 40) C dX17_readsRing_154 (by decide) ?_
                    refine v_sub (ls' := _) [0, 1, 2, 3, 4] rfl (ih (i1 ||| ((1 : Int32) <<< (x10 &&& 31))) x15 x10 x20 _ _ _ hf hl J hret)
                  · clear hf
                    have hf := hAh24
                    have hl := hlh24
                    refine v_if_eq C hf (tgt := 149) dX17_readsRing_142 (by decide) (fun c142 hf => ?_) (fun c142 hf => ?_)
                    · refine v_iconst (x := 0) C dX17_readsRing_149 (by decide) ?_
                      obtain ⟨e1, rfl⟩ := mret_inv hf
                      subst e1
                      exact v_sub (ls' := _) [1, 2, 3, 4, 0] rfl Jh24
                    · refine v_iconst (x := 1) C dX17_readsRing_145 (by decide) ?_
                      refine v_goto (tgt := 150) C dX17_readsRing_146 (by decide) ?_
                      obtain ⟨e1, rfl⟩ := mret_inv hf
                      subst e1
                      exact v_sub (ls' := _) [1, 2, 3, 4, 0] rfl Jh24
                · clear hf
                  have hf := hAh21
                  have hl := hlh21
                  refine v_icmp_ne C hf (tgt := 132) dX17_readsRing_125 (by decide) (fun c125 hf => ?_) (fun c125 hf => ?_)
                  · refine v_iconst (x := 0) C dX17_readsRing_132 (by decide) ?_
                    obtain ⟨e1, rfl⟩ := mret_inv hf
                    subst e1
                    exact v_sub (ls' := _) [1, 2, 3, 0] rfl Jh21
                  · refine v_iconst (x := 1) C dX17_readsRing_128 (by decide) ?_
                    refine v_goto (tgt := 133) C dX17_readsRing_129 (by decide) ?_
                    obtain ⟨e1, rfl⟩ := mret_inv hf
                    subst e1
                    exact v_sub (ls' := _) [1, 2, 3, 0] rfl Jh21
              · clear hf
                have hf := hAh17
                have hl := hlh17
                refine v_if_lt C hf (tgt := 116) dX17_readsRing_105 (by decide) (fun c105 hf => ?_) (fun c105 hf => ?_)
                · obtain ⟨e1, rfl⟩ := mret_inv hf
                  exact v_sub (ls' := _) [1, 2, 0, 4] rfl Jh17
                · refine v_aload_n C 1 dX17_readsRing_108 rfl rfl ?_
                  refine v_gR (Cn := RX17) (T := TX17) (N := 37) C hf in_X17 rfl (by decide) q1815 rfl dX17_readsRing_109 (fun x26 hf => ?_)
                  refine v_iload_n C 3 dX17_readsRing_112 rfl rfl ?_
                  refine v_iload C 4 dX17_readsRing_113 rfl ?_
                  refine v_iastore C hf dX17_readsRing_115 (fun h27 hf => ?_)
                  obtain ⟨e1, rfl⟩ := mret_inv hf
                  exact v_sub (ls' := _) [1, 2, 0, 4] rfl Jh17
            · clear hf
              have hf := hAh16
              have hl := hlh16
              refine v_if_ge C hf (tgt := 102) dX17_readsRing_94 (by decide) (fun c94 hf => ?_) (fun c94 hf => ?_)
              · refine v_iload_n C 4 dX17_readsRing_102 rfl rfl ?_
                obtain ⟨e1, rfl⟩ := mret_inv hf
                subst e1
                exact v_sub (ls' := _) [3, 0, 5, 1] rfl Jh16
              · refine v_iload C 1 dX17_readsRing_97 rfl ?_
                refine v_goto (tgt := 103) C dX17_readsRing_99 (by decide) ?_
                obtain ⟨e1, rfl⟩ := mret_inv hf
                subst e1
                exact v_sub (ls' := _) [3, 0, 5, 1] rfl Jh16
          · refine v_aload_n C 2 dX17_readsRing_78 rfl rfl ?_
            refine v_iload C 1 dX17_readsRing_79 rfl ?_
            refine v_putv (Cn := RX17) (T := TX17) (N := 37) (ty0 := tyX17) C hf in_X17 tyX17_ok nmX17 rfl (by decide) q1814 rfl rfl rfl rfl dX17_readsRing_81 (fun h28 hf => ?_)
            refine v_iconst (x := 0) C dX17_readsRing_84 (by decide) ?_
            exact v_zret C E (mrt_ret hf hret) dX17_readsRing_85
  unfold f_X17_readsRing at hf
  refine v_iconst (x := 0) C dX17_readsRing_0 (by decide) ?_
  refine v_istore_n (ls' := [(1, _), (0, _)]) C dX17_readsRing_1 rfl (by decide) rfl ?_
  obtain ⟨x3, h4, eh4, hf, hlh4⟩ := mb_inv hf hl
  refine v_sub (ls' := _) [1, 0] rfl (L2 a0 FU (0 : Int32) _ _ _ eh4 hlh4 ?_)
  refine v_aload_n C 0 dX17_readsRing_21 rfl rfl ?_
  refine v_dup C dX17_readsRing_22 rfl ?_
  refine v_gI (Cn := RX17) (T := TX17) (N := 37) C hf in_X17 rfl (by decide) q1814 rfl dX17_readsRing_23 (fun x5 hf => ?_)
  refine v_iconst (x := 1) C dX17_readsRing_26 (by decide) ?_
  refine v_iadd C dX17_readsRing_27 ?_
  refine v_putv (Cn := RX17) (T := TX17) (N := 37) (ty0 := tyX17) C hf in_X17 tyX17_ok nmX17 rfl (by decide) q1814 rfl rfl rfl rfl dX17_readsRing_28 (fun h6 hf => ?_)
  refine v_iconst (x := 0) C dX17_readsRing_31 (by decide) ?_
  refine v_istore_n (ls' := [(1, _), (0, _)]) C dX17_readsRing_32 rfl (by decide) rfl ?_
  refine v_iconst (x := (-1)) C dX17_readsRing_33 (by decide) ?_
  refine v_istore_n (ls' := [(2, _), (1, _), (0, _)]) C dX17_readsRing_34 rfl (by decide) rfl ?_
  refine v_iconst (x := (-1)) C dX17_readsRing_35 (by decide) ?_
  refine v_istore_n (ls' := [(3, _), (2, _), (1, _), (0, _)]) C dX17_readsRing_36 rfl (by decide) rfl ?_
  refine v_iconst (x := 1) C dX17_readsRing_37 (by decide) ?_
  refine v_istore (ls' := [(4, _), (3, _), (2, _), (1, _), (0, _)]) C dX17_readsRing_38 (by decide) rfl ?_
  obtain ⟨ox29, h30, eh30, hlh30, hkh30, hrh30⟩ := mbs_inv hf hl
  refine v_sub (ls' := _) [4, 3, 2, 1, 0] rfl (L40 a0 FU (0 : Int32) (-1 : Int32) (-1 : Int32) (1 : Int32) _ _ _ eh30 hlh30 (fun x29 eo => ?_) hrh30)
  have hf := hkh30 x29 eo
  clear hkh30 hrh30
  refine v_aload_n C 0 dX17_readsRing_157 rfl rfl ?_
  refine v_gR (Cn := RX17) (T := TX17) (N := 37) C hf in_X17 rfl (by decide) q1815 rfl dX17_readsRing_158 (fun x31 hf => ?_)
  refine v_iload_n C 2 dX17_readsRing_161 rfl rfl ?_
  refine v_iload_n C 1 dX17_readsRing_162 rfl rfl ?_
  refine v_iastore C hf dX17_readsRing_163 (fun h32 hf => ?_)
  refine v_aload_n C 0 dX17_readsRing_164 rfl rfl ?_
  refine v_callV (stk := fun b => .int b :: []) C (ct_X17_here _ a0) rfl ⟨rfl, nd_X17_here⟩ rfl (Nat.le_of_ble_eq_true rfl) (Nat.le_of_ble_eq_true rfl) [] (Nat.le_of_ble_eq_true rfl) (fun _ => rfl) rfl q2076 q2078 qs59 q127 q2079 hf hl dX17_readsRing_165 (fun x33 h34 hf => ?_)
  refine v_bipush (x := 41) C dX17_readsRing_168 (by decide) ?_
  obtain ⟨x35, h36, hAh36, hf, hlh36⟩ := mb_inv hf hl
  refine v_cut (h1 := h36) (pc1 := 178) (ls1 := [(0, .ref a0)]) (st1 := [.int x35]) ?_ (fun Jh36 => ?_)
  · clear hAh36 hlh36
    refine v_istore (ls' := [(5, _), (0, _)]) C dX17_readsRing_178 (by decide) rfl ?_
    refine v_aload_n C 1 dX17_readsRing_180 rfl rfl ?_
    refine v_dup C dX17_readsRing_181 rfl ?_
    refine v_gI (Cn := RX17) (T := TX17) (N := 37) C hf in_X17 rfl (by decide) q1814 rfl dX17_readsRing_182 (fun x37 hf => ?_)
    refine v_iload C 0 dX17_readsRing_185 rfl ?_
    obtain ⟨x38, h39, hAh39, hf, hlh39⟩ := mb_inv hf hl
    refine v_cut (h1 := h39) (pc1 := 195) (ls1 := [(5, .int x35)]) (st1 := [.int x38, .int x37, .ref a0]) ?_ (fun Jh39 => ?_)
    · clear hAh39 hlh39
      refine v_iadd C dX17_readsRing_195 ?_
      refine v_putv (Cn := RX17) (T := TX17) (N := 37) (ty0 := tyX17) C hf in_X17 tyX17_ok nmX17 rfl (by decide) q1814 rfl rfl rfl rfl dX17_readsRing_196 (fun h40 hf => ?_)
      refine v_iload C 0 dX17_readsRing_199 rfl ?_
      exact v_zret C E hf dX17_readsRing_201
    · clear hf
      have hf := hAh39
      have hl := hlh39
      refine v_if_eq C hf (tgt := 194) dX17_readsRing_187 (by decide) (fun c187 hf => ?_) (fun c187 hf => ?_)
      · refine v_iconst (x := 0) C dX17_readsRing_194 (by decide) ?_
        obtain ⟨e1, rfl⟩ := mret_inv hf
        subst e1
        exact v_sub (ls' := _) [0] rfl Jh39
      · refine v_iconst (x := 1) C dX17_readsRing_190 (by decide) ?_
        refine v_goto (tgt := 195) C dX17_readsRing_191 (by decide) ?_
        obtain ⟨e1, rfl⟩ := mret_inv hf
        subst e1
        exact v_sub (ls' := _) [0] rfl Jh39
  · clear hf
    have hf := hAh36
    have hl := hlh36
    refine v_icmp_ne C hf (tgt := 177) dX17_readsRing_170 (by decide) (fun c170 hf => ?_) (fun c170 hf => ?_)
    · refine v_iconst (x := 0) C dX17_readsRing_177 (by decide) ?_
      obtain ⟨e1, rfl⟩ := mret_inv hf
      subst e1
      exact v_sub (ls' := _) [0] rfl Jh36
    · refine v_iconst (x := 1) C dX17_readsRing_173 (by decide) ?_
      refine v_goto (tgt := 178) C dX17_readsRing_174 (by decide) ?_
      obtain ⟨e1, rfl⟩ := mret_inv hf
      subst e1
      exact v_sub (ls' := _) [0] rfl Jh36
def l_X17_adds_56 (a0 : Nat) : Nat → Int32 → hM (Unit)
  | 0, _ => mfail
  | n + 1, i2 => mi ((24 : Int32) ≤ i2) (mret ()) (mb (gR a0 15 17) fun x14 => mb (gI a0 15 19) fun x15 => mb (gR a0 15 20) fun x16 => mb (aI 1 x16 i2) fun x17 => mb (sI 1 x14 (((24 : Int32) * x15) + i2) x17) fun _ => l_X17_adds_56 a0 n (i2 + (1 : Int32)))
def f_X17_adds (a0 : Nat) : hM Unit :=
  mb (mat a0 15 (f_X17_sifts a0)) fun x1 => mi (x1 < 0) (mret ()) (mb (gI a0 15 19) fun x3 => mi (¬ x3 = (124 : Int32)) (mb (gR a0 15 16) fun x4 => mb (gR a0 15 20) fun x5 => mb (gR a0 15 15) fun x6 => mb (aI 1 x6 x1) fun x7 => mb (aI 1 x5 x7) fun x8 => mb (gI a0 15 19) fun x9 => mb (sI 1 x4 (((24 : Int32) * x1) + x8) x9) fun _ => mb (gR a0 15 18) fun x11 => mb (gI a0 15 19) fun x12 => mb (sI 1 x11 x12 x1) fun _ => mb (l_X17_adds_56 a0 FU (0 : Int32)) fun x19 => mb (gI a0 15 19) fun x21 => mb (pF a0 15 19 (.int (x21 + (1 : Int32)))) fun _ => mret ()) (mret ()))
theorem nd_X17_adds : yX17_adds.cls ≠ "java/lang/invoke/MethodHandle" ∧ yX17_adds.cls ≠ "java/lang/invoke/VarHandle" ∧ (parseMethodDescriptor yX17_adds.desc).map (fun d => d.parameters.length) = some 0 := by decide +kernel
set_option maxHeartbeats 4000000 in
theorem ct_X17_adds (l : Launch) (a0 : Nat) : CT l yX17_adds cX17_adds 3 none 2 45 rv0 [.ref a0] (f_X17_adds a0) := by
  refine CT_of (ls := [(0, .ref a0)]) (by decide) (Nat.le_of_ble_eq_true rfl) rfl ?_
  intro X h he z hX hf C E hnm hh
  have hl := hle.rf he
  subst hX
  have L56 : ∀ (a0 : Nat) (n : Nat) (i2 : Int32) (h h1 : Hp) (o : Unit), (l_X17_adds_56 a0 n i2).1 h = some (o, h1) → hle h1 he → V X h1 88 [(0, .ref a0)] [] → V X h 56 [(0, .ref a0), (2, .int i2)] [] := by
    intro a0 n
    induction n with
    | zero => intro i2 h h1 o hf; exact mfail_inv hf
    | succ n ih =>
      intro i2 h h1 o hf hl J
      rw [l_X17_adds_56] at hf
      refine v_iload_n C 1 dX17_adds_56 rfl rfl ?_
      refine v_bipush (x := 24) C dX17_adds_57 (by decide) ?_
      refine v_icmp_ge C hf (tgt := 88) dX17_adds_59 (by decide) (fun c59 hf => ?_) (fun c59 hf => ?_)
      · obtain ⟨e1, rfl⟩ := mret_inv hf
        subst e1
        exact v_sub (ls' := _) [0] rfl J
      · refine v_aload_n C 0 dX17_adds_62 rfl rfl ?_
        refine v_gR (Cn := RX17) (T := TX17) (N := 37) C hf in_X17 rfl (by decide) q1821 rfl dX17_adds_63 (fun x14 hf => ?_)
        refine v_bipush (x := 24) C dX17_adds_66 (by decide) ?_
        refine v_aload_n C 0 dX17_adds_68 rfl rfl ?_
        refine v_gI (Cn := RX17) (T := TX17) (N := 37) C hf in_X17 rfl (by decide) q1823 rfl dX17_adds_69 (fun x15 hf => ?_)
        refine v_imul C dX17_adds_72 ?_
        refine v_iload_n C 1 dX17_adds_73 rfl rfl ?_
        refine v_iadd C dX17_adds_74 ?_
        refine v_aload_n C 0 dX17_adds_75 rfl rfl ?_
        refine v_gR (Cn := RX17) (T := TX17) (N := 37) C hf in_X17 rfl (by decide) q1824 rfl dX17_adds_76 (fun x16 hf => ?_)
        refine v_iload_n C 1 dX17_adds_79 rfl rfl ?_
        refine v_iaload C hf dX17_adds_80 (fun x17 hf => ?_)
        refine v_iastore C hf dX17_adds_81 (fun h18 hf => ?_)
        refine v_iinc (ls' := [(2, _), (0, _)]) (y := i2 + (1 : Int32)) C 1 dX17_adds_82 rfl rfl (by decide) rfl ?_
        refine v_goto (tgt := 56) C dX17_adds_85 (by decide) ?_
        refine v_sub (ls' := _) [1, 0] rfl (ih (i2 + (1 : Int32)) _ _ _ hf hl J)
  unfold f_X17_adds at hf
  refine v_aload_n C 0 dX17_adds_0 rfl rfl ?_
  refine v_callV (stk := fun b => .int b :: []) C (ct_X17_sifts _ a0) rfl ⟨rfl, nd_X17_sifts⟩ rfl (Nat.le_of_ble_eq_true rfl) (Nat.le_of_ble_eq_true rfl) [] (Nat.le_of_ble_eq_true rfl) (fun _ => rfl) rfl q2163 q2165 qs76 q127 q2166 hf hl dX17_adds_1 (fun x1 h2 hf => ?_)
  refine v_istore_n (ls' := [(1, _), (0, _)]) C dX17_adds_4 rfl (by decide) rfl ?_
  refine v_iload_n C 0 dX17_adds_5 rfl rfl ?_
  refine v_if_lt C hf (tgt := 18) dX17_adds_6 (by decide) (fun c6 hf => ?_) (fun c6 hf => ?_)
  · exact v_vret C E hf dX17_adds_18
  · refine v_aload_n C 1 dX17_adds_9 rfl rfl ?_
    refine v_gI (Cn := RX17) (T := TX17) (N := 37) C hf in_X17 rfl (by decide) q1823 rfl dX17_adds_10 (fun x3 hf => ?_)
    refine v_bipush (x := 124) C dX17_adds_13 (by decide) ?_
    refine v_icmp_ne C hf (tgt := 19) dX17_adds_15 (by decide) (fun c15 hf => ?_) (fun c15 hf => ?_)
    · refine v_aload_n C 1 dX17_adds_19 rfl rfl ?_
      refine v_gR (Cn := RX17) (T := TX17) (N := 37) C hf in_X17 rfl (by decide) q1820 rfl dX17_adds_20 (fun x4 hf => ?_)
      refine v_bipush (x := 24) C dX17_adds_23 (by decide) ?_
      refine v_iload_n C 0 dX17_adds_25 rfl rfl ?_
      refine v_imul C dX17_adds_26 ?_
      refine v_aload_n C 1 dX17_adds_27 rfl rfl ?_
      refine v_gR (Cn := RX17) (T := TX17) (N := 37) C hf in_X17 rfl (by decide) q1824 rfl dX17_adds_28 (fun x5 hf => ?_)
      refine v_aload_n C 1 dX17_adds_31 rfl rfl ?_
      refine v_gR (Cn := RX17) (T := TX17) (N := 37) C hf in_X17 rfl (by decide) q1819 rfl dX17_adds_32 (fun x6 hf => ?_)
      refine v_iload_n C 0 dX17_adds_35 rfl rfl ?_
      refine v_iaload C hf dX17_adds_36 (fun x7 hf => ?_)
      refine v_iaload C hf dX17_adds_37 (fun x8 hf => ?_)
      refine v_iadd C dX17_adds_38 ?_
      refine v_aload_n C 1 dX17_adds_39 rfl rfl ?_
      refine v_gI (Cn := RX17) (T := TX17) (N := 37) C hf in_X17 rfl (by decide) q1823 rfl dX17_adds_40 (fun x9 hf => ?_)
      refine v_iastore C hf dX17_adds_43 (fun h10 hf => ?_)
      refine v_aload_n C 1 dX17_adds_44 rfl rfl ?_
      refine v_gR (Cn := RX17) (T := TX17) (N := 37) C hf in_X17 rfl (by decide) q1822 rfl dX17_adds_45 (fun x11 hf => ?_)
      refine v_aload_n C 1 dX17_adds_48 rfl rfl ?_
      refine v_gI (Cn := RX17) (T := TX17) (N := 37) C hf in_X17 rfl (by decide) q1823 rfl dX17_adds_49 (fun x12 hf => ?_)
      refine v_iload_n C 0 dX17_adds_52 rfl rfl ?_
      refine v_iastore C hf dX17_adds_53 (fun h13 hf => ?_)
      refine v_iconst (x := 0) C dX17_adds_54 (by decide) ?_
      refine v_istore_n (ls' := [(2, _), (1, _), (0, _)]) C dX17_adds_55 rfl (by decide) rfl ?_
      obtain ⟨x19, h20, eh20, hf, hlh20⟩ := mb_inv hf hl
      refine v_sub (ls' := _) [2, 0] rfl (L56 a0 FU (0 : Int32) _ _ _ eh20 hlh20 ?_)
      refine v_aload_n C 0 dX17_adds_88 rfl rfl ?_
      refine v_dup C dX17_adds_89 rfl ?_
      refine v_gI (Cn := RX17) (T := TX17) (N := 37) C hf in_X17 rfl (by decide) q1823 rfl dX17_adds_90 (fun x21 hf => ?_)
      refine v_iconst (x := 1) C dX17_adds_93 (by decide) ?_
      refine v_iadd C dX17_adds_94 ?_
      refine v_putv (Cn := RX17) (T := TX17) (N := 37) (ty0 := tyX17) C hf in_X17 tyX17_ok nmX17 rfl (by decide) q1823 rfl rfl rfl rfl dX17_adds_95 (fun h22 hf => ?_)
      exact v_vret C E hf dX17_adds_98
    · exact v_vret C E hf dX17_adds_18
def l_X17_tries_18 (a0 : Nat) (i1 : Int32) (i2 : Int32) : Nat → Int32 → hM (Unit)
  | 0, _ => mfail
  | n + 1, i3 => mi ((24 : Int32) ≤ i3) (mret ()) (mb (gR a0 15 20) fun x5 => mb (gR a0 15 17) fun x6 => mb (gR a0 15 17) fun x7 => mb (aI 1 x7 (((24 : Int32) * i1) + i3)) fun x8 => mb (aI 1 x6 (((24 : Int32) * i2) + x8)) fun x9 => mb (sI 1 x5 i3 x9) fun _ => l_X17_tries_18 a0 i1 i2 n (i3 + (1 : Int32)))
def f_X17_tries (a0 : Nat) (i1 : Int32) (i2 : Int32) : hM Unit :=
  mb (gR a0 15 18) fun x1 => mb (aI 1 x1 i1) fun x2 => mb (gR a0 15 18) fun x3 => mb (aI 1 x3 i2) fun x4 => mi (x2 ≤ x4) (mb (l_X17_tries_18 a0 i1 i2 FU (0 : Int32)) fun x11 => mb (mat a0 15 (f_X17_adds a0)) fun _ => mret ()) (mret ())
theorem nd_X17_tries : yX17_tries.cls ≠ "java/lang/invoke/MethodHandle" ∧ yX17_tries.cls ≠ "java/lang/invoke/VarHandle" ∧ (parseMethodDescriptor yX17_tries.desc).map (fun d => d.parameters.length) = some 2 := by decide +kernel
set_option maxHeartbeats 4000000 in
theorem ct_X17_tries (l : Launch) (a0 : Nat) (i1 : Int32) (i2 : Int32) : CT l yX17_tries cX17_tries 4 none 3 67 rv0 [.ref a0, .int i1, .int i2] (f_X17_tries a0 i1 i2) := by
  refine CT_of (ls := [(0, .ref a0), (1, .int i1), (2, .int i2)]) (by decide) (Nat.le_of_ble_eq_true rfl) rfl ?_
  intro X h he z hX hf C E hnm hh
  have hl := hle.rf he
  subst hX
  have L18 : ∀ (a0 : Nat) (i1 : Int32) (i2 : Int32) (n : Nat) (i3 : Int32) (h h1 : Hp) (o : Unit), (l_X17_tries_18 a0 i1 i2 n i3).1 h = some (o, h1) → hle h1 he → V X h1 57 [(0, .ref a0)] [] → V X h 18 [(0, .ref a0), (1, .int i1), (2, .int i2), (3, .int i3)] [] := by
    intro a0 i1 i2 n
    induction n with
    | zero => intro i3 h h1 o hf; exact mfail_inv hf
    | succ n ih =>
      intro i3 h h1 o hf hl J
      rw [l_X17_tries_18] at hf
      refine v_iload_n C 3 dX17_tries_18 rfl rfl ?_
      refine v_bipush (x := 24) C dX17_tries_19 (by decide) ?_
      refine v_icmp_ge C hf (tgt := 57) dX17_tries_21 (by decide) (fun c21 hf => ?_) (fun c21 hf => ?_)
      · obtain ⟨e1, rfl⟩ := mret_inv hf
        subst e1
        exact v_sub (ls' := _) [0] rfl J
      · refine v_aload_n C 0 dX17_tries_24 rfl rfl ?_
        refine v_gR (Cn := RX17) (T := TX17) (N := 37) C hf in_X17 rfl (by decide) q1824 rfl dX17_tries_25 (fun x5 hf => ?_)
        refine v_iload_n C 3 dX17_tries_28 rfl rfl ?_
        refine v_aload_n C 0 dX17_tries_29 rfl rfl ?_
        refine v_gR (Cn := RX17) (T := TX17) (N := 37) C hf in_X17 rfl (by decide) q1821 rfl dX17_tries_30 (fun x6 hf => ?_)
        refine v_bipush (x := 24) C dX17_tries_33 (by decide) ?_
        refine v_iload_n C 2 dX17_tries_35 rfl rfl ?_
        refine v_imul C dX17_tries_36 ?_
        refine v_aload_n C 0 dX17_tries_37 rfl rfl ?_
        refine v_gR (Cn := RX17) (T := TX17) (N := 37) C hf in_X17 rfl (by decide) q1821 rfl dX17_tries_38 (fun x7 hf => ?_)
        refine v_bipush (x := 24) C dX17_tries_41 (by decide) ?_
        refine v_iload_n C 1 dX17_tries_43 rfl rfl ?_
        refine v_imul C dX17_tries_44 ?_
        refine v_iload_n C 3 dX17_tries_45 rfl rfl ?_
        refine v_iadd C dX17_tries_46 ?_
        refine v_iaload C hf dX17_tries_47 (fun x8 hf => ?_)
        refine v_iadd C dX17_tries_48 ?_
        refine v_iaload C hf dX17_tries_49 (fun x9 hf => ?_)
        refine v_iastore C hf dX17_tries_50 (fun h10 hf => ?_)
        refine v_iinc (ls' := [(3, _), (0, _), (1, _), (2, _)]) (y := i3 + (1 : Int32)) C 3 dX17_tries_51 rfl rfl (by decide) rfl ?_
        refine v_goto (tgt := 18) C dX17_tries_54 (by decide) ?_
        refine v_sub (ls' := _) [1, 2, 3, 0] rfl (ih (i3 + (1 : Int32)) _ _ _ hf hl J)
  unfold f_X17_tries at hf
  refine v_aload_n C 0 dX17_tries_0 rfl rfl ?_
  refine v_gR (Cn := RX17) (T := TX17) (N := 37) C hf in_X17 rfl (by decide) q1822 rfl dX17_tries_1 (fun x1 hf => ?_)
  refine v_iload_n C 1 dX17_tries_4 rfl rfl ?_
  refine v_iaload C hf dX17_tries_5 (fun x2 hf => ?_)
  refine v_aload_n C 0 dX17_tries_6 rfl rfl ?_
  refine v_gR (Cn := RX17) (T := TX17) (N := 37) C hf in_X17 rfl (by decide) q1822 rfl dX17_tries_7 (fun x3 hf => ?_)
  refine v_iload_n C 2 dX17_tries_10 rfl rfl ?_
  refine v_iaload C hf dX17_tries_11 (fun x4 hf => ?_)
  refine v_icmp_le C hf (tgt := 16) dX17_tries_12 (by decide) (fun c12 hf => ?_) (fun c12 hf => ?_)
  · refine v_iconst (x := 0) C dX17_tries_16 (by decide) ?_
    refine v_istore_n (ls' := [(3, _), (0, _), (1, _), (2, _)]) C dX17_tries_17 rfl (by decide) rfl ?_
    obtain ⟨x11, h12, eh12, hf, hlh12⟩ := mb_inv hf hl
    refine v_sub (ls' := _) [1, 2, 3, 0] rfl (L18 a0 i1 i2 FU (0 : Int32) _ _ _ eh12 hlh12 ?_)
    refine v_aload_n C 0 dX17_tries_57 rfl rfl ?_
    refine v_callV (stk := fun _ => []) C (ct_X17_adds _ a0) rfl ⟨rfl, nd_X17_adds⟩ rfl (Nat.le_of_ble_eq_true rfl) (Nat.le_of_ble_eq_true rfl) [] (Nat.le_of_ble_eq_true rfl) (fun _ => rfl) rfl q2159 q2161 qs75 q127 q2162 hf hl dX17_tries_58 (fun x13 h14 hf => ?_)
    exact v_vret C E hf dX17_tries_61
  · exact v_vret C E hf dX17_tries_15
def l_X17_orbitsOfSextets_32 (a0 : Nat) (i1 : Int32) (i3 : Int32) (i4 : Int32) : Nat → Int32 → Int32 → hM (Int32)
  | 0, _, _ => mfail
  | n + 1, i2, i5 => mi ((24 : Int32) ≤ i5) (mret i2) (mb (mat a0 15 (f_X17_spreadsFours a0 i1 ((((1 : Int32) ||| ((1 : Int32) <<< (i3 &&& 31))) ||| ((1 : Int32) <<< (i4 &&& 31))) ||| ((1 : Int32) <<< (i5 &&& 31))))) fun x3 => mb (mi (x3 ≤ 0) (mret (0 : Int32)) (mret (1 : Int32))) fun x5 => l_X17_orbitsOfSextets_32 a0 i1 i3 i4 n (i2 + x5) (i5 + (1 : Int32)))
def l_X17_orbitsOfSextets_19 (a0 : Nat) (i1 : Int32) (i3 : Int32) : Nat → Int32 → Int32 → hM (Int32)
  | 0, _, _ => mfail
  | n + 1, i2, i4 => mi ((23 : Int32) ≤ i4) (mret i2) (mb (l_X17_orbitsOfSextets_32 a0 i1 i3 i4 FU i2 (i4 + (1 : Int32))) fun x7 => l_X17_orbitsOfSextets_19 a0 i1 i3 n x7 (i4 + (1 : Int32)))
def l_X17_orbitsOfSextets_8 (a0 : Nat) (i1 : Int32) : Nat → Int32 → Int32 → hM (Int32)
  | 0, _, _ => mfail
  | n + 1, i2, i3 => mi ((22 : Int32) ≤ i3) (mret i2) (mb (l_X17_orbitsOfSextets_19 a0 i1 i3 FU i2 (i3 + (1 : Int32))) fun x9 => l_X17_orbitsOfSextets_8 a0 i1 n x9 (i3 + (1 : Int32)))
def f_X17_orbitsOfSextets (a0 : Nat) (i1 : Int32) : hM Int32 :=
  mb (mat a0 15 (f_X17_unmarks a0)) fun _ => mb (l_X17_orbitsOfSextets_8 a0 i1 FU (0 : Int32) (1 : Int32)) fun x11 => mret x11
theorem nd_X17_orbitsOfSextets : yX17_orbitsOfSextets.cls ≠ "java/lang/invoke/MethodHandle" ∧ yX17_orbitsOfSextets.cls ≠ "java/lang/invoke/VarHandle" ∧ (parseMethodDescriptor yX17_orbitsOfSextets.desc).map (fun d => d.parameters.length) = some 1 := by decide +kernel
set_option maxHeartbeats 4000000 in
theorem ct_X17_orbitsOfSextets (l : Launch) (a0 : Nat) (i1 : Int32) : CT l yX17_orbitsOfSextets cX17_orbitsOfSextets 6 (some .int) 4 94 rvI [.ref a0, .int i1] (f_X17_orbitsOfSextets a0 i1) := by
  refine CT_of (ls := [(0, .ref a0), (1, .int i1)]) (by decide) (Nat.le_of_ble_eq_true rfl) rfl ?_
  intro X h he z hX hf C E hnm hh
  have hl := hle.rf he
  subst hX
  have L32 : ∀ (a0 : Nat) (i1 : Int32) (i3 : Int32) (i4 : Int32) (n : Nat) (i2 : Int32) (i5 : Int32) (h h1 : Hp) (o : Int32), (l_X17_orbitsOfSextets_32 a0 i1 i3 i4 n i2 i5).1 h = some (o, h1) → hle h1 he → V X h1 76 [(0, .ref a0), (1, .int i1), (2, .int o), (3, .int i3), (4, .int i4)] [] → V X h 32 [(0, .ref a0), (1, .int i1), (2, .int i2), (3, .int i3), (4, .int i4), (5, .int i5)] [] := by
    intro a0 i1 i3 i4 n
    induction n with
    | zero => intro i2 i5 h h1 o hf; exact mfail_inv hf
    | succ n ih =>
      intro i2 i5 h h1 o hf hl J
      rw [l_X17_orbitsOfSextets_32] at hf
      refine v_iload C 5 dX17_orbitsOfSextets_32 rfl ?_
      refine v_bipush (x := 24) C dX17_orbitsOfSextets_34 (by decide) ?_
      refine v_icmp_ge C hf (tgt := 76) dX17_orbitsOfSextets_36 (by decide) (fun c36 hf => ?_) (fun c36 hf => ?_)
      · obtain ⟨e1, rfl⟩ := mret_inv hf
        subst e1
        exact v_sub (ls' := _) [0, 1, 2, 3, 4] rfl J
      · refine v_iload_n C 2 dX17_orbitsOfSextets_39 rfl rfl ?_
        refine v_aload_n C 0 dX17_orbitsOfSextets_40 rfl rfl ?_
        refine v_iload_n C 1 dX17_orbitsOfSextets_41 rfl rfl ?_
        refine v_iconst (x := 1) C dX17_orbitsOfSextets_42 (by decide) ?_
        refine v_iconst (x := 1) C dX17_orbitsOfSextets_43 (by decide) ?_
        refine v_iload_n C 3 dX17_orbitsOfSextets_44 rfl rfl ?_
        refine v_ishl C dX17_orbitsOfSextets_45 ?_
        refine v_ior C dX17_orbitsOfSextets_46 ?_
        refine v_iconst (x := 1) C dX17_orbitsOfSextets_47 (by decide) ?_
        refine v_iload C 4 dX17_orbitsOfSextets_48 rfl ?_
        refine v_ishl C dX17_orbitsOfSextets_50 ?_
        refine v_ior C dX17_orbitsOfSextets_51 ?_
        refine v_iconst (x := 1) C dX17_orbitsOfSextets_52 (by decide) ?_
        refine v_iload C 5 dX17_orbitsOfSextets_53 rfl ?_
        refine v_ishl C dX17_orbitsOfSextets_55 ?_
        refine v_ior C dX17_orbitsOfSextets_56 ?_
        refine v_callV (stk := fun b => .int b :: [.int i2]) C (ct_X17_spreadsFours _ a0 i1 ((((1 : Int32) ||| ((1 : Int32) <<< (i3 &&& 31))) ||| ((1 : Int32) <<< (i4 &&& 31))) ||| ((1 : Int32) <<< (i5 &&& 31)))) rfl ⟨rfl, nd_X17_spreadsFours⟩ rfl (Nat.le_of_ble_eq_true rfl) (Nat.le_of_ble_eq_true rfl) [.int i2] (Nat.le_of_ble_eq_true rfl) (fun _ => rfl) rfl q2195 q2197 qs84 q127 q2198 hf hl dX17_orbitsOfSextets_57 (fun x3 h4 hf => ?_)
        obtain ⟨x5, h6, hAh6, hf, hlh6⟩ := mb_inv hf hl
        refine v_cut (h1 := h6) (pc1 := 68) (ls1 := [(0, .ref a0), (1, .int i1), (3, .int i3), (4, .int i4), (5, .int i5)]) (st1 := [.int x5, .int i2]) ?_ (fun Jh6 => ?_)
        · clear hAh6 hlh6
          refine v_iadd C dX17_orbitsOfSextets_68 ?_
          refine v_istore_n (ls' := [(2, _), (0, _), (1, _), (3, _), (4, _), (5, _)]) C dX17_orbitsOfSextets_69 rfl (by decide) rfl ?_
          refine v_iinc (ls' := [(5, _), (2, _), (0, _), (1, _), (3, _), (4, _)]) (y := i5 + (1 : Int32)) C 5 dX17_orbitsOfSextets_70 rfl rfl (by decide) rfl ?_
          refine v_goto (tgt := 32) C dX17_orbitsOfSextets_73 (by decide) ?_
          refine v_sub (ls' := _) [2, 3, 1, 4, 5, 0] rfl (ih (i2 + x5) (i5 + (1 : Int32)) _ _ _ hf hl J)
        · clear hf
          have hf := hAh6
          have hl := hlh6
          refine v_if_le C hf (tgt := 67) dX17_orbitsOfSextets_60 (by decide) (fun c60 hf => ?_) (fun c60 hf => ?_)
          · refine v_iconst (x := 0) C dX17_orbitsOfSextets_67 (by decide) ?_
            obtain ⟨e1, rfl⟩ := mret_inv hf
            subst e1
            exact v_sub (ls' := _) [0, 1, 3, 4, 5] rfl Jh6
          · refine v_iconst (x := 1) C dX17_orbitsOfSextets_63 (by decide) ?_
            refine v_goto (tgt := 68) C dX17_orbitsOfSextets_64 (by decide) ?_
            obtain ⟨e1, rfl⟩ := mret_inv hf
            subst e1
            exact v_sub (ls' := _) [0, 1, 3, 4, 5] rfl Jh6
  have L19 : ∀ (a0 : Nat) (i1 : Int32) (i3 : Int32) (n : Nat) (i2 : Int32) (i4 : Int32) (h h1 : Hp) (o : Int32), (l_X17_orbitsOfSextets_19 a0 i1 i3 n i2 i4).1 h = some (o, h1) → hle h1 he → V X h1 82 [(0, .ref a0), (1, .int i1), (2, .int o), (3, .int i3)] [] → V X h 19 [(0, .ref a0), (1, .int i1), (2, .int i2), (3, .int i3), (4, .int i4)] [] := by
    intro a0 i1 i3 n
    induction n with
    | zero => intro i2 i4 h h1 o hf; exact mfail_inv hf
    | succ n ih =>
      intro i2 i4 h h1 o hf hl J
      rw [l_X17_orbitsOfSextets_19] at hf
      refine v_iload C 4 dX17_orbitsOfSextets_19 rfl ?_
      refine v_bipush (x := 23) C dX17_orbitsOfSextets_21 (by decide) ?_
      refine v_icmp_ge C hf (tgt := 82) dX17_orbitsOfSextets_23 (by decide) (fun c23 hf => ?_) (fun c23 hf => ?_)
      · obtain ⟨e1, rfl⟩ := mret_inv hf
        subst e1
        exact v_sub (ls' := _) [0, 1, 2, 3] rfl J
      · refine v_iload C 4 dX17_orbitsOfSextets_26 rfl ?_
        refine v_iconst (x := 1) C dX17_orbitsOfSextets_28 (by decide) ?_
        refine v_iadd C dX17_orbitsOfSextets_29 ?_
        refine v_istore (ls' := [(5, _), (0, _), (1, _), (2, _), (3, _), (4, _)]) C dX17_orbitsOfSextets_30 (by decide) rfl ?_
        obtain ⟨x7, h8, eh8, hf, hlh8⟩ := mb_inv hf hl
        refine v_sub (ls' := _) [1, 2, 3, 4, 5, 0] rfl (L32 a0 i1 i3 i4 FU i2 (i4 + (1 : Int32)) _ _ _ eh8 hlh8 ?_)
        refine v_iinc (ls' := [(4, _), (0, _), (1, _), (2, _), (3, _)]) (y := i4 + (1 : Int32)) C 4 dX17_orbitsOfSextets_76 rfl rfl (by decide) rfl ?_
        refine v_goto (tgt := 19) C dX17_orbitsOfSextets_79 (by decide) ?_
        refine v_sub (ls' := _) [1, 2, 3, 4, 0] rfl (ih x7 (i4 + (1 : Int32)) _ _ _ hf hl J)
  have L8 : ∀ (a0 : Nat) (i1 : Int32) (n : Nat) (i2 : Int32) (i3 : Int32) (h h1 : Hp) (o : Int32), (l_X17_orbitsOfSextets_8 a0 i1 n i2 i3).1 h = some (o, h1) → hle h1 he → V X h1 88 [(2, .int o)] [] → V X h 8 [(0, .ref a0), (1, .int i1), (2, .int i2), (3, .int i3)] [] := by
    intro a0 i1 n
    induction n with
    | zero => intro i2 i3 h h1 o hf; exact mfail_inv hf
    | succ n ih =>
      intro i2 i3 h h1 o hf hl J
      rw [l_X17_orbitsOfSextets_8] at hf
      refine v_iload_n C 3 dX17_orbitsOfSextets_8 rfl rfl ?_
      refine v_bipush (x := 22) C dX17_orbitsOfSextets_9 (by decide) ?_
      refine v_icmp_ge C hf (tgt := 88) dX17_orbitsOfSextets_11 (by decide) (fun c11 hf => ?_) (fun c11 hf => ?_)
      · obtain ⟨e1, rfl⟩ := mret_inv hf
        subst e1
        exact v_sub (ls' := _) [2] rfl J
      · refine v_iload_n C 3 dX17_orbitsOfSextets_14 rfl rfl ?_
        refine v_iconst (x := 1) C dX17_orbitsOfSextets_15 (by decide) ?_
        refine v_iadd C dX17_orbitsOfSextets_16 ?_
        refine v_istore (ls' := [(4, _), (0, _), (1, _), (2, _), (3, _)]) C dX17_orbitsOfSextets_17 (by decide) rfl ?_
        obtain ⟨x9, h10, eh10, hf, hlh10⟩ := mb_inv hf hl
        refine v_sub (ls' := _) [1, 2, 3, 4, 0] rfl (L19 a0 i1 i3 FU i2 (i3 + (1 : Int32)) _ _ _ eh10 hlh10 ?_)
        refine v_iinc (ls' := [(3, _), (0, _), (1, _), (2, _)]) (y := i3 + (1 : Int32)) C 3 dX17_orbitsOfSextets_82 rfl rfl (by decide) rfl ?_
        refine v_goto (tgt := 8) C dX17_orbitsOfSextets_85 (by decide) ?_
        refine v_sub (ls' := _) [1, 2, 3, 0] rfl (ih x9 (i3 + (1 : Int32)) _ _ _ hf hl J)
  unfold f_X17_orbitsOfSextets at hf
  refine v_aload_n C 0 dX17_orbitsOfSextets_0 rfl rfl ?_
  refine v_callV (stk := fun _ => []) C (ct_X17_unmarks _ a0) rfl ⟨rfl, nd_X17_unmarks⟩ rfl (Nat.le_of_ble_eq_true rfl) (Nat.le_of_ble_eq_true rfl) [] (Nat.le_of_ble_eq_true rfl) (fun _ => rfl) rfl q2191 q2193 qs83 q127 q2194 hf hl dX17_orbitsOfSextets_1 (fun x1 h2 hf => ?_)
  refine v_iconst (x := 0) C dX17_orbitsOfSextets_4 (by decide) ?_
  refine v_istore_n (ls' := [(2, _), (0, _), (1, _)]) C dX17_orbitsOfSextets_5 rfl (by decide) rfl ?_
  refine v_iconst (x := 1) C dX17_orbitsOfSextets_6 (by decide) ?_
  refine v_istore_n (ls' := [(3, _), (2, _), (0, _), (1, _)]) C dX17_orbitsOfSextets_7 rfl (by decide) rfl ?_
  obtain ⟨x11, h12, eh12, hf, hlh12⟩ := mb_inv hf hl
  refine v_sub (ls' := _) [2, 3, 1, 0] rfl (L8 a0 i1 FU (0 : Int32) (1 : Int32) _ _ _ eh12 hlh12 ?_)
  refine v_iload_n C 0 dX17_orbitsOfSextets_88 rfl rfl ?_
  exact v_iret C E hf dX17_orbitsOfSextets_89
def l_X17_orbitsOfWords_14 (a0 : Nat) (i2 : Int32) : Nat → Int32 → Int32 → hM (Int32)
  | 0, _, _ => mfail
  | n + 1, i3, i4 => mi ((4096 : Int32) ≤ i4) (mret i3) (mb (f_X17_wordOf i4) fun x5 => mb (f_X17_bits x5) fun x7 => mb (mi (¬ x7 = i2) (mret (0 : Int32)) (mb (mat a0 15 (f_X17_spreads a0 i4)) fun x11 => mi (x11 ≤ 0) (mret (0 : Int32)) (mret (1 : Int32)))) fun x9 => l_X17_orbitsOfWords_14 a0 i2 n (i3 + x9) (i4 + (1 : Int32)))
def f_X17_orbitsOfWords (a0 : Nat) (i1 : Int32) (i2 : Int32) : hM Int32 :=
  mb (mat a0 15 (f_X17_imagesOf a0 i1)) fun _ => mb (mat a0 15 (f_X17_unmarks a0)) fun _ => mb (l_X17_orbitsOfWords_14 a0 i2 FU (0 : Int32) (0 : Int32)) fun x13 => mret x13
theorem nd_X17_orbitsOfWords : yX17_orbitsOfWords.cls ≠ "java/lang/invoke/MethodHandle" ∧ yX17_orbitsOfWords.cls ≠ "java/lang/invoke/VarHandle" ∧ (parseMethodDescriptor yX17_orbitsOfWords.desc).map (fun d => d.parameters.length) = some 2 := by decide +kernel
set_option maxHeartbeats 4000000 in
theorem ct_X17_orbitsOfWords (l : Launch) (a0 : Nat) (i1 : Int32) (i2 : Int32) : CT l yX17_orbitsOfWords cX17_orbitsOfWords 5 (some .int) 4 89 rvI [.ref a0, .int i1, .int i2] (f_X17_orbitsOfWords a0 i1 i2) := by
  refine CT_of (ls := [(0, .ref a0), (1, .int i1), (2, .int i2)]) (by decide) (Nat.le_of_ble_eq_true rfl) rfl ?_
  intro X h he z hX hf C E hnm hh
  have hl := hle.rf he
  subst hX
  have L14 : ∀ (a0 : Nat) (i2 : Int32) (n : Nat) (i3 : Int32) (i4 : Int32) (h h1 : Hp) (o : Int32), (l_X17_orbitsOfWords_14 a0 i2 n i3 i4).1 h = some (o, h1) → hle h1 he → V X h1 57 [(3, .int o)] [] → V X h 14 [(0, .ref a0), (2, .int i2), (3, .int i3), (4, .int i4)] [] := by
    intro a0 i2 n
    induction n with
    | zero => intro i3 i4 h h1 o hf; exact mfail_inv hf
    | succ n ih =>
      intro i3 i4 h h1 o hf hl J
      rw [l_X17_orbitsOfWords_14] at hf
      refine v_iload C 3 dX17_orbitsOfWords_14 rfl ?_
      refine v_sipush (x := 4096) C dX17_orbitsOfWords_16 (by decide) ?_
      refine v_icmp_ge C hf (tgt := 57) dX17_orbitsOfWords_19 (by decide) (fun c19 hf => ?_) (fun c19 hf => ?_)
      · obtain ⟨e1, rfl⟩ := mret_inv hf
        subst e1
        exact v_sub (ls' := _) [2] rfl J
      · refine v_iload_n C 2 dX17_orbitsOfWords_22 rfl rfl ?_
        refine v_iload C 3 dX17_orbitsOfWords_23 rfl ?_
        refine v_callS (stk := fun b => .int b :: [.int i3]) C (ct_X17_wordOf _ i4) nd_X17_wordOf rfl (Nat.le_of_ble_eq_true rfl) (Nat.le_of_ble_eq_true rfl) [.int i3] (Nat.le_of_ble_eq_true rfl) (fun _ => rfl) rfl q1945 q1946 q127 q1947 hf hl dX17_orbitsOfWords_25 (fun x5 h6 hf => ?_)
        refine v_callS (stk := fun b => .int b :: [.int i3]) C (ct_X17_bits _ x5) nd_X17_bits rfl (Nat.le_of_ble_eq_true rfl) (Nat.le_of_ble_eq_true rfl) [.int i3] (Nat.le_of_ble_eq_true rfl) (fun _ => rfl) rfl q1801 q1802 q127 q1803 hf hl dX17_orbitsOfWords_28 (fun x7 h8 hf => ?_)
        refine v_iload_n C 1 dX17_orbitsOfWords_31 rfl rfl ?_
        obtain ⟨x9, h10, hAh10, hf, hlh10⟩ := mb_inv hf hl
        refine v_cut (h1 := h10) (pc1 := 49) (ls1 := [(0, .ref a0), (2, .int i2), (4, .int i4)]) (st1 := [.int x9, .int i3]) ?_ (fun Jh10 => ?_)
        · clear hAh10 hlh10
          refine v_iadd C dX17_orbitsOfWords_49 ?_
          refine v_istore_n (ls' := [(3, _), (0, _), (2, _), (4, _)]) C dX17_orbitsOfWords_50 rfl (by decide) rfl ?_
          refine v_iinc (ls' := [(4, _), (3, _), (0, _), (2, _)]) (y := i4 + (1 : Int32)) C 3 dX17_orbitsOfWords_51 rfl rfl (by decide) rfl ?_
          refine v_goto (tgt := 14) C dX17_orbitsOfWords_54 (by decide) ?_
          refine v_sub (ls' := _) [2, 3, 1, 0] rfl (ih (i3 + x9) (i4 + (1 : Int32)) _ _ _ hf hl J)
        · clear hf
          have hf := hAh10
          have hl := hlh10
          refine v_icmp_ne C hf (tgt := 48) dX17_orbitsOfWords_32 (by decide) (fun c32 hf => ?_) (fun c32 hf => ?_)
          · refine v_iconst (x := 0) C dX17_orbitsOfWords_48 (by decide) ?_
            obtain ⟨e1, rfl⟩ := mret_inv hf
            subst e1
            exact v_sub (ls' := _) [0, 1, 3] rfl Jh10
          · refine v_aload_n C 0 dX17_orbitsOfWords_35 rfl rfl ?_
            refine v_iload C 3 dX17_orbitsOfWords_36 rfl ?_
            refine v_callV (stk := fun b => .int b :: [.int i3]) C (ct_X17_spreads _ a0 i4) rfl ⟨rfl, nd_X17_spreads⟩ rfl (Nat.le_of_ble_eq_true rfl) (Nat.le_of_ble_eq_true rfl) [.int i3] (Nat.le_of_ble_eq_true rfl) (fun _ => rfl) rfl q2214 q2216 qs88 q127 q2217 hf hl dX17_orbitsOfWords_38 (fun x11 h12 hf => ?_)
            refine v_if_le C hf (tgt := 48) dX17_orbitsOfWords_41 (by decide) (fun c41 hf => ?_) (fun c41 hf => ?_)
            · refine v_iconst (x := 0) C dX17_orbitsOfWords_48 (by decide) ?_
              obtain ⟨e1, rfl⟩ := mret_inv hf
              subst e1
              exact v_sub (ls' := _) [0, 1, 3] rfl Jh10
            · refine v_iconst (x := 1) C dX17_orbitsOfWords_44 (by decide) ?_
              refine v_goto (tgt := 49) C dX17_orbitsOfWords_45 (by decide) ?_
              obtain ⟨e1, rfl⟩ := mret_inv hf
              subst e1
              exact v_sub (ls' := _) [0, 1, 3] rfl Jh10
  unfold f_X17_orbitsOfWords at hf
  refine v_aload_n C 0 dX17_orbitsOfWords_0 rfl rfl ?_
  refine v_iload_n C 1 dX17_orbitsOfWords_1 rfl rfl ?_
  refine v_callV (stk := fun _ => []) C (ct_X17_imagesOf _ a0 i1) rfl ⟨rfl, nd_X17_imagesOf⟩ rfl (Nat.le_of_ble_eq_true rfl) (Nat.le_of_ble_eq_true rfl) [] (Nat.le_of_ble_eq_true rfl) (fun _ => rfl) rfl q2210 q2212 qs87 q127 q2213 hf hl dX17_orbitsOfWords_2 (fun x1 h2 hf => ?_)
  refine v_aload_n C 0 dX17_orbitsOfWords_5 rfl rfl ?_
  refine v_callV (stk := fun _ => []) C (ct_X17_unmarks _ a0) rfl ⟨rfl, nd_X17_unmarks⟩ rfl (Nat.le_of_ble_eq_true rfl) (Nat.le_of_ble_eq_true rfl) [] (Nat.le_of_ble_eq_true rfl) (fun _ => rfl) rfl q2191 q2193 qs83 q127 q2194 hf hl dX17_orbitsOfWords_6 (fun x3 h4 hf => ?_)
  refine v_iconst (x := 0) C dX17_orbitsOfWords_9 (by decide) ?_
  refine v_istore_n (ls' := [(3, _), (0, _), (1, _), (2, _)]) C dX17_orbitsOfWords_10 rfl (by decide) rfl ?_
  refine v_iconst (x := 0) C dX17_orbitsOfWords_11 (by decide) ?_
  refine v_istore (ls' := [(4, _), (3, _), (0, _), (1, _), (2, _)]) C dX17_orbitsOfWords_12 (by decide) rfl ?_
  obtain ⟨x13, h14, eh14, hf, hlh14⟩ := mb_inv hf hl
  refine v_sub (ls' := _) [2, 4, 1, 0] rfl (L14 a0 i2 FU (0 : Int32) (0 : Int32) _ _ _ eh14 hlh14 ?_)
  refine v_iload_n C 0 dX17_orbitsOfWords_57 rfl rfl ?_
  exact v_iret C E hf dX17_orbitsOfWords_58
